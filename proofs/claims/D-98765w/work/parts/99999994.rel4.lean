set_option maxRecDepth 100000
/-! part 99999994: row, paste in the relation -/
theorem zRel.zero {ca : wCA} {aE n : Nat} {sp : List wCell} {μ μm : wMem} (R : zRel ca aE (n + 1) sp μ μm) : zRel ca aE n sp μ (wSI μm 0 0 0) := by
  obtain ⟨_, cs, φ, _, Sh, F, T, Q, X, I⟩ := id R
  exact R.same (zFm2.th F (yKC.rfl' μ) (fun c i h => (yKM_0 μm 0 c i (by omega) (by omega) (by omega)).1)) (yKC.rfl' μ).z (yKM_0 μm 0).z (ySn_km Q (yKM_0 μm 0))
theorem zKd_inj {w v : Nat} (hw : w < 4) (hv : v < 4) (h : yKd w = yKd v) : w = v := by
  rcases (by omega : w = 0 ∨ w = 1 ∨ w = 2 ∨ w = 3) with q | q | q | q <;> rcases (by omega : v = 0 ∨ v = 1 ∨ v = 2 ∨ v = 3) with p | p | p | p <;> rw [q, p] at h ⊢ <;> exact absurd h (by decide)
theorem zCp_at (m : wMem) (c0 c1 p q s j : Nat) : (wCpy m c0 c1 p q s).1 c1 j = if q ≤ j ∧ j < q + s then m.1 c0 (p + (j - q)) else m.1 c1 j := by
  show (if c1 = c1 then va_cpy (m.1 c0) (m.1 c1) p q s else m.1 c1) j = _
  rw [if_pos rfl]
  rfl
theorem zCpL_at (m : wMem) (c0 c1 p q s j : Nat) : (wCpyL m c0 c1 p q s).2 c1 j = if q ≤ j ∧ j < q + s then m.2 c0 (p + (j - q)) else m.2 c1 j := by
  show (if c1 = c1 then va_cpy (m.2 c0) (m.2 c1) p q s else m.2 c1) j = _
  rw [if_pos rfl]
  rfl
theorem zCpL_o (m : wMem) (c0 a b k : Nat) {c c1 : Nat} (h : c ≠ c1) : (wCpyL m c0 c1 a b k).2 c = m.2 c := by
  unfold wCpyL va_up
  exact if_neg h
/-- the row pasted to, whichever copy it is -/
theorem zPaste {n0 n1 i k p q s c0 c1 t : Nat} {μ μm ν νm : wMem} (Y0 : ySl c0 t n0 i μ μm) (Y1 : ySl c1 t n1 k μ μm) (hp : p + s ≤ n0) (hq : q + s ≤ n1) (e : ∀ j, wAt ν c1 t j = if q ≤ j ∧ j < q + s then wAt μ c0 t (p + (j - q)) else wAt μ c1 t j)
    (e1 : νm.1 = (wSI μm 0 0 0).1) (e2 : ∀ c2 i2, c2 ≠ 4 → νm.2 c2 i2 = if c2 = 3 ∧ 60 * k + q ≤ i2 ∧ i2 < 60 * k + q + s then μm.2 3 (60 * i + p + (i2 - (60 * k + q))) else μm.2 c2 i2) : ySl c1 t n1 k ν νm := by
  obtain ⟨a1, a2, a3, a4, a5, a6⟩ := Y1
  have v : ∀ c j, c ≠ 0 → νm.1 c j = μm.1 c j := fun c j h => by rw [e1, yS_get, if_neg (fun z => h z.1)]
  refine ⟨a1, a2, a3, fun j hj => ?_, by rw [v 2 k (by decide)]; exact a5, by rw [v 1 k (by decide)]; exact a6⟩
  rw [e j, e2 3 (60 * k + j) (by decide)]
  by_cases g : q ≤ j ∧ j < q + s
  · rw [if_pos g, if_pos (by omega), Y0.2.2.2.1 _ (by omega)]
    have h : 60 * i + p + (60 * k + j - (60 * k + q)) = 60 * i + (p + (j - q)) := by omega
    rw [h]
  · rw [if_neg g, if_neg (by omega)]
    exact a4 j hj
theorem zc_58 {aE : Nat} {ad adK adV : Nat → Nat} {fo : Option Nat} {l : Launch} {D : va_G} {ca : wCA} (a1 a2 a3 a4 a5 : Int32) {E : List wCell} {μ μm : wMem} {n : Nat} (W : yBnd) (hl : l.stackTraces = false) (R : zRel ca aE (n + 1) (spX ++ E) μ μm) : ∃ sp1 μ1 μm1, zRel ca aE n sp1 μ1 μm1 ∧ wO_58 (wZa aE ad adK adV fo) l D ca a1 a2 a3 a4 a5 (spX ++ E) μ μm sp1 μ1 μm1 := by
  obtain ⟨_, cs, φ, _, Sh, F, T, Q, X, I⟩ := id R
  have s1 := yc_isSlot a1 zN μ
  have s3 := yc_isSlot a3 zN μ
  by_cases g : yIs a1 4
  · have v1 : ¬ yB (decide (yIs a1 4)) = 0 := by rw [decide_eq_true g]; decide
    by_cases g3 : yIs a3 4
    · have v3 : ¬ yB (decide (yIs a3 4)) = 0 := by rw [decide_eq_true g3]; decide
      obtain ⟨i, hi, rfl⟩ := zIs (by decide) g
      obtain ⟨k, hk, rfl⟩ := zIs (by decide) g3
      have oki : ok_in (nI i) 4 = true := xI_in hi (by decide)
      have okk : ok_in (nI k) 4 = true := xI_in hk (by decide)
      have ci : (nI i).toNatClampNeg = i := xI_cl (by omega)
      have ck : (nI k).toNatClampNeg = k := xI_cl (by omega)
      rcases X.1 i hi with ⟨z1, ⟨x0, z2⟩, z3⟩ | ⟨z1, z2, w, n0, zw, z4, z5, Y0, z6⟩
      · have hm := ym_paste_n (μm := μm) hi hk (.inl z3) a2 a4 a5 zN
        rcases X.1 k hk with ⟨_, ⟨x1, u2⟩, _⟩ | ⟨_, u2, _⟩
        · exact ⟨_, μ, _, R.zero, wopn1_58 hl Sh.2.2.2.2 zN μ μ oki okk s1 v1 s3 v3 (by rw [ci]; exact z2) (.inr rfl) (by rw [ck]; exact u2) zN hm⟩
        · exact ⟨_, μ, _, R.zero, wopn1_58 hl Sh.2.2.2.2 zN μ μ oki okk s1 v1 s3 v3 (by rw [ci]; exact z2) (.inl rfl) (by rw [ck]; exact u2) zN hm⟩
      · rcases X.1 k hk with ⟨_, ⟨x1, u2⟩, u3⟩ | ⟨u1, u2, w', n1, uw, u4, u5, Y1, u6⟩
        · have hm := ym_paste_n (μm := μm) hi hk (.inr u3) a2 a4 a5 zN
          exact ⟨_, μ, _, R.zero, wopn2_58 hl Sh.2.2.2.2 zN μ μ oki okk s1 v1 s3 v3 (by rw [ci]; exact z2) (by rw [ck]; exact u2) zN hm⟩
        · have d1 : μm.1 1 i ≠ -1 := Y0.2.2.2.2.2
          have d3 : μm.1 1 k ≠ -1 := Y1.2.2.2.2.2
          by_cases ew : w = w'
          · subst ew
            have eq : μm.1 1 i = μm.1 1 k := z5.trans u5.symm
            have h60 := Y0.2.2.1
            have k60 := Y1.2.2.1
            by_cases fl : yFl n0 n1 a2 a4 a5
            · obtain ⟨cw, hcw⟩ := yFl_copy fl (wRt (yKd w))
              have hm := ym_paste_fl hi hk d1 d3 eq Y0.2.2.2.2.1 Y1.2.2.2.2.1 h60 k60 a2 a4 a5 fl zN
              exact ⟨_, μ, _, R.zero, wopout_58 hl Sh.2.2.2.2 zN μ μ oki okk s1 v1 s3 v3 (by rw [ci]; exact z2) (by rw [ck]; exact u2) ⟨z4, yKd_row w⟩ ⟨u4, yKd_row w⟩ (by omega) (by omega) hcw zN hm⟩
            · obtain ⟨p, q, s, rfl, rfl, rfl, hp, hq⟩ := yFl_not h60 k60 fl
              obtain ⟨νm, hm, e1, e2⟩ := ym_paste_do hi hk z5 u5 zw Y0.2.2.2.2.1 Y1.2.2.2.2.1 h60 k60 hp hq (N := zN) (Nat.le_of_ble_eq_true rfl)
              have cp : (nI p).toNatClampNeg = p := xI_cl (by omega)
              have cq : (nI q).toNatClampNeg = q := xI_cl (by omega)
              have cm : (nI s).toNatClampNeg = s := xI_cl (by omega)
              have nn : ∀ x : Nat, x < 100 → ¬ nI x < (0 : Int32) := fun x hx => by
                have : (nI x < (0 : Int32)) = (x < 0) := xI_lt (b := 0) (by omega) (by decide)
                rw [this]
                omega
              have hin : ¬ nI p < 0 ∧ ¬ nI q < 0 ∧ ¬ nI s < 0 ∧ (nI p).toNatClampNeg + (nI s).toNatClampNeg ≤ n0 ∧ (nI q).toNatClampNeg + (nI s).toNatClampNeg ≤ n1 := ⟨nn p (by omega), nn q (by omega), nn s (by omega), by rw [cp, cm]; exact hp, by rw [cq, cm]; exact hq⟩
              have kt : ∀ c j, (c = 0 → j ≠ 0) → νm.1 c j = μm.1 c j := fun c j h => by rw [e1, yS_get, if_neg (fun z => h z.1 z.2)]
              have k3 : ∀ j, j < 60 * k ∨ 60 * k + 60 ≤ j → νm.2 3 j = μm.2 3 j := fun j h => by rw [e2 3 j (by decide), if_neg (by omega)]
              have z5' : νm.1 1 k = nI w := by rw [kt 1 k (by omega)]; exact u5
              -- a copy of ints, bytes, shorts
              have small : yKd w ≠ 1 → (∀ x, x < s → zFits w (μ.1 (cs i) (p + x))) → zRel ca aE n (spX ++ E) (wCpy μ (cs i) (cs k) p q s) νm := fun t1 ft => by
                refine zRel.put Sh F T Q X I hk u1 u2 zw u4 z5' (zPaste Y0 Y1 hp hq (fun j => ?_) e1 e2) (fun j hj => ?_) (fun c hc => ⟨yCp_o _ _ _ _ _ hc, rfl⟩) kt k3
                · unfold wAt
                  rw [if_neg t1, if_neg t1, if_neg t1, zCp_at]
                  by_cases g : q ≤ j ∧ j < q + s
                  · rw [if_pos g, if_pos g]
                  · rw [if_neg g, if_neg g]
                · rw [zCp_at]
                  by_cases g : q ≤ j ∧ j < q + s
                  · rw [if_pos g]
                    exact ft (j - q) (by omega)
                  · rw [if_neg g]
                    exact u6 j hj
              have ft0 : ∀ x, x < s → zFits w (μ.1 (cs i) (p + x)) := fun x hx => z6 _ (by omega)
              rcases (by omega : w = 0 ∨ w = 1 ∨ w = 2 ∨ w = 3) with rfl | rfl | rfl | rfl
              · have hw := wopb_58 (a1 := nI i) (a3 := nI k) (aE := aE) (ad := ad) (adK := adK) (adV := adV) (fo := fo) (D := D) hl Sh.2.2.2.2 zN μ μ oki okk s1 v1 s3 v3 (by rw [ci]; exact z2) (by rw [ck]; exact u2) z4 u4 (fun x hx => by rw [cm] at hx; rw [cp]; exact (ft0 x hx).1 rfl) hin zN hm
                rw [cp, cq, cm] at hw
                exact ⟨_, _, _, small (by decide) ft0, hw⟩
              · have hw := wops_58 (a1 := nI i) (a3 := nI k) (aE := aE) (ad := ad) (adK := adK) (adV := adV) (fo := fo) (D := D) hl Sh.2.2.2.2 zN μ μ oki okk s1 v1 s3 v3 (by rw [ci]; exact z2) (by rw [ck]; exact u2) z4 u4 (fun x hx => by rw [cm] at hx; rw [cp]; exact (ft0 x hx).2 rfl) hin zN hm
                rw [cp, cq, cm] at hw
                exact ⟨_, _, _, small (by decide) ft0, hw⟩
              · have hw := wopi_58 (a1 := nI i) (a3 := nI k) (aE := aE) (ad := ad) (adK := adK) (adV := adV) (fo := fo) (D := D) hl Sh.2.2.2.2 zN μ μ oki okk s1 v1 s3 v3 (by rw [ci]; exact z2) (by rw [ck]; exact u2) z4 u4 hin zN hm
                rw [cp, cq, cm] at hw
                exact ⟨_, _, _, small (by decide) ft0, hw⟩
              · have hw := wopl_58 (a1 := nI i) (a3 := nI k) (aE := aE) (ad := ad) (adK := adK) (adV := adV) (fo := fo) (D := D) hl Sh.2.2.2.2 zN μ μ oki okk s1 v1 s3 v3 (by rw [ci]; exact z2) (by rw [ck]; exact u2) z4 u4 hin zN hm
                rw [cp, cq, cm] at hw
                refine ⟨_, _, _, zRel.put (ν := wCpyL μ (cs i) (cs k) p q s) (νm := νm) Sh F T Q X I hk u1 u2 zw u4 z5' (zPaste Y0 Y1 hp hq (fun j => ?_) e1 e2) (fun j hj => u6 j hj) (fun c hc => ⟨rfl, zCpL_o _ _ _ _ _ hc⟩) kt k3, hw⟩
                have y3 : yKd 3 = 1 := rfl
                unfold wAt
                rw [if_pos y3, if_pos y3, if_pos y3, zCpL_at]
          · have ne : μm.1 1 i ≠ μm.1 1 k := fun h => by
              rw [z5, u5] at h
              have : (nI w = nI w') = (w = w') := xI_eq (by omega) (by omega)
              rw [this] at h
              exact ew h
            have hm := ym_paste_ty hi hk d1 d3 ne a2 a4 a5 zN
            exact ⟨_, μ, _, R.zero, wopty_58 hl Sh.2.2.2.2 zN μ μ oki okk s1 v1 s3 v3 (by rw [ci]; exact z2) (by rw [ck]; exact u2) ⟨z4, yKd_row w⟩ ⟨u4, yKd_row w'⟩ (fun h => ew (zKd_inj zw uw h)) zN hm⟩
    · have v3 : yB (decide (yIs a3 4)) = 0 := by rw [decide_eq_false g3]; rfl
      exact ⟨_, μ, _, R.zero, wopb2_58 zN μ μ s1 v1 s3 v3 zN (ym_paste_b a1 a2 a3 a4 a5 (fun h => g3 h.2) zN)⟩
  · have v1 : yB (decide (yIs a1 4)) = 0 := by rw [decide_eq_false g]; rfl
    exact ⟨_, μ, _, R.zero, wopb1_58 (v3 := 0) zN μ μ s1 v1 zN (ym_paste_b a1 a2 a3 a4 a5 (fun h => g h.1) zN)⟩
