set_option maxRecDepth 100000
/-! part 99999995: row in the relation -/
theorem zMk_len {sp : List wCell} {b t m : Nat} : (wMake sp b t m).length = sp.length + 1 := by
  show ((sp ++ [Sum.inr (t, m)]).set b _).length = _
  rw [List.length_set, List.length_append]
  rfl
theorem zMk_at {sp : List wCell} {b t m : Nat} (hb : b < sp.length) : (wMake sp b t m)[b]? = some (.inl (5, [(2, sp.length)])) := by
  show ((sp ++ [Sum.inr (t, m)]).set b _)[b]? = _
  exact List.getElem?_set_self (by rw [List.length_append]; exact Nat.lt_of_lt_of_le hb (Nat.le_add_right _ _))
theorem zMk_o {sp : List wCell} {b t m i : Nat} (hi : i ≠ b) (hl : i < sp.length) : (wMake sp b t m)[i]? = sp[i]? := by
  show ((sp ++ [Sum.inr (t, m)]).set b _)[i]? = _
  rw [List.getElem?_set_ne (fun e => hi e.symm), List.getElem?_append_left hl]
theorem zMk_n {sp : List wCell} {b t m : Nat} (hb : b < sp.length) : (wMake sp b t m)[sp.length]? = some (.inr (t, m)) := by
  show ((sp ++ [Sum.inr (t, m)]).set b _)[sp.length]? = _
  rw [List.getElem?_set_ne (by omega), List.getElem?_append_right (Nat.le_refl _), Nat.sub_self]
  rfl
theorem zMk_shp {ca : wCA} {n : Nat} {sp : List wCell} (Sh : zShp ca (n + 1) sp) {b t m : Nat} (hb : 24 ≤ b) (ht : t ≤ 4) : zShp ca n (wMake sp b t m) := by
  obtain ⟨h1, h2, h3, h4, h5, h6⟩ := Sh
  refine ⟨by rw [zMk_len]; omega, by rw [zMk_len]; omega, ?_, fun t' m' hm h => ?_, ?_, h6⟩
  · exact (h3.add (n := m) ht).set (fun f hf he => by
      rw [List.mem_singleton.mp hf]
      rw [List.length_append]
      exact Nat.lt_succ_self _)
  · rcases List.mem_or_eq_of_mem_set hm with q | q
    · rcases List.mem_append.mp q with q | q
      · exact h4 t' m' q h
      · have e := List.mem_singleton.mp q
        injection e with e
        injection e with e1 e2
        omega
    · cases q
  · rw [zMk_o (by omega) (by omega)]
    exact h5
theorem zMk_hold {sp : List wCell} {b t m : Nat} : zHoldB b sp (wMake sp b t m) := fun i d _ hb h _ => by
  rw [zMk_o hb (List.getElem?_eq_some_iff.mp h).1]
  exact h
theorem zc_56 {aE : Nat} {ad adK adV : Nat → Nat} {fo : Option Nat} {l : Launch} {D : va_G} {ca : wCA} (a1 a2 a3 a4 a5 : Int32) {E : List wCell} {μ μm : wMem} {n : Nat} (W : yBnd) (hl : l.stackTraces = false) (R : zRel ca aE (n + 1) (spX ++ E) μ μm) : ∃ sp1 μ1 μm1, zRel ca aE n sp1 μ1 μm1 ∧ wO_56 (wZa aE ad adK adV fo) l D ca a1 a2 a3 a4 a5 (spX ++ E) μ μm sp1 μ1 μm1 := by
  obtain ⟨_, cs, φ, _, Sh, ⟨O, G, Wf, F, M⟩, T, Q, X, I⟩ := id R
  have l28 := Sh.1
  by_cases g : yIs a1 4 ∧ yIs a2 4 ∧ a3 ≤ (60 : Int32)
  · obtain ⟨g1, g2, g3⟩ := g
    obtain ⟨i, hi, rfl⟩ := zIs (by decide) g1
    have oki : ok_in (nI i) 4 = true := xI_in hi (by decide)
    have ci : (nI i).toNatClampNeg = i := xI_cl (by omega)
    have hb : ∃ f0, (spX ++ E)[24 + (nI i).toNatClampNeg]? = some (.inl (5, [f0])) := by
      rw [ci]
      rcases X.1 i hi with ⟨_, ⟨x0, z2⟩, _⟩ | ⟨_, z2, _⟩
      · exact ⟨_, z2⟩
      · exact ⟨_, z2⟩
    obtain ⟨f0, hb⟩ := hb
    by_cases neg : a3 < 0
    · obtain ⟨v, μ1, μm1, h1, h2, h3, h4⟩ := yqo_row (μ := μ) (μm := μm) g1 g2 neg zN
      exact ⟨_, μ1, μm1, R.same (zFm2.th ⟨O, G, Wf, F, M⟩ h3 (fun c i h => (h4 c i (by omega) (by omega) (by omega)).1)) h3.z h4.z (ySn_km Q h4), woo_56 hl Sh.2.2.2.2 zN oki hb h1 zN h2⟩
    · obtain ⟨w, hw, rfl⟩ := zIs (by decide) g2
      have p0 : 0 ≤ a3.toInt := by
        rw [Int32.lt_iff_toInt_lt, show (0 : Int32).toInt = 0 by decide] at neg
        omega
      have p60 : a3.toInt ≤ 60 := by
        have := Int32.le_iff_toInt_le.mp g3
        rw [show (60 : Int32).toInt = 60 by decide] at this
        exact this
      obtain ⟨m, hm, rfl⟩ := zIs (n := 61) (by decide) ⟨p0, by omega⟩
      have cm : (nI m).toNatClampNeg = m := xI_cl (by omega)
      obtain ⟨h1, νm, h2, h3, h4⟩ := yq_row (μ := μ) (μm := μm) (i := i) (w := w) (n := m) hi hw (by omega) (N := zN) (Nat.le_of_ble_eq_true rfl) (spX ++ E).length
      have hwo := wog_56 (a1 := nI i) (a2 := nI w) (a3 := nI m) (a4 := a4) (a5 := a5) (aE := aE) (ad := ad) (adK := adK) (adV := adV) (fo := fo) (l := l) (D := D) Sh.2.2.2.2 zN (spX ++ E).length oki hb rfl (Sh.2.2.1 _ (Nat.le_refl _)) h1 zN h2
      rw [ci, cm, wKind_nI hw] at hwo
      have kt : ∀ c j, c ≠ 0 → c ≠ 1 → c ≠ 2 → νm.1 c j = μm.1 c j := fun c j a b d => by
        rw [h3, yS_get, if_neg (fun z => d z.1), yS_get, if_neg (fun z => b z.1), yS_get, if_neg (fun z => a z.1)]
      have k0 : ∀ j, j ≠ 0 → νm.1 0 j = μm.1 0 j := fun j a => by
        rw [h3, yS_get, if_neg (by omega), yS_get, if_neg (by omega), yS_get, if_neg (by omega)]
      have v1 : νm.1 1 i = nI w := by rw [h3, yS_get, if_neg (by omega), yS_get, if_pos ⟨rfl, rfl⟩]
      have v2 : νm.1 2 i = nI m := by rw [h3, yS_get, if_pos ⟨rfl, rfl⟩]
      have v1' : ∀ j, j ≠ i → νm.1 1 j = μm.1 1 j := fun j a => by rw [h3, yS_get, if_neg (by omega), yS_get, if_neg (by omega), yS_get, if_neg (by omega)]
      have v2' : ∀ j, j ≠ i → νm.1 2 j = μm.1 2 j := fun j a => by rw [h3, yS_get, if_neg (by omega), yS_get, if_neg (by omega), yS_get, if_neg (by omega)]
      have kc : ∀ c, c < (spX ++ E).length → (wZ μ (spX ++ E).length).1 c = μ.1 c ∧ (wZ μ (spX ++ E).length).2 c = μ.2 c := fun c hc => yZ_o μ (by omega)
      refine ⟨_, _, _, ⟨_, fun j => if j = i then (spX ++ E).length else cs j, φ, wMake_X (by omega), zMk_shp Sh (by omega) (by rcases yKd_row w with q | q | q | q <;> omega), ⟨O, G, Wf, yKC2.fam F (fun c h1 h2 => (kc c (by omega)).1), yFM_of M fun c h1 h2 j => kt c j (by omega) (by omega) (by omega)⟩, ?_, ySn_of Q fun c j hc => ?_, ⟨fun j hj => ?_, fun j k hj hk hjk hne => ?_⟩, ?_⟩, hwo⟩
      · obtain ⟨⟨t, n6, t1, t2, t3, t4⟩, u1, u2⟩ := T
        exact ⟨⟨t, n6, by rw [(kc 0 (by omega)).1]; exact t1, by rw [k0 6 (by omega)]; exact t2, fun j hj => by rw [(kc 8 (by omega)).1, kt 5 j (by omega) (by omega) (by omega)]; exact t3 j hj, fun j hj => by rw [(kc 8 (by omega)).1]; exact t4 j hj⟩, by rw [(kc 0 (by omega)).1, k0 14 (by omega)]; exact u1, by rw [(kc 0 (by omega)).1, k0 15 (by omega)]; exact u2⟩
      · rcases hc with q | q | q
        · exact kt c j (by omega) (by omega) (by omega)
        · exact kt c j (by omega) (by omega) (by omega)
        · rw [q.1]
          exact k0 j (by omega)
      · by_cases q : j = i
        · subst q
          dsimp only
          rw [if_pos rfl]
          refine .inr ⟨by omega, zMk_at (by omega), w, m, hw, zMk_n (by omega), v1, ⟨by omega, hj, by omega, fun k hk => ?_, v2, by rw [v1]; exact zW_ne hw⟩, fun k hk => ?_⟩
          · rw [h4, if_pos (by omega)]
            unfold wAt
            rw [yZ_get, if_pos rfl, yZ_get2, if_pos rfl]
            by_cases e : yKd w = 1
            · rw [if_pos e]
            · rw [if_neg e]; rfl
          · rw [yZ_get, if_pos rfl]
            exact ⟨fun _ => by decide, fun _ => by decide⟩
        · dsimp only
          rw [if_neg q]
          exact (X.1 j hj).grow (fun h => by omega) (by omega) zMk_hold (fun h1 h2 => kc _ h2) (v1' j q) (v2' j q) (fun k hk => by rw [h4, if_neg (by omega)])
      · by_cases q : j = i
        · have q2 : ¬ k = i := fun e => hjk (q.trans e.symm)
          dsimp only
          rw [if_pos q, if_neg q2]
          rcases X.1 k hk with ⟨z1, _⟩ | ⟨_, _, w', n', _, z4, _⟩
          · rw [z1]; omega
          · have := (List.getElem?_eq_some_iff.mp z4).1
            omega
        · dsimp only at hne ⊢
          rw [if_neg q] at hne ⊢
          by_cases q2 : k = i
          · rw [if_pos q2]
            rcases X.1 j hj with ⟨z1, _⟩ | ⟨_, _, w', n', _, z4, _⟩
            · rw [z1]; omega
            · have := (List.getElem?_eq_some_iff.mp z4).1
              omega
          · rw [if_neg q2]
            exact X.2 j k hj hk hjk hne
      · refine I.grow (by omega : 24 + i < 28) (by omega) zMk_hold (fun j _ => ?_) (by rw [(kc 23 (by omega)).1]) (fun c h1 h2 _ => (kc c h2).1) (fun c j h1 h2 _ _ _ _ _ _ => kt c j (by omega) (by omega) (by omega))
        by_cases q : j = i
        · right
          show (spX ++ E).length ≤ if j = i then (spX ++ E).length else cs j
          rw [if_pos q]
          exact Nat.le_refl _
        · left
          exact if_neg q
  · obtain ⟨v, μ1, μm1, h1, h2, h3, h4⟩ := yqb_row (μ := μ) (μm := μm) a1 a2 a3 g zN
    exact ⟨_, μ1, μm1, R.same (zFm2.th ⟨O, G, Wf, F, M⟩ h3 (fun c i h => (h4 c i (by omega) (by omega) (by omega)).1)) h3.z h4.z (ySn_km Q h4), wob_56 zN h1 zN h2⟩
