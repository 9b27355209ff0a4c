set_option maxRecDepth 100000
/-! part 9999994: a person is read -/
/-- how a step ends: in step, both failed, or the component failed and the twin is yet to -/
def zOut3 (b : Nat → Int32) (n r f x m : Nat) (μ μm : wMem) (o : wRes Unit) (om : Option wMem) (P : (Nat → Nat → Nat) → Prop) : Prop :=
  zOut b n r f x m μ μm o om P ∨
  (∃ t1 μ1 μm1 fr1, o = some (.inr (nI 1, t1, μ1)) ∧ t1 < 5 ∧ t1 ≠ 3 ∧ μ1.1 r 3 = nI fr1 ∧ om = some μm1 ∧ μm1.1 0 12 = 0 ∧ μm1.1 0 8 = nI t1 ∧ μm1.1 0 9 = nI fr1 ∧ zKr r f x μ μ1 ∧ zKm μm μm1)
def zOutL (b : Nat → Int32) (n r f x m t : Nat) (φ : Nat → Nat → Nat) (μ μm : wMem) (o : wRes Unit) (om : (wMem → Option wMem) → Option wMem) : Prop :=
  (∃ μ1 μm1 p1 fr1 ch st, o = some (.inl ((), 3, μ1)) ∧ (∀ K, om K = K μm1) ∧ zSy b n r μ1 μm1 3 p1 fr1 ∧ μm1.1 0 12 = 0 ∧ zFa (zKid φ ch st) f x μ1 μm1 ∧ zLr r f μ μ1 ∧ zLm μm μm1 ∧ zM n 3 p1 ≤ m) ∨
  (∃ t1 μ1 μm1 fr1, o = some (.inr (nI 1, t1, μ1)) ∧ μ1.1 r 3 = nI fr1 ∧ (∀ K, om K = some μm1) ∧ zBad 1 fr1 μm1 ∧ zLr r f μ μ1 ∧ zLm μm μm1) ∨
  (∃ t1 μ1 μm1 fr1, o = some (.inr (nI 1, t1, μ1)) ∧ t1 < 5 ∧ t1 ≠ 3 ∧ μ1.1 r 3 = nI fr1 ∧ (∀ K, om K = K μm1) ∧ μm1.1 0 12 = 0 ∧ μm1.1 0 8 = nI t1 ∧ μm1.1 0 9 = nI fr1 ∧ zLr r f μ μ1 ∧ zLm μm μm1)
theorem zOutL.step {b : Nat → Int32} {n r f x m m1 t t1 : Nat} {φ ψ : Nat → Nat → Nat} {μ μm μ1 μm1 : wMem} {o : wRes Unit} {om : (wMem → Option wMem) → Option wMem} (h : zOutL b n r f x m1 t1 ψ μ1 μm1 o om) (hp : ∀ a c, zKid ψ a c = zKid φ a c) (hm : m1 ≤ m) (k : zLr r f μ μ1) (l : zLm μm μm1) : zOutL b n r f x m t φ μ μm o om := by
  rcases h with ⟨a1, a2, a3, a4, a5, a6, b1, b2, b3, b4, b5, b6, b7, b8⟩ | ⟨a1, a2, a3, a4, b1, b2, b3, b4, b5, b6⟩ | ⟨a1, a2, a3, a4, b1, b2, b3, b4, b5, b6, b7, b8, b9, b10⟩
  · exact .inl ⟨a1, a2, a3, a4, a5, a6, b1, b2, b3, b4, by rw [← hp]; exact b5, k.trans b6, l.trans b7, Nat.le_trans b8 hm⟩
  · exact .inr (.inl ⟨a1, a2, a3, a4, b1, b2, b3, b4, k.trans b5, l.trans b6⟩)
  · exact .inr (.inr ⟨a1, a2, a3, a4, b1, b2, b3, b4, b5, b6, b7, b8, k.trans b9, l.trans b10⟩)
theorem zm_good {μm : wMem} (h12 : μm.1 0 12 = 0) (N : Nat) : fX6_isGood N μm = some (1, μm) := by
  unfold fX6_isGood
  rw [if_pos h12]
theorem zm_good_no {μm : wMem} (h12 : ¬ μm.1 0 12 = 0) (N : Nat) : fX6_isGood N μm = some (0, μm) := by
  unfold fX6_isGood
  rw [if_neg h12]
theorem zm_is_1 {μm : wMem} {h : Int64} {N : Nat} (e : fX6_is N h μm = some (1, μm)) : μm.2 0 11 = h := by
  unfold fX6_is at e
  by_cases g : μm.1 0 12 = 0
  · rw [if_pos g] at e
    by_cases g2 : μm.1 0 8 = (1 : Int32)
    · rw [if_pos g2] at e
      by_cases g3 : μm.2 0 11 = h
      · exact g3
      · rw [if_neg g3] at e
        exact absurd (Prod.mk.inj (Option.some.inj e)).1 (by decide)
    · rw [if_neg g2] at e
      exact absurd (Prod.mk.inj (Option.some.inj e)).1 (by decide)
  · rw [if_neg g] at e
    exact absurd (Prod.mk.inj (Option.some.inj e)).1 (by decide)
theorem zPwd_no {N r f t k : Nat} {μ : wMem} {cont : Nat → wMem → wRes Unit} (h : wHs (μ.1 f 5) (nI k) = 0 → wTakes wLen wByt N r t 7 μ = some (0, t, μ)) : wPwd wLen wByt N r f (nI k) cont t μ = some (.inr (nI 1, t, μ)) := by
  unfold wPwd
  by_cases g : wHs (μ.1 f 5) (nI k) = 0
  · rw [if_pos g, h g]
    rfl
  · rw [if_neg g]
    rfl
theorem z_pl {b : Nat → Int32} {n r f x k : Nat} (hr : 21 < r) (hf : r < f) (hx : x = f + 1) (hk : k < 6) {N : Nat} (hN : 2000 ≤ N) : ∀ (m M M2 t p fr : Nat) (φ : Nat → Nat → Nat) (μ μm : wMem), zM n t p ≤ m → m < M → m < M2 → zSy b n r μ μm t p fr → μm.1 0 12 = 0 → zFa φ f x μ μm →
    zOutL b n r f x m t φ μ μm (wPl wLen wByt N r f (nI k) M t μ) (fun K => gX6_personLine_44 N (nI k) K M2 μm) := by
  intro m
  induction m using Nat.strongRecOn with
  | ind m ih =>
    intro M M2 t p fr φ μ μm hm hM hM2 S h12 A
    obtain ⟨M, rfl⟩ : ∃ q, M = q + 1 := ⟨M - 1, by omega⟩
    obtain ⟨M2, rfl⟩ : ∃ q, M2 = q + 1 := ⟨M2 - 1, by omega⟩
    have t5 := S.2.2.2.2.1
    have c3 := S.2.2.2.2.2.2.2.1
    have c9 := S.2.2.2.2.2.2.2.2.1
    have c8 := S.2.2.2.2.2.2.2.2.2.1
    have e1 : (nI t = (1 : Int32)) = (t = 1) := xI_eq (b := 1) (by omega) (by decide)
    have O := A.2.2.1
    have h4 : μ.1 f 4 = nI (φ 0 4) := A.1.1 4 (by decide)
    have h5 : μ.1 f 5 = nI (φ 0 5) := A.1.1 5 (by decide)
    have m4 : μm.1 7 32 = nI (φ 0 4) := A.2.1.1.2.2.2.2.1
    have m5 : μm.1 7 33 = nI (φ 0 5) := A.2.1.1.2.2.2.2.2.1
    obtain ⟨s4, b4, o4, l4⟩ := zHs O.children hk
    obtain ⟨s5, b5, o5, l5⟩ := zHs O.stay hk
    have g4 : fX6_hasRead N 4 μm = some (μm.1 7 32, μm) := zm_has (j := 4) (by decide) N μm
    have g5 : fX6_hasRead N 5 μm = some (μm.1 7 33, μm) := zm_has (j := 5) (by decide) N μm
    by_cases t3 : t = 3
    · subst t3
      left
      refine ⟨μ, μm, p, fr, φ 0 4, φ 0 5, ?_, fun K => ?_, S, h12, by rw [zKid_id]; exact A, zLr.rfl' r f μ, zLm.rfl' μm, hm⟩
      · unfold wPl
        rw [if_pos rfl]
      · show gbX6_personLine_44 N (nI k) K _ μm = _
        unfold gbX6_personLine_44
        rw [zm_good h12, yBd, if_neg (by decide), c8, if_neg (by decide)]
    · by_cases t1 : t = 1
      · subst t1
        -- a word
        have tw : ∀ K : wMem → Option wMem, ∀ v21 : Int32, fX6_is N 1758676 μm = some (v21, μm) → gX6_personLine_44 N (nI k) K (M2 + 1) μm = (fun (v23 : Int32) => (fun (J108 : wMem → Option wMem) => (fun (J103 : wMem → Option wMem) => (fun (J91 : wMem → Option wMem) => if v21 = 0 then wBind (fX6_is N 10492462 μm) fun v47 μ46 => if v47 = 0 then J103 μ46 else J91 μ46 else J91 μm) (fun (μ36 : wMem) => wBind (fX6_hasRead N v23 μ36) fun v39 μ38 => wBind (fX6_isBit N v39 (nI k) μ38) fun v42 μ41 => if v42 = 0 then J108 μ41 else J103 μ41)) (fun (μ33 : wMem) => wBindV (fX6_fails N 1 μ33) fun μ35 => J108 μ35)) (fun (μ24 : wMem) => if (μ24.1 0 12) = 0 then wBindV (fX6_next N μ24) fun μ27 => wBind (fX6_hasRead N v23 μ27) fun v30 μ29 => wBindV (fX6_tells N v23 (v30 ||| ((1 : Int32) <<< (nI k &&& 31))) μ29) fun μ32 => gX6_personLine_44 N (nI k) K M2 μ32 else some μ24)) (if v21 = 0 then 5 else 4) := fun K v21 hv => by
          show gbX6_personLine_44 N (nI k) K _ μm = _
          unfold gbX6_personLine_44
          rw [zm_good h12, yBd, if_neg (by decide), c8, if_pos (show nI 1 = (1 : Int32) from rfl), hv, yBd, yWL]
          by_cases g : v21 = 0
          · rw [if_pos g, if_pos g]
            rfl
          · rw [if_neg g, if_neg g]
            rfl
        obtain ⟨ν, f1, f2, f3, _⟩ := zm_fails h12 c9 (k := 1) (by decide) N
        have f1' : fX6_fails N 1 μm = some ν := f1
        have dead : ∀ K : wMem → Option wMem, (fun (J108 : wMem → Option wMem) => wBindV (fX6_fails N 1 μm) fun μ35 => J108 μ35) (fun (μ24 : wMem) => if (μ24.1 0 12) = 0 then K μ24 else some μ24) = some ν := fun K => by
          show wBindV (fX6_fails N 1 μm) _ = _
          rw [f1', yBV]
          exact if_neg f2.ne
        rcases z_takes S h12 (w := 6) (by decide) hN with ⟨_, ct, ci, _⟩ | ⟨u, μ1, μm1, p1, fr1, _, ct, ci, _, cn, S1, q1, F1, G1, lt1, _⟩
        · -- no child
          have ci' : fX6_is N 1758676 μm = some (0, μm) := ci
          have pl : ∀ z, wPwd wLen wByt N r f (nI k) (wPl wLen wByt N r f (nI k) M) 1 μ = z → wPl wLen wByt N r f (nI k) (M + 1) 1 μ = z := fun z hz => by
            unfold wPl
            rw [if_neg (by decide)]
            by_cases g : wHs (μ.1 f 4) (nI k) = 0
            · rw [if_pos g, ct]
              exact hz
            · rw [if_neg g]
              exact hz
          rcases z_takes S h12 (w := 7) (by decide) hN with ⟨_, dt, di, _⟩ | ⟨u, μ1, μm1, p1, fr1, _, dt, di, _, dn, S1, q1, F1, G1, lt1, _⟩
          · have di' : fX6_is N 10492462 μm = some (0, μm) := di
            refine .inr (.inl ⟨1, μ, ν, fr, pl _ (zPwd_no fun _ => dt), c3, fun K => ?_, f2, zLr.rfl' r f μ, f3.l⟩)
            refine (tw K 0 ci').trans ?_
            rw [if_pos rfl]
            dsimp only
            rw [if_pos rfl, di', yBd, if_pos rfl]
            exact dead _
          · have di' : fX6_is N 10492462 μm = some (1, μm) := di
            by_cases q : φ 0 5 / 2 ^ k % 2 = 1
            · rw [if_pos q] at s5
              refine .inr (.inl ⟨1, μ, ν, fr, pl _ (zPwd_no fun z => absurd z (by rw [h5, s5]; decide)), c3, fun K => ?_, f2, zLr.rfl' r f μ, f3.l⟩)
              refine (tw K 0 ci').trans ?_
              rw [if_pos rfl]
              dsimp only
              rw [if_pos rfl, di', yBd, if_neg (by decide), g5, yBd, m5, b5, yBd, if_pos q, if_neg (by decide)]
              exact dead _
            · rw [if_neg q] at s5
              have A1 := zFa_fr A hf (by omega) F1 G1.b
              have w4 : μ1.1 f 4 = nI (φ 0 4) := A1.1.1 4 (by decide)
              have w5 : μ1.1 f 5 = nI (φ 0 5) := A1.1.1 5 (by decide)
              have n4 : μm1.1 7 32 = nI (φ 0 4) := A1.2.1.1.2.2.2.2.1
              have n5 : μm1.1 7 33 = nI (φ 0 5) := A1.2.1.1.2.2.2.2.2.1
              have A2 := zFa_kid (ν := wSI μ1 f 5 (nI (φ 0 5 ||| 2 ^ k))) (νm := wSI μm1 7 33 (nI (φ 0 5 ||| 2 ^ k))) A1 (ch := φ 0 4) (st := φ 0 5 ||| 2 ^ k) O.children l5 hx (fun c i h1 h2 => by rw [yS_get, if_neg (fun z => (h2 z.1).2 z.2)]) (by rw [yS_get, if_neg (by omega)]; exact w4) (by rw [yS_get, if_pos ⟨rfl, rfl⟩]) (fun c i h1 h2 => by rw [yS_get, if_neg (fun z => (h2 z.1).2 z.2)]) (by rw [yS_get, if_neg (by omega)]; exact n4) (by rw [yS_get, if_pos ⟨rfl, rfl⟩])
              have S2 := S1.w (ν := wSI μ1 f 5 (nI (φ 0 5 ||| 2 ^ k))) (νm := wSI μm1 7 33 (nI (φ 0 5 ||| 2 ^ k))) (zS_row _ (by omega) _ _) (zS_row _ (by omega) _ _) (zS_row _ (by decide) _ _) (zS_row _ (by decide) _ _) rfl
              have q2 : (wSI μm1 7 33 (nI (φ 0 5 ||| 2 ^ k))).1 0 12 = 0 := by rw [yS_get, if_neg (by omega)]; exact q1
              have I := ih (zM n u p1) (by omega) M M2 u p1 fr1 _ _ _ (Nat.le_refl _) (by omega) (by omega) S2 q2 A2
              have I2 := I.step (φ := φ) (t := 1) (fun a c => zKid_two φ _ _ a c) (by omega : zM n u p1 ≤ m) (F1.l.trans (zLr_w r f μ1 (.inr rfl) _)) (G1.b.l.trans (zLm_w μm1 (.inr rfl) _))
              have ec : wPl wLen wByt N r f (nI k) (M + 1) 1 μ = wPl wLen wByt N r f (nI k) M u (wSI μ1 f 5 (nI (φ 0 5 ||| 2 ^ k))) := pl _ (by
                unfold wPwd
                rw [h5, s5, if_pos rfl, dt]
                show (if (1 : Int32) = 0 then some (Sum.inr (1, u, μ1)) else wPl wLen wByt N r f (nI k) M u (wSI μ1 f 5 (μ1.1 f 5 ||| (1 <<< (nI k &&& 31))))) = _
                rw [if_neg (by decide), w5, o5])
              have et : (fun K => gX6_personLine_44 N (nI k) K (M2 + 1) μm) = (fun K => gX6_personLine_44 N (nI k) K M2 (wSI μm1 7 33 (nI (φ 0 5 ||| 2 ^ k)))) := funext fun K => by
                have g5' : fX6_hasRead N 5 μm1 = some (μm1.1 7 33, μm1) := zm_has (j := 5) (by decide) N μm1
                have e2 : ∀ (w : Int32) (σ : wMem), fX6_tells N 5 w σ = some (wSI σ 7 33 w) := fun w σ => zm_tells (j := 5) (by decide) w N σ
                refine (tw K 0 ci').trans ?_
                rw [if_pos rfl]
                dsimp only
                rw [if_pos rfl, di', yBd, if_neg (by decide), g5, yBd, m5, b5, yBd, if_neg q, if_pos rfl, if_pos h12, dn, yBV, g5', yBd, e2, yBV, n5, o5]
              rw [ec, et]
              exact I2
        · -- a child
          have ci' : fX6_is N 1758676 μm = some (1, μm) := ci
          by_cases q : φ 0 4 / 2 ^ k % 2 = 1
          · rw [if_pos q] at s4
            have nd : wTakes wLen wByt N r 1 7 μ = some (0, 1, μ) := by
              rcases z_takes S h12 (w := 7) (by decide) hN with ⟨_, dt, _, _⟩ | ⟨u, μ1, μm1, p1, fr1, _, _, di, _⟩
              · exact dt
              · have a1 := zm_is_1 ci
                have a2 := zm_is_1 di
                rw [a1] at a2
                exact absurd a2 (by decide)
            refine .inr (.inl ⟨1, μ, ν, fr, ?_, c3, fun K => ?_, f2, zLr.rfl' r f μ, f3.l⟩)
            · unfold wPl
              rw [if_neg (by decide), h4, s4, if_neg (by decide)]
              exact zPwd_no fun _ => nd
            · refine (tw K 1 ci').trans ?_
              rw [if_neg (by decide)]
              dsimp only
              rw [if_neg (by decide), g4, yBd, m4, b4, yBd, if_pos q, if_neg (by decide)]
              exact dead _
          · rw [if_neg q] at s4
            have A1 := zFa_fr A hf (by omega) F1 G1.b
            have w4 : μ1.1 f 4 = nI (φ 0 4) := A1.1.1 4 (by decide)
            have w5 : μ1.1 f 5 = nI (φ 0 5) := A1.1.1 5 (by decide)
            have n4 : μm1.1 7 32 = nI (φ 0 4) := A1.2.1.1.2.2.2.2.1
            have n5 : μm1.1 7 33 = nI (φ 0 5) := A1.2.1.1.2.2.2.2.2.1
            have A2 := zFa_kid (ν := wSI μ1 f 4 (nI (φ 0 4 ||| 2 ^ k))) (νm := wSI μm1 7 32 (nI (φ 0 4 ||| 2 ^ k))) A1 (ch := φ 0 4 ||| 2 ^ k) (st := φ 0 5) l4 O.stay hx (fun c i h1 h2 => by rw [yS_get, if_neg (fun z => (h2 z.1).1 z.2)]) (by rw [yS_get, if_pos ⟨rfl, rfl⟩]) (by rw [yS_get, if_neg (by omega)]; exact w5) (fun c i h1 h2 => by rw [yS_get, if_neg (fun z => (h2 z.1).1 z.2)]) (by rw [yS_get, if_pos ⟨rfl, rfl⟩]) (by rw [yS_get, if_neg (by omega)]; exact n5)
            have S2 := S1.w (ν := wSI μ1 f 4 (nI (φ 0 4 ||| 2 ^ k))) (νm := wSI μm1 7 32 (nI (φ 0 4 ||| 2 ^ k))) (zS_row _ (by omega) _ _) (zS_row _ (by omega) _ _) (zS_row _ (by decide) _ _) (zS_row _ (by decide) _ _) rfl
            have q2 : (wSI μm1 7 32 (nI (φ 0 4 ||| 2 ^ k))).1 0 12 = 0 := by rw [yS_get, if_neg (by omega)]; exact q1
            have I := ih (zM n u p1) (by omega) M M2 u p1 fr1 _ _ _ (Nat.le_refl _) (by omega) (by omega) S2 q2 A2
            have I2 := I.step (φ := φ) (t := 1) (fun a c => zKid_two φ _ _ a c) (by omega : zM n u p1 ≤ m) (F1.l.trans (zLr_w r f μ1 (.inl rfl) _)) (G1.b.l.trans (zLm_w μm1 (.inl rfl) _))
            have ec : wPl wLen wByt N r f (nI k) (M + 1) 1 μ = wPl wLen wByt N r f (nI k) M u (wSI μ1 f 4 (nI (φ 0 4 ||| 2 ^ k))) := by
              rw [wPl, if_neg (by decide), h4, s4, if_pos rfl, ct]
              show (if (1 : Int32) = 0 then wPwd wLen wByt N r f (nI k) (wPl wLen wByt N r f (nI k) M) u μ1 else wPl wLen wByt N r f (nI k) M u (wSI μ1 f 4 (μ1.1 f 4 ||| (1 <<< (nI k &&& 31))))) = _
              rw [if_neg (by decide), w4, o4]
            have et : (fun K => gX6_personLine_44 N (nI k) K (M2 + 1) μm) = (fun K => gX6_personLine_44 N (nI k) K M2 (wSI μm1 7 32 (nI (φ 0 4 ||| 2 ^ k)))) := funext fun K => by
              have g4' : fX6_hasRead N 4 μm1 = some (μm1.1 7 32, μm1) := zm_has (j := 4) (by decide) N μm1
              have e2 : ∀ (w : Int32) (σ : wMem), fX6_tells N 4 w σ = some (wSI σ 7 32 w) := fun w σ => zm_tells (j := 4) (by decide) w N σ
              refine (tw K 1 ci').trans ?_
              rw [if_neg (by decide)]
              dsimp only
              rw [if_neg (by decide), g4, yBd, m4, b4, yBd, if_neg q, if_pos rfl, if_pos h12, cn, yBV, g4', yBd, e2, yBV, n4, o4]
            rw [ec, et]
            exact I2
      · -- no word, no stop
        have n6 : wTakes wLen wByt N r t 6 μ = some (0, t, μ) := by
          rcases z_takes S h12 (w := 6) (by decide) hN with ⟨_, dt, _, _⟩ | ⟨u, μ1, μm1, p1, fr1, _, _, _, _, _, _, _, _, _, _, e⟩
          · exact dt
          · exact absurd e t1
        have n7 : wTakes wLen wByt N r t 7 μ = some (0, t, μ) := by
          rcases z_takes S h12 (w := 7) (by decide) hN with ⟨_, dt, _, _⟩ | ⟨u, μ1, μm1, p1, fr1, _, _, _, _, _, _, _, _, _, _, e⟩
          · exact dt
          · exact absurd e t1
        refine .inr (.inr ⟨t, μ, μm, fr, ?_, t5, t3, c3, fun K => ?_, h12, c8, c9, zLr.rfl' r f μ, zLm.rfl' μm⟩)
        · unfold wPl
          rw [if_neg t3]
          by_cases g : wHs (μ.1 f 4) (nI k) = 0
          · rw [if_pos g, n6]
            exact zPwd_no fun _ => n7
          · rw [if_neg g]
            exact zPwd_no fun _ => n7
        · show gbX6_personLine_44 N (nI k) K _ μm = _
          unfold gbX6_personLine_44
          rw [zm_good h12, yBd, if_neg (by decide), c8, yIf e1, if_neg t1]
