set_option maxRecDepth 100000
/-! part 99981: the component's ways forward -/
def yMn (l : List Nat) : Nat := l.foldl min 1000000000
theorem yMn_le : ∀ (l : List Nat) (a : Nat), l.foldl min a ≤ a
  | [], _ => Nat.le_refl _
  | x :: l, a => Nat.le_trans (yMn_le l (min a x)) (Nat.min_le_left _ _)
theorem yMn_mv (ρ : Nat) : ∀ (l : List Nat) (a y : Nat), (l.map (· + ρ)).foldl min (min a (y + ρ)) = min a (l.foldl min y + ρ)
  | [], _, _ => rfl
  | x :: l, a, y => by
    show (l.map (· + ρ)).foldl min (min (min a (y + ρ)) (x + ρ)) = min a (l.foldl min (min y x) + ρ)
    rw [← yMn_mv ρ l a (min y x)]
    congr 1
    omega
theorem yMn_app {L : List Nat} (hL : L ≠ []) (b : ∀ r, r ∈ L → r ≤ 1000000000) (l : List Nat) (ρ : Nat) : yMn (l ++ L.map (· + ρ)) = min (yMn l) (yMn L + ρ) := by
  cases L with
  | nil => exact absurd rfl hL
  | cons x L =>
    unfold yMn
    rw [List.foldl_append]
    show (L.map (· + ρ)).foldl min (min (l.foldl min 1000000000) (x + ρ)) = min _ (L.foldl min (min 1000000000 x) + ρ)
    have := b x (List.mem_cons_self)
    rw [yMn_mv, Nat.min_eq_right this]
/-- the arrays hold the walks: how many there are, the least risk -/
def yWy (G : Nat → Nat → List Nat) (ν : wMem) : Prop := ∀ j κ, j ≤ 12 → κ < 3136 → ν.2 15 (3136 * j + κ) = lN (G j κ).length ∧ ν.1 16 (3136 * j + κ) = nI (yMn (G j κ))
def yGu (G : Nat → Nat → List Nat) (i : Nat) (H : Nat → List Nat) : Nat → Nat → List Nat := fun j => if j = i then H else G j
theorem yGu_s (G : Nat → Nat → List Nat) (i : Nat) (H : Nat → List Nat) : yGu G i H i = H := if_pos rfl
theorem yGu_o (G : Nat → Nat → List Nat) {i j : Nat} (H : Nat → List Nat) (h : j ≠ i) : yGu G i H j = G j := if_neg h
/-- all but the ways, their least risks and the state is as it was -/
def yKe (μ ν : wMem) : Prop := (∀ c i, c ≠ 16 → c ≠ 9 → (c = 0 → i ≠ 5 ∧ i ≠ 6 ∧ i ≠ 7) → ν.1 c i = μ.1 c i) ∧ ∀ c i, c ≠ 15 → ν.2 c i = μ.2 c i
theorem yKe.rfl' (μ : wMem) : yKe μ μ := ⟨fun _ _ _ _ _ => rfl, fun _ _ _ => rfl⟩
theorem yKe.trans {μ ν ρ : wMem} (h : yKe μ ν) (g : yKe ν ρ) : yKe μ ρ := ⟨fun c i a b d => (g.1 c i a b d).trans (h.1 c i a b d), fun c i a => (g.2 c i a).trans (h.2 c i a)⟩
theorem yKe.kc {μ ν : wMem} (h : yKe μ ν) : yKC μ ν := fun c i a b => ⟨h.1 c i (by omega) (by omega) (by omega), h.2 c i (by omega)⟩
theorem yWy_up {G : Nat → Nat → List Nat} {ν : wMem} (Y : yWy G ν) {i κ : Nat} (hi : i ≤ 12) (hκ : κ < 3136) (l : List Nat) {v : Int64} {x : Int32} (hv : v = lN (G i κ ++ l).length) (hx : x = nI (yMn (G i κ ++ l))) : yWy (yGu G i (yAp (G i) κ l)) (wSI (wSL ν 15 (3136 * i + κ) v) 16 (3136 * i + κ) x) := fun j k hj hk => by
  have e1 : (wSI (wSL ν 15 (3136 * i + κ) v) 16 (3136 * i + κ) x).2 15 (3136 * j + k) = if j = i ∧ k = κ then v else ν.2 15 (3136 * j + k) := by
    show (wSL ν 15 (3136 * i + κ) v).2 15 (3136 * j + k) = _
    rw [yL_get]
    by_cases q : j = i ∧ k = κ
    · rw [if_pos q, if_pos ⟨rfl, by rw [q.1, q.2]⟩]
    · rw [if_neg q, if_neg (by omega)]
  have e2 : (wSI (wSL ν 15 (3136 * i + κ) v) 16 (3136 * i + κ) x).1 16 (3136 * j + k) = if j = i ∧ k = κ then x else ν.1 16 (3136 * j + k) := by
    rw [yS_get]
    by_cases q : j = i ∧ k = κ
    · rw [if_pos q, if_pos ⟨rfl, by rw [q.1, q.2]⟩]
    · rw [if_neg q, if_neg (by omega)]
      rfl
  rw [e1, e2]
  by_cases q : j = i
  · subst q
    rw [yGu_s]
    by_cases r : k = κ
    · subst r
      rw [if_pos (show j = j ∧ k = k from ⟨rfl, rfl⟩), if_pos (show j = j ∧ k = k from ⟨rfl, rfl⟩)]
      unfold yAp
      rw [if_pos rfl]
      exact ⟨hv, hx⟩
    · rw [if_neg (fun y : j = j ∧ k = κ => r y.2), if_neg (fun y : j = j ∧ k = κ => r y.2)]
      unfold yAp
      rw [if_neg r]
      exact Y j k hj hk
  · rw [if_neg (fun y => q y.1), if_neg (fun y => q y.1), yGu_o G _ q]
    exact Y j k hj hk
theorem yGu_gu (G : Nat → Nat → List Nat) (i : Nat) (H H2 : Nat → List Nat) : yGu (yGu G i H) i H2 = yGu G i H2 := by
  funext j
  unfold yGu
  by_cases q : j = i
  · rw [if_pos q, if_pos q]
  · rw [if_neg q, if_neg q, if_neg q]
theorem yPut_e {μ ν : wMem} (τ : ySt) (h : yKC μ ν) : yKC μ (yPut ν τ) := h.trans (yKC_put ν τ)
/-- one act at a stamp, from a scene that there are ways to -/
theorem yc_goesOn_loop {φ : Nat → Nat → Nat} (O : yOk φ) {w : Nat → Nat} {n c0 t i s : Nat} {μ : wMem} (F : yFC φ μ) (X : yWn φ w n μ c0 t) (hi : i < n) (V : yVz φ s) {N : Nat} (hN : 20 ≤ N) (a1 : Int32) (G : Nat → Nat → List Nat) (hL : G i s ≠ []) (bL : ∀ r, r ∈ G i s → r ≤ 10000) (K : wMem → Option wMem) : ∀ (d M e : Nat) (ν : wMem) (τ : ySt), d < M → e + d = 100 → yKC μ ν → ν.1 0 28 = nI n → yWy (yGu G (i + 1) (yEs (yOz φ w i s) (yNz φ w i s) (yRz φ w i) (G i s) e (G (i + 1)))) ν →
    ∃ ν1 τ1, gX0_goesOn_8 N c0 t n a1 (nI i) (nI s) K M (nI (yAz w i e)) (yPut ν τ) = K (yPut ν1 τ1) ∧ yWy (yGu G (i + 1) (yEs (yOz φ w i s) (yNz φ w i s) (yRz φ w i) (G i s) 100 (G (i + 1)))) ν1 ∧ yKe ν ν1 := by
  have n12 := X.2.1
  have wp := (X.2.2.1 i hi).2
  have h22 := O.posts
  have hs := yVz_lt O V
  have Sz := yBz_ok X.2.2.2 V i
  have fb : ∀ (ν : wMem) (τ : ySt), yKC μ ν → fX0_firstBy N c0 t n a1 (nI i) (yPut ν τ) = some (nI (100 * (w i / 10)), yPut ν τ) := fun ν τ kc => by
    have at0 := X.at (yPut_e τ kc) hi
    have wl := X.lt O hi
    have d10 : nI (w i) / (10 : Int32) = nI (w i / 10) := xI_div (by omega) (b := 10) (by decide)
    have m100 : (100 : Int32) * nI (w i / 10) = nI (100 * (w i / 10)) := xI_mul 100 _
    unfold fX0_firstBy
    rw [yG (xI_in hi (by omega)), xI_cl (by omega), at0, d10, m100]
  intro d
  induction d with
  | zero =>
    intro M e ν τ hM he kc h28 Y
    obtain ⟨M, rfl⟩ : ∃ q, M = q + 1 := ⟨M - 1, by omega⟩
    have : e = 100 := by omega
    subst this
    refine ⟨ν, τ, ?_, Y, yKe.rfl' _⟩
    have a100 : nI (100 * (w i / 10)) + (100 : Int32) = nI (100 * (w i / 10) + 100) := nI_add _ 100
    show gbX0_goesOn_8 N _ _ _ _ _ _ _ _ _ _ = _
    unfold gbX0_goesOn_8
    rw [fb ν τ kc, yBd, a100, yIf (xI_le (by omega) (by unfold yAz; omega)), if_pos (by unfold yAz; omega)]
  | succ d ih =>
    intro M e ν τ hM he kc h28 Y
    obtain ⟨M, rfl⟩ : ∃ q, M = q + 1 := ⟨M - 1, by omega⟩
    have he100 : e < 100 := by omega
    obtain ⟨d1, d2, d3, d4⟩ := yAz_d (w := w) (i := i) he100
    have lt200 : yAz w i e < 200 := by unfold yAz; omega
    have a100 : nI (100 * (w i / 10)) + (100 : Int32) = nI (100 * (w i / 10) + 100) := nI_add _ 100
    have add1 : nI (yAz w i e) + (1 : Int32) = nI (yAz w i (e + 1)) := nI_add _ 1
    have bs := yc_beScene O X hi hs hN a1 (yPut_e τ kc) h28
    have Fν := kc.fc F
    have ia := yc_isAct O (yFC_put Fν (yBz w i s)) N lt200
    have step0 : yOz φ w i s e = false → ∃ ν1 τ1, gX0_goesOn_8 N c0 t n a1 (nI i) (nI s) K M (nI (yAz w i (e + 1))) (yPut ν (yBz w i s)) = K (yPut ν1 τ1) ∧ yWy (yGu G (i + 1) (yEs (yOz φ w i s) (yNz φ w i s) (yRz φ w i) (G i s) 100 (G (i + 1)))) ν1 ∧ yKe ν ν1 := fun q => by
      refine ih M (e + 1) ν (yBz w i s) (by omega) (by omega) kc h28 ?_
      show yWy (yGu G (i + 1) (if yOz φ w i s e = true then _ else yEs (yOz φ w i s) (yNz φ w i s) (yRz φ w i) (G i s) e (G (i + 1)))) ν
      rw [q, if_neg (by decide)]
      exact Y
    have vd := yVzD_iff.mpr V
    have okd : yOz φ w i s e = (yGd φ (yAz w i e) && yCan φ (yBz w i s) (yAz w i e)) := by
      unfold yOz
      rw [vd, decide_eq_true he100]
      rfl
    have guard : ∀ x y : Option wMem, (if nI (100 * (w i / 10)) + (100 : Int32) ≤ nI (yAz w i e) then x else y) = y := fun x y => by
      rw [a100, yIf (xI_le (by omega) (by omega)), if_neg (by unfold yAz; omega)]
    by_cases g1 : yGd φ (yAz w i e) = true
    · have ha := yGd_act lt200 g1
      have ca := yc_can O Fν Sz (N := N) (by omega) ha
      by_cases g2 : yCan φ (yBz w i s) (yAz w i e) = true
      · have ok : yOz φ w i s e = true := by rw [okd, g1, g2]; rfl
        have S2 := yDo_ok O Sz ha
        have nv := yVz_lt O (yNz_v O X.2.2.2 ok)
        obtain ⟨_, _, p1, p2, p3, _⟩ := yOz_act O ok
        have dd := yc_does O Fν Sz N ha
        have sc : fX0_scene N (yPut ν (yDo φ (yBz w i s) (yAz w i e))) = some (nI (yNz φ w i s e), yPut ν (yDo φ (yBz w i s) (yAz w i e))) := yc_scene O S2 ν N
        have rk := yc_risk O (F := yFC_put Fν (yDo φ (yBz w i s) (yAz w i e))) N p1 p3
        have rl := yRisk_le O p1 p3
        have H := yEs (yOz φ w i s) (yNz φ w i s) (yRz φ w i) (G i s) e (G (i + 1))
        have Ya := Y (i + 1) (yNz φ w i s e) (by omega) nv
        have Yb := Y i s (by omega) hs
        rw [yGu_s] at Ya
        rw [yGu_o G _ (by omega)] at Yb
        have mb : yMn (G i s) ≤ 1000000000 := yMn_le _ _
        have ma : yMn (yEs (yOz φ w i s) (yNz φ w i s) (yRz φ w i) (G i s) e (G (i + 1)) (yNz φ w i s e)) ≤ 1000000000 := yMn_le _ _
        have Y2 := yWy_up Y (i := i + 1) (κ := yNz φ w i s e) (by omega) nv ((G i s).map (· + yRz φ w i e)) rfl rfl
        rw [yGu_gu, yGu_s] at Y2
        have ap := yMn_app hL (fun r hr => by have := bL r hr; omega) (yEs (yOz φ w i s) (yNz φ w i s) (yRz φ w i) (G i s) e (G (i + 1)) (yNz φ w i s e)) (yRz φ w i e)
        have kk : yKe ν (wSI (wSL ν 15 (3136 * (i + 1) + yNz φ w i s e) (lN (yEs (yOz φ w i s) (yNz φ w i s) (yRz φ w i) (G i s) e (G (i + 1)) (yNz φ w i s e) ++ (G i s).map (· + yRz φ w i e)).length)) 16 (3136 * (i + 1) + yNz φ w i s e) (nI (yMn (yEs (yOz φ w i s) (yNz φ w i s) (yRz φ w i) (G i s) e (G (i + 1)) (yNz φ w i s e) ++ (G i s).map (· + yRz φ w i e))))) := ⟨fun c i2 a b q => by rw [yS_get, if_neg (fun z => a z.1)]; rfl, fun c i2 a => by show (wSL ν 15 _ _).2 c i2 = _; rw [yL_get, if_neg (fun z => a z.1)]⟩
        obtain ⟨ν1, τ1, j1, j2, j3⟩ := ih M (e + 1) _ (yDo φ (yBz w i s) (yAz w i e)) (by omega) (by omega) (kc.trans kk.kc) (by rw [kk.1 0 28 (by decide) (by decide) (by decide)]; exact h28) (by
          show yWy (yGu G (i + 1) (if yOz φ w i s e = true then yAp (yEs (yOz φ w i s) (yNz φ w i s) (yRz φ w i) (G i s) e (G (i + 1))) (yNz φ w i s e) ((G i s).map (· + yRz φ w i e)) else _)) _
          rw [ok, if_pos rfl]
          exact Y2)
        refine ⟨ν1, τ1, ?_, j2, kk.trans j3⟩
        refine Eq.trans ?_ j1
        have i1 : nI i + (1 : Int32) = nI (i + 1) := nI_add i 1
        have w1 : (yPut ν (yDo φ (yBz w i s) (yAz w i e))).2 15 (3136 * (i + 1) + yNz φ w i s e) + (yPut ν (yDo φ (yBz w i s) (yAz w i e))).2 15 (3136 * i + s) = lN (yEs (yOz φ w i s) (yNz φ w i s) (yRz φ w i) (G i s) e (G (i + 1)) (yNz φ w i s e) ++ (G i s).map (· + yRz φ w i e)).length := by
          show ν.2 15 _ + ν.2 15 _ = _
          rw [Ya.1, Yb.1, lN_add, List.length_append, List.length_map]
        have sl : ∀ v, wSL (yPut ν (yDo φ (yBz w i s) (yAz w i e))) 15 (3136 * (i + 1) + yNz φ w i s e) v = yPut (wSL ν 15 (3136 * (i + 1) + yNz φ w i s e) v) (yDo φ (yBz w i s) (yAz w i e)) := fun v => rfl
        have f16 : ∀ v j, (yPut (wSL ν 15 (3136 * (i + 1) + yNz φ w i s e) v) (yDo φ (yBz w i s) (yAz w i e))).1 16 j = ν.1 16 j := fun v j => by rw [yPut_c _ _ (by decide) (by decide)]; rfl
        have F2 : ∀ v, yFC φ (yPut (wSL ν 15 (3136 * (i + 1) + yNz φ w i s e) v) (yDo φ (yBz w i s) (yAz w i e))) := fun v => yFC_put (yFC_of Fν fun _ _ _ _ => rfl) _
        have rk2 := fun v => yc_risk O (F2 v) N p1 p3
        have mn : (if (nI (yMn (G i s)) + nI (yRisk φ (e % 10) (w i / 10))) < nI (yMn (yEs (yOz φ w i s) (yNz φ w i s) (yRz φ w i) (G i s) e (G (i + 1)) (yNz φ w i s e))) then (nI (yMn (G i s)) + nI (yRisk φ (e % 10) (w i / 10))) else nI (yMn (yEs (yOz φ w i s) (yNz φ w i s) (yRz φ w i) (G i s) e (G (i + 1)) (yNz φ w i s e)))) = nI (yMn (yEs (yOz φ w i s) (yNz φ w i s) (yRz φ w i) (G i s) e (G (i + 1)) (yNz φ w i s e) ++ (G i s).map (· + yRz φ w i e))) := by
          have e' : yRz φ w i e = yRisk φ (e % 10) (w i / 10) := rfl
          rw [ap, nI_add, yIf (xI_lt (by omega) (by omega)), e']
          by_cases q : yMn (G i s) + yRisk φ (e % 10) (w i / 10) < yMn (yEs (yOz φ w i s) (yNz φ w i s) (yRz φ w i) (G i s) e (G (i + 1)) (yNz φ w i s e))
          · rw [if_pos q, Nat.min_eq_right (by omega)]
          · rw [if_neg q, Nat.min_eq_left (by omega)]
        show gbX0_goesOn_8 N _ _ _ _ _ _ _ _ _ _ = _
        unfold gbX0_goesOn_8
        rw [fb ν τ kc, yBd, guard, bs, yBV, ia, yBd, yWL, yIf (yB_0 _), g1, if_neg (by decide), ca, yBd, yIf (yB_0 _), g2, if_neg (by decide), dd, yBV, sc, yBd, i1, yc_spot, yBd, yG (xI_in (by omega) (by decide)), yc_spot, yBd, yG (xI_in (by omega) (by decide)), yG (xI_in (by omega) (by decide)), xI_cl (by omega), xI_cl (by omega), w1, yWL, yG (xI_in (by omega) (by decide)), sl, yc_spot, yBd, yG (xI_in (by omega) (by decide)), yc_personIn (by omega), yBd, yc_postIn (by omega), yBd, d1, d3, rk2, yBd, yG (xI_in (by omega) (by decide)), xI_cl (by omega), f16, f16, Ya.2, Yb.2, mn, yWL]
        have sI : ∀ v x, wSI (yPut (wSL ν 15 (3136 * (i + 1) + yNz φ w i s e) v) (yDo φ (yBz w i s) (yAz w i e))) 16 (3136 * (i + 1) + yNz φ w i s e) x = yPut (wSI (wSL ν 15 (3136 * (i + 1) + yNz φ w i s e) v) 16 (3136 * (i + 1) + yNz φ w i s e) x) (yDo φ (yBz w i s) (yAz w i e)) := fun v x => by
          refine yM_ext (fun c2 i2 => ?_) rfl
          rw [yS_get]
          by_cases z : c2 = 16
          · subst z
            rw [yPut_c _ _ (by decide) (by decide), yPut_c _ _ (by decide) (by decide), yS_get]
          · rw [if_neg (fun y => z y.1)]
            simp only [yPut, yS_get]
            simp [z]
        rw [sI]
        show gX0_goesOn_8 N c0 t n a1 (nI i) (nI s) K M (nI (yAz w i e) + 1) _ = _
        rw [add1]
      · rw [Bool.not_eq_true] at g2
        obtain ⟨ν1, τ1, j1, j2, j3⟩ := step0 (by rw [okd, g1, g2]; rfl)
        refine ⟨ν1, τ1, ?_, j2, j3⟩
        refine Eq.trans ?_ j1
        show gbX0_goesOn_8 N _ _ _ _ _ _ _ _ _ _ = _
        unfold gbX0_goesOn_8
        rw [fb ν τ kc, yBd, guard, bs, yBV, ia, yBd, yWL, yIf (yB_0 _), g1, if_neg (by decide), ca, yBd, yIf (yB_0 _), if_pos g2]
        show gX0_goesOn_8 N c0 t n a1 (nI i) (nI s) K M (nI (yAz w i e) + 1) _ = _
        rw [add1]
    · rw [Bool.not_eq_true] at g1
      obtain ⟨ν1, τ1, j1, j2, j3⟩ := step0 (by rw [okd, g1]; rfl)
      refine ⟨ν1, τ1, ?_, j2, j3⟩
      refine Eq.trans ?_ j1
      show gbX0_goesOn_8 N _ _ _ _ _ _ _ _ _ _ = _
      unfold gbX0_goesOn_8
      rw [fb ν τ kc, yBd, guard, bs, yBV, ia, yBd, yWL, yIf (yB_0 _), if_pos g1]
      show gX0_goesOn_8 N c0 t n a1 (nI i) (nI s) K M (nI (yAz w i e) + 1) _ = _
      rw [add1]
