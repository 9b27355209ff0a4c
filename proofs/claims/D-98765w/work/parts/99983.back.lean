set_option maxRecDepth 100000
/-! part 99983: the component comes back through its stamps -/
theorem yPut_sc (ν : wMem) (τ : ySt) {c : Nat} (h0 : c ≠ 0) (h9 : c ≠ 9) (j : Nat) (v : Int32) : wSI (yPut ν τ) c j v = yPut (wSI ν c j v) τ := by
  refine yM_ext (fun c2 i2 => ?_) rfl
  rw [yS_get]
  by_cases z : c2 = c
  · subst z
    rw [yPut_c _ _ h0 h9, yPut_c _ _ h0 h9, yS_get]
  · rw [if_neg (fun y => z y.1)]
    simp only [yPut, yS_get]
    simp [z]
theorem yPut_s0 (ν : wMem) (τ : ySt) {j : Nat} (h : 7 < j) (v : Int32) : wSI (yPut ν τ) 0 j v = yPut (wSI ν 0 j v) τ := by
  refine yM_ext (fun c2 i2 => ?_) rfl
  rw [yS_get]
  by_cases z : c2 = 0 ∧ i2 = j
  · obtain ⟨rfl, rfl⟩ := z
    rw [if_pos ⟨rfl, rfl⟩, yPut_o _ _ (by omega) (by decide), yS_get, if_pos ⟨rfl, rfl⟩]
  · rw [if_neg z]
    simp only [yPut, yS_get]
    simp [z]
/-- an act among the first e that is such -/
def yLeq (q : Nat → Bool) : Nat → Bool
  | 0 => false
  | e + 1 => yLeq q e || q e
/-- from a scene it can go on to the end; r stamps are left of n -/
def yLdz (φ : Nat → Nat → Nat) (w : Nat → Nat) (n : Nat) : Nat → Nat → Bool
  | 0, _ => true
  | r + 1, κ => yLeq (fun e => yOz φ w (n - (r + 1)) κ e && yLdz φ w n r (yNz φ w (n - (r + 1)) κ e)) 100
def yQd (φ : Nat → Nat → Nat) (w : Nat → Nat) (n i s e : Nat) : Bool := yOz φ w i s e && yLdz φ w n (n - (i + 1)) (yNz φ w i s e)
theorem yLdz_q {φ : Nat → Nat → Nat} {w : Nat → Nat} {n i : Nat} (hi : i < n) (s : Nat) : yLdz φ w n (n - i) s = yLeq (yQd φ w n i s) 100 := by
  obtain ⟨r, hr⟩ : ∃ r, n - i = r + 1 := ⟨n - i - 1, by omega⟩
  have e1 : n - (r + 1) = i := by omega
  have e2 : n - (i + 1) = r := by omega
  rw [hr]
  show yLeq (fun e => yOz φ w (n - (r + 1)) s e && yLdz φ w n r (yNz φ w (n - (r + 1)) s e)) 100 = _
  unfold yQd
  rw [e1, e2]
/-- the persons of such acts -/
def yHe (q : Nat → Bool) : Nat → Nat → Nat
  | 0, m => m
  | e + 1, m => if q e = true then yHe q e m ||| 2 ^ (e % 10) else yHe q e m
def yHs (φ : Nat → Nat → Nat) (w : Nat → Nat) (n i : Nat) : Nat → Nat
  | 0 => 0
  | s + 1 => if yFz φ w i s = [] then yHs φ w n i s else yHe (yQd φ w n i s) 100 (yHs φ w n i s)
def yWl (L : Nat → Nat → Bool) (ν : wMem) : Prop := ∀ j κ, j ≤ 12 → κ < 3136 → ν.1 17 (3136 * j + κ) = if L j κ = true then nI 1 else nI 0
theorem yWl.ext {L L2 : Nat → Nat → Bool} {ν : wMem} (h : yWl L ν) (e : ∀ j κ, κ < 3136 → L2 j κ = L j κ) : yWl L2 ν := fun j κ a b => by rw [e j κ b]; exact h j κ a b
def yUb (B : Nat → Nat → Bool) (i s : Nat) (b : Bool) : Nat → Nat → Bool := fun j κ => if j = i ∧ κ = s then b else B j κ
theorem yWl_up {B : Nat → Nat → Bool} {b : Bool} {i s : Nat} {ν : wMem} (h : yWl (yUb B i s b) ν) (hs : s < 3136) : yWl (yUb B i s true) (wSI ν 17 (3136 * i + s) (1 : Int32)) := fun j κ a b2 => by
  rw [yS_get]
  have h' := h j κ a b2
  unfold yUb at h' ⊢
  by_cases q : j = i ∧ κ = s
  · rw [if_pos ⟨rfl, by rw [q.1, q.2]⟩, if_pos q, if_pos rfl]
    rfl
  · rw [if_neg (by omega), if_neg q, h', if_neg q]
/-- all but what leads, who was had and the state is as it was -/
def yKl (μ ν : wMem) : Prop := ν.2 = μ.2 ∧ ∀ c j, c ≠ 17 → c ≠ 18 → c ≠ 9 → (c = 0 → j ≠ 5 ∧ j ≠ 6 ∧ j ≠ 7) → ν.1 c j = μ.1 c j
theorem yKl.rfl' (μ : wMem) : yKl μ μ := ⟨rfl, fun _ _ _ _ _ _ => rfl⟩
theorem yKl.trans {μ ν ρ : wMem} (h : yKl μ ν) (g : yKl ν ρ) : yKl μ ρ := ⟨g.1.trans h.1, fun c j a b d e => (g.2 c j a b d e).trans (h.2 c j a b d e)⟩
theorem yKl.kc {μ ν : wMem} (h : yKl μ ν) : yKC μ ν := fun c i a b => ⟨h.2 c i (by omega) (by omega) (by omega) (by omega), by rw [h.1]⟩
theorem yKl.wy {G : Nat → Nat → List Nat} {μ ν : wMem} (h : yKl μ ν) (Y : yWy G μ) : yWy G ν := fun j κ a b => by
  rw [h.1, h.2 16 _ (by decide) (by decide) (by decide) (fun z => absurd z (by decide))]
  exact Y j κ a b
theorem yc_comesBack_loop {φ : Nat → Nat → Nat} (O : yOk φ) {w : Nat → Nat} {n c0 t i s : Nat} {μ : wMem} (F : yFC φ μ) (X : yWn φ w n μ c0 t) (hi : i < n) (V : yVz φ s) {N : Nat} (hN : 20 ≤ N) (a1 : Int32) (B : Nat → Nat → Bool) (m : Nat) (K : wMem → Option wMem) : ∀ (d M e : Nat) (ν : wMem) (τ : ySt), d < M → e + d = 100 → yKC μ ν → ν.1 0 28 = nI n → yWl (yUb B i s (yLeq (fun e => yOz φ w i s e && B (i + 1) (yNz φ w i s e)) e)) ν → ν.1 18 i = nI (yHe (fun e => yOz φ w i s e && B (i + 1) (yNz φ w i s e)) e m) →
    ∃ ν1 τ1, gX0_comesBack_8 N c0 t n a1 (nI i) (nI s) K M (nI (yAz w i e)) (yPut ν τ) = K (yPut ν1 τ1) ∧ yWl (yUb B i s (yLeq (fun e => yOz φ w i s e && B (i + 1) (yNz φ w i s e)) 100)) ν1 ∧ ν1.1 18 i = nI (yHe (fun e => yOz φ w i s e && B (i + 1) (yNz φ w i s e)) 100 m) ∧ yKl ν ν1 ∧ ∀ j, j ≠ i → ν1.1 18 j = ν.1 18 j := by
  have n12 := X.2.1
  have wp := (X.2.2.1 i hi).2
  have h22 := O.posts
  have hs := yVz_lt O V
  have Sz := yBz_ok X.2.2.2 V i
  have fb : ∀ (ν : wMem) (τ : ySt), yKC μ ν → fX0_firstBy N c0 t n a1 (nI i) (yPut ν τ) = some (nI (100 * (w i / 10)), yPut ν τ) := fun ν τ kc => yc_firstBy O X hi kc N a1 τ
  intro d
  induction d with
  | zero =>
    intro M e ν τ hM he kc h28 Y H
    obtain ⟨M, rfl⟩ : ∃ q, M = q + 1 := ⟨M - 1, by omega⟩
    have : e = 100 := by omega
    subst this
    refine ⟨ν, τ, ?_, Y, H, yKl.rfl' _, fun _ _ => rfl⟩
    have a100 : nI (100 * (w i / 10)) + (100 : Int32) = nI (100 * (w i / 10) + 100) := nI_add _ 100
    show gbX0_comesBack_8 N _ _ _ _ _ _ _ _ _ _ = _
    unfold gbX0_comesBack_8
    rw [fb ν τ kc, yBd, a100, yIf (xI_le (by omega) (by unfold yAz; omega)), if_pos (by unfold yAz; omega)]
  | succ d ih =>
    intro M e ν τ hM he kc h28 Y H
    obtain ⟨M, rfl⟩ : ∃ q, M = q + 1 := ⟨M - 1, by omega⟩
    have he100 : e < 100 := by omega
    obtain ⟨d1, d2, d3, d4⟩ := yAz_d (w := w) (i := i) he100
    have lt200 : yAz w i e < 200 := by unfold yAz; omega
    have a100 : nI (100 * (w i / 10)) + (100 : Int32) = nI (100 * (w i / 10) + 100) := nI_add _ 100
    have add1 : nI (yAz w i e) + (1 : Int32) = nI (yAz w i (e + 1)) := nI_add _ 1
    have bs := yc_beScene O X hi hs hN a1 (yPut_e τ kc) h28
    have Fν := kc.fc F
    have ia := yc_isAct O (yFC_put Fν (yBz w i s)) N lt200
    have step0 : ∀ σ, (yOz φ w i s e && B (i + 1) (yNz φ w i s e)) = false → ∃ ν1 τ1, gX0_comesBack_8 N c0 t n a1 (nI i) (nI s) K M (nI (yAz w i (e + 1))) (yPut ν σ) = K (yPut ν1 τ1) ∧ yWl (yUb B i s (yLeq (fun e => yOz φ w i s e && B (i + 1) (yNz φ w i s e)) 100)) ν1 ∧ ν1.1 18 i = nI (yHe (fun e => yOz φ w i s e && B (i + 1) (yNz φ w i s e)) 100 m) ∧ yKl ν ν1 ∧ ∀ j, j ≠ i → ν1.1 18 j = ν.1 18 j := fun σ q => by
      refine ih M (e + 1) ν σ (by omega) (by omega) kc h28 ?_ ?_
      · show yWl (yUb B i s (yLeq _ e || (yOz φ w i s e && B (i + 1) (yNz φ w i s e)))) ν
        rw [q, Bool.or_false]
        exact Y
      · show _ = nI (if (yOz φ w i s e && B (i + 1) (yNz φ w i s e)) = true then _ else yHe _ e m)
        rw [q, if_neg (by decide)]
        exact H
    have vd := yVzD_iff.mpr V
    have okd : yOz φ w i s e = (yGd φ (yAz w i e) && yCan φ (yBz w i s) (yAz w i e)) := by
      unfold yOz
      rw [vd, decide_eq_true he100]
      rfl
    have guard : ∀ x y : Option wMem, (if nI (100 * (w i / 10)) + (100 : Int32) ≤ nI (yAz w i e) then x else y) = y := fun x y => by
      rw [a100, yIf (xI_le (by omega) (by omega)), if_neg (by unfold yAz; omega)]
    by_cases g1 : yGd φ (yAz w i e) = true
    · have ha := yGd_act lt200 g1
      have ca := yc_can O Fν Sz (N := N) (by omega) ha
      by_cases g2 : yCan φ (yBz w i s) (yAz w i e) = true
      · have ok : yOz φ w i s e = true := by rw [okd, g1, g2]; rfl
        have S2 := yDo_ok O Sz ha
        have nv := yVz_lt O (yNz_v O X.2.2.2 ok)
        obtain ⟨_, _, p1, p2, p3, _⟩ := yOz_act O ok
        have h6 := O.persons
        have dd := yc_does O Fν Sz N ha
        have sc : fX0_scene N (yPut ν (yDo φ (yBz w i s) (yAz w i e))) = some (nI (yNz φ w i s e), yPut ν (yDo φ (yBz w i s) (yAz w i e))) := yc_scene O S2 ν N
        have i1 : nI i + (1 : Int32) = nI (i + 1) := nI_add i 1
        have Ya := Y (i + 1) (yNz φ w i s e) (by omega) nv
        have Yb : (yPut ν (yDo φ (yBz w i s) (yAz w i e))).1 17 (3136 * (i + 1) + yNz φ w i s e) = if B (i + 1) (yNz φ w i s e) = true then nI 1 else nI 0 := by
          have ub : ∀ b, yUb B i s b (i + 1) (yNz φ w i s e) = B (i + 1) (yNz φ w i s e) := fun b => if_neg (fun z => by have := z.1; omega)
          rw [yPut_c _ _ (by decide) (by decide), Ya, ub]
        by_cases g3 : B (i + 1) (yNz φ w i s e) = true
        · rw [if_pos g3] at Yb
          have qe : (yOz φ w i s e && B (i + 1) (yNz φ w i s e)) = true := by rw [ok, g3]; rfl
          have kk : yKl ν (wSI (wSI ν 17 (3136 * i + s) (1 : Int32)) 18 i (nI (yHe (fun e => yOz φ w i s e && B (i + 1) (yNz φ w i s e)) e m ||| 2 ^ (e % 10)))) := ⟨rfl, fun c j a b _ _ => by rw [yS_get, if_neg (fun z => b z.1), yS_get, if_neg (fun z => a z.1)]⟩
          obtain ⟨ν1, τ1, j1, j2, j3, j4, j5⟩ := ih M (e + 1) (wSI (wSI ν 17 (3136 * i + s) (1 : Int32)) 18 i (nI (yHe (fun e => yOz φ w i s e && B (i + 1) (yNz φ w i s e)) e m ||| 2 ^ (e % 10)))) (yDo φ (yBz w i s) (yAz w i e)) (by omega) (by omega) (kc.trans kk.kc) (by rw [kk.2 0 28 (by decide) (by decide) (by decide) (by decide)]; exact h28) (by
            show yWl (yUb B i s (yLeq _ e || (yOz φ w i s e && B (i + 1) (yNz φ w i s e)))) _
            rw [qe, Bool.or_true]
            have h := yWl_up Y hs
            intro j κ a b
            rw [yS_get, if_neg (by omega)]
            exact h j κ a b) (by
            show _ = nI (if (yOz φ w i s e && B (i + 1) (yNz φ w i s e)) = true then yHe _ e m ||| 2 ^ (e % 10) else yHe _ e m)
            rw [qe, if_pos rfl, yS_get, if_pos ⟨rfl, rfl⟩])
          refine ⟨ν1, τ1, ?_, j2, j3, kk.trans j4, fun j hj => (j5 j hj).trans (by rw [yS_get, if_neg (fun z => hj z.2), yS_get, if_neg (by omega)])⟩
          refine Eq.trans ?_ j1
          have w2 : wSI (yPut ν (yDo φ (yBz w i s) (yAz w i e))) 17 (3136 * i + s) (1 : Int32) = yPut (wSI ν 17 (3136 * i + s) (1 : Int32)) (yDo φ (yBz w i s) (yAz w i e)) := yPut_sc _ _ (by decide) (by decide) _ _
          have f18 : (yPut (wSI ν 17 (3136 * i + s) (1 : Int32)) (yDo φ (yBz w i s) (yAz w i e))).1 18 i = nI (yHe (fun e => yOz φ w i s e && B (i + 1) (yNz φ w i s e)) e m) := by
            rw [yPut_c _ _ (by decide) (by decide), yS_get, if_neg (by omega), H]
          show gbX0_comesBack_8 N _ _ _ _ _ _ _ _ _ _ = _
          unfold gbX0_comesBack_8
          rw [fb ν τ kc, yBd, guard, bs, yBV, ia, yBd, yWL, yIf (yB_0 _), g1, if_neg (by decide), ca, yBd, yIf (yB_0 _), g2, if_neg (by decide), dd, yBV, sc, yBd, i1, yc_spot, yBd, yG (xI_in (by omega) (by decide)), xI_cl (by omega), Yb, if_neg (by decide), yc_spot, yBd, yG (xI_in (by omega) (by decide)), xI_cl (by omega), yWL, w2, yG (xI_in (by omega) (by decide)), yc_personIn (by omega), yBd, yG (xI_in (by omega) (by decide)), yWL, xI_cl (by omega), f18, d3, xI_pow _ (by omega), xI_or, yPut_sc _ _ (by decide) (by decide)]
          show gX0_comesBack_8 N c0 t n a1 (nI i) (nI s) K M (nI (yAz w i e) + 1) _ = _
          rw [add1]
        · rw [if_neg g3] at Yb
          rw [Bool.not_eq_true] at g3
          obtain ⟨ν1, τ1, j1, j2⟩ := step0 (yDo φ (yBz w i s) (yAz w i e)) (by rw [ok, g3]; rfl)
          refine ⟨ν1, τ1, ?_, j2⟩
          refine Eq.trans ?_ j1
          show gbX0_comesBack_8 N _ _ _ _ _ _ _ _ _ _ = _
          unfold gbX0_comesBack_8
          rw [fb ν τ kc, yBd, guard, bs, yBV, ia, yBd, yWL, yIf (yB_0 _), g1, if_neg (by decide), ca, yBd, yIf (yB_0 _), g2, if_neg (by decide), dd, yBV, sc, yBd, i1, yc_spot, yBd, yG (xI_in (by omega) (by decide)), xI_cl (by omega), Yb, if_pos (show nI 0 = (0 : Int32) from rfl)]
          show gX0_comesBack_8 N c0 t n a1 (nI i) (nI s) K M (nI (yAz w i e) + 1) _ = _
          rw [add1]
      · rw [Bool.not_eq_true] at g2
        obtain ⟨ν1, τ1, j1, j2⟩ := step0 (yBz w i s) (by rw [okd, g1, g2]; rfl)
        refine ⟨ν1, τ1, ?_, j2⟩
        refine Eq.trans ?_ j1
        show gbX0_comesBack_8 N _ _ _ _ _ _ _ _ _ _ = _
        unfold gbX0_comesBack_8
        rw [fb ν τ kc, yBd, guard, bs, yBV, ia, yBd, yWL, yIf (yB_0 _), g1, if_neg (by decide), ca, yBd, yIf (yB_0 _), if_pos g2]
        show gX0_comesBack_8 N c0 t n a1 (nI i) (nI s) K M (nI (yAz w i e) + 1) _ = _
        rw [add1]
    · rw [Bool.not_eq_true] at g1
      obtain ⟨ν1, τ1, j1, j2⟩ := step0 (yBz w i s) (by rw [okd, g1]; rfl)
      refine ⟨ν1, τ1, ?_, j2⟩
      refine Eq.trans ?_ j1
      show gbX0_comesBack_8 N _ _ _ _ _ _ _ _ _ _ = _
      unfold gbX0_comesBack_8
      rw [fb ν τ kc, yBd, guard, bs, yBV, ia, yBd, yWL, yIf (yB_0 _), if_pos g1]
      show gX0_comesBack_8 N c0 t n a1 (nI i) (nI s) K M (nI (yAz w i e) + 1) _ = _
      rw [add1]
theorem yc_comesBack {φ : Nat → Nat → Nat} (O : yOk φ) {w : Nat → Nat} {n c0 t i s : Nat} {μ ν : wMem} (F : yFC φ μ) (X : yWn φ w n μ c0 t) (hi : i < n) (V : yVz φ s) {N : Nat} (hN : 200 ≤ N) (a1 : Int32) (B : Nat → Nat → Bool) (hB : B i s = false) (m : Nat) (kc : yKC μ ν) (h28 : ν.1 0 28 = nI n) (Y : yWl B ν) (H : ν.1 18 i = nI m) (τ : ySt) :
    ∃ ν1 τ1, fX0_comesBack N c0 t n a1 (nI i) (nI s) (yPut ν τ) = some (yPut ν1 τ1) ∧ yWl (yUb B i s (yLeq (fun e => yOz φ w i s e && B (i + 1) (yNz φ w i s e)) 100)) ν1 ∧ ν1.1 18 i = nI (yHe (fun e => yOz φ w i s e && B (i + 1) (yNz φ w i s e)) 100 m) ∧ yKl ν ν1 ∧ ∀ j, j ≠ i → ν1.1 18 j = ν.1 18 j := by
  obtain ⟨ν1, τ1, j1, j2⟩ := yc_comesBack_loop O F X hi V (N := N) (by omega) a1 B m (fun μ => some μ) 100 N 0 ν τ (by omega) rfl kc h28 (Y.ext fun j κ _ => by
    unfold yUb
    by_cases q : j = i ∧ κ = s
    · rw [if_pos q, q.1, q.2, hB]; rfl
    · rw [if_neg q]) H
  refine ⟨ν1, τ1, ?_, j2⟩
  unfold fX0_comesBack
  rw [yc_firstBy O X hi kc, yBd]
  exact j1
