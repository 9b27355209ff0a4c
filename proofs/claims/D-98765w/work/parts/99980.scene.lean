set_option maxRecDepth 100000
/-! part 99980: the component's scenes: beScene, scene, asksStamps -/
theorem yPut_set (μ : wMem) (σ τ : ySt) (c i : Nat) (v : Int32) (h5 : (yPut μ τ).1 0 5 = if c = 0 ∧ i = 5 then v else (yPut μ σ).1 0 5) (h6 : (yPut μ τ).1 0 6 = if c = 0 ∧ i = 6 then v else (yPut μ σ).1 0 6) (h7 : (yPut μ τ).1 0 7 = if c = 0 ∧ i = 7 then v else (yPut μ σ).1 0 7) (h90 : (yPut μ τ).1 9 0 = if c = 9 ∧ i = 0 then v else (yPut μ σ).1 9 0) (h91 : (yPut μ τ).1 9 1 = if c = 9 ∧ i = 1 then v else (yPut μ σ).1 9 1) (hc : (c = 0 ∧ (i = 5 ∨ i = 6 ∨ i = 7)) ∨ (c = 9 ∧ i < 2)) : wSI (yPut μ σ) c i v = yPut μ τ := by
  refine yM_ext (fun c2 i2 => ?_) rfl
  rw [yS_get]
  by_cases q : c2 = 0 ∧ (i2 = 5 ∨ i2 = 6 ∨ i2 = 7)
  · obtain ⟨rfl, q | q | q⟩ := q <;> subst q
    · rw [h5]
      by_cases g : c = 0 ∧ i = 5
      · rw [if_pos g, if_pos (by omega)]
      · rw [if_neg g, if_neg (by omega)]
    · rw [h6]
      by_cases g : c = 0 ∧ i = 6
      · rw [if_pos g, if_pos (by omega)]
      · rw [if_neg g, if_neg (by omega)]
    · rw [h7]
      by_cases g : c = 0 ∧ i = 7
      · rw [if_pos g, if_pos (by omega)]
      · rw [if_neg g, if_neg (by omega)]
  · by_cases r : c2 = 9 ∧ i2 < 2
    · obtain ⟨rfl, r⟩ := r
      have : i2 = 0 ∨ i2 = 1 := by omega
      rcases this with e | e <;> subst e
      · rw [h90]
        by_cases g : c = 9 ∧ i = 0
        · rw [if_pos g, if_pos (by omega)]
        · rw [if_neg g, if_neg (by omega)]
      · rw [h91]
        by_cases g : c = 9 ∧ i = 1
        · rw [if_pos g, if_pos (by omega)]
        · rw [if_neg g, if_neg (by omega)]
    · rw [if_neg (by omega)]
      by_cases z : c2 = 9
      · subst z
        simp only [yPut, yS_get]
        simp
        have n0 : ¬ i2 = 0 := by omega
        have n1 : ¬ i2 = 1 := by omega
        simp [n0, n1]
      · rw [yPut_o μ σ (by omega) z, yPut_o μ τ (by omega) z]
theorem yPut_s90 (μ : wMem) (σ : ySt) (z : Nat) : wSI (yPut μ σ) 9 0 (nI z - 1) = yPut μ (ySt.of σ.ov σ.sd z σ.z1 σ.mk) := by
  apply yPut_set
  · rw [yPut_5, yPut_5, if_neg (by omega)]; rfl
  · rw [yPut_6, yPut_6, if_neg (by omega)]; rfl
  · rw [yPut_7, yPut_7, if_neg (by omega)]; rfl
  · rw [yPut_90, if_pos ⟨rfl, rfl⟩]; rfl
  · rw [yPut_91, yPut_91, if_neg (by omega)]; rfl
  · exact Or.inr ⟨rfl, by omega⟩
theorem yPut_s91 (μ : wMem) (σ : ySt) (z : Nat) : wSI (yPut μ σ) 9 1 (nI z - 1) = yPut μ (ySt.of σ.ov σ.sd σ.z0 z σ.mk) := by
  apply yPut_set
  · rw [yPut_5, yPut_5, if_neg (by omega)]; rfl
  · rw [yPut_6, yPut_6, if_neg (by omega)]; rfl
  · rw [yPut_7, yPut_7, if_neg (by omega)]; rfl
  · rw [yPut_90, yPut_90, if_neg (by omega)]; rfl
  · rw [yPut_91, if_pos ⟨rfl, rfl⟩]; rfl
  · exact Or.inr ⟨rfl, by omega⟩
/-- the row's numbers are the stamps w, n of them -/
def yWn (φ : Nat → Nat → Nat) (w : Nat → Nat) (n : Nat) (μ : wMem) (c0 t : Nat) : Prop := 21 < c0 ∧ n ≤ 12 ∧ (∀ j, j < n → (wAt μ c0 t j).toInt32 = nI (w j) ∧ w j / 10 < φ 0 3) ∧ ∀ j, w j % 10 < 2
theorem yWn.at {φ : Nat → Nat → Nat} {w : Nat → Nat} {n c0 t : Nat} {μ ν : wMem} (h : yWn φ w n μ c0 t) (k : yKC μ ν) {j : Nat} (hj : j < n) : (wAt ν c0 t j).toInt32 = nI (w j) := by
  rw [wAt_of (fun i => k c0 i (by have := h.1; omega) (by have := h.1; omega))]
  exact (h.2.2.1 j hj).1
theorem yWn.lt {φ : Nat → Nat → Nat} {w : Nat → Nat} {n c0 t : Nat} {μ : wMem} (O : yOk φ) (h : yWn φ w n μ c0 t) {j : Nat} (hj : j < n) : w j < 20 := by
  have := (h.2.2.1 j hj).2
  have := O.posts
  omega
theorem yMk_e : ∀ m, m < 16 → ∀ s, s < 2 → (m < 8 → (nI m <<< ((1 : Int32) &&& 31)) ||| nI s = nI (yMk m s)) ∧ (¬ m < 8 → ((8 : Int32) ||| ((nI m <<< ((1 : Int32) &&& 31)) &&& (7 : Int32))) ||| nI s = nI (yMk m s)) := by decide +kernel
theorem yc_scene_loop {φ : Nat → Nat → Nat} (O : yOk φ) {w : Nat → Nat} {n c0 t i : Nat} {μ : wMem} (X : yWn φ w n μ c0 t) (hi : i ≤ n) (N : Nat) (a3 : Int32) (K : wMem → Option wMem) : ∀ (d M k : Nat) (ν : wMem) (τ : ySt), d < M → k + d = i → yKC μ (yPut ν τ) →
    gX0_beScene_46 N c0 t n (nI i) a3 K M (nI k) (yPut ν (ySt.of τ.ov τ.sd τ.z0 τ.z1 (yMz w k))) = K (yPut ν (ySt.of τ.ov τ.sd τ.z0 τ.z1 (yMz w i))) := by
  have n12 := X.2.1
  intro d
  induction d with
  | zero =>
    intro M k ν τ hM hk kc
    obtain ⟨M, rfl⟩ : ∃ q, M = q + 1 := ⟨M - 1, by omega⟩
    have : k = i := by omega
    subst this
    show gbX0_beScene_46 N _ _ _ _ _ _ _ _ _ = _
    unfold gbX0_beScene_46
    rw [yIf (xI_le (a := k) (b := k) (by omega) (by omega)), if_pos (Nat.le_refl _)]
  | succ d ih =>
    intro M k ν τ hM hk kc
    obtain ⟨M, rfl⟩ : ∃ q, M = q + 1 := ⟨M - 1, by omega⟩
    have add1 : nI k + (1 : Int32) = nI (k + 1) := nI_add k 1
    have mo := yMz_ok X.2.2.2 k
    have wl := X.lt O (j := k) (by omega)
    have kc2 : yKC μ (yPut ν (ySt.of τ.ov τ.sd τ.z0 τ.z1 (yMz w k))) := fun c2 i2 a b => by
      have h := kc c2 i2 a b
      rw [yPut_o ν τ (by omega) (by omega)] at h
      rw [yPut_o ν _ (by omega) (by omega)]
      exact h
    have at0 := X.at kc2 (j := k) (by omega)
    have e7 : (yPut ν (ySt.of τ.ov τ.sd τ.z0 τ.z1 (yMz w k))).1 0 7 = nI (yMz w k) := yPut_7 _ _
    have l8 : (nI (yMz w k) < (8 : Int32)) = (yMz w k < 8) := xI_lt (b := 8) (by omega) (by decide)
    have r10 : nI (w k) - nI (w k) / (10 : Int32) * (10 : Int32) = nI (w k % 10) := xI_r10 (by omega)
    obtain ⟨m1, m2⟩ := yMk_e (yMz w k) mo.2 (w k % 10) (X.2.2.2 k)
    refine Eq.trans ?_ (ih M (k + 1) ν τ (by omega) (by omega) kc)
    show gbX0_beScene_46 N _ _ _ _ _ _ _ _ _ = _
    unfold gbX0_beScene_46
    rw [yIf (xI_le (a := i) (b := k) (by omega) (by omega)), if_neg (by omega), yWL, e7, yIf l8, xI_cl (by omega), at0, r10]
    by_cases q : yMz w k < 8
    · rw [if_pos q, yG (xI_in (by omega) (by omega)), m1 q]
      show gX0_beScene_46 N c0 t n (nI i) a3 K M (nI k + 1) (wSI (yPut ν (ySt.of τ.ov τ.sd τ.z0 τ.z1 (yMz w k))) 0 7 (nI (yMk (yMz w k) (w k % 10)))) = _
      rw [yPut_smk, add1]
      rfl
    · rw [if_neg q, yG (xI_in (by omega) (by omega)), m2 q]
      show gX0_beScene_46 N c0 t n (nI i) a3 K M (nI k + 1) (wSI (yPut ν (ySt.of τ.ov τ.sd τ.z0 τ.z1 (yMz w k))) 0 7 (nI (yMk (yMz w k) (w k % 10)))) = _
      rw [yPut_smk, add1]
      rfl
theorem yc_beScene {φ : Nat → Nat → Nat} (O : yOk φ) {w : Nat → Nat} {n c0 t i s : Nat} {μ ν : wMem} {τ : ySt} (X : yWn φ w n μ c0 t) (hi : i < n) (hs : s < 3136) {N : Nat} (hN : 20 ≤ N) (a3 : Int32) (kc : yKC μ (yPut ν τ)) (h28 : ν.1 0 28 = nI n) :
    fX0_beScene N c0 t n (nI i) (nI s) a3 (yPut ν τ) = some (yPut ν (yBz w i s)) := by
  have n12 := X.2.1
  have d7 : ∀ x, x < 2 ^ 31 → nI x / (7 : Int32) = nI (x / 7) := fun x h => xI_div h (b := 7) (by decide)
  have r7 : ∀ x, x < 2 ^ 31 → nI x - nI x / (7 : Int32) * (7 : Int32) = nI (x % 7) := fun x h => xI_rem h (b := 7) (by decide)
  have e1 : nI s / (7 : Int32) / (7 : Int32) = nI (s / 49) := by rw [d7 s (by omega), d7 (s / 7) (by omega), Nat.div_div_eq_div_mul]
  have e2 : (nI s / (7 : Int32)) - (nI s / (7 : Int32)) / (7 : Int32) * (7 : Int32) = nI (s / 7 % 7) := by rw [d7 s (by omega), r7 (s / 7) (by omega)]
  have e3 := r7 s (by omega)
  have wl := X.lt O hi
  have lp := yc_scene_loop O X (Nat.le_of_lt hi) N a3 (fun (μ15 : wMem) => if (μ15.1 0 28) ≤ (nI i) then some μ15 else wG (ok_in (nI i) n) (wLet (wSI μ15 0 6 ((Int64.toInt32 (wAt μ15 c0 t (Int32.toNatClampNeg (nI i)))) - (Int64.toInt32 (wAt μ15 c0 t (Int32.toNatClampNeg (nI i)))) / (10 : Int32) * (10 : Int32))) fun μ18 => some μ18)) i N 0 ν (ySt.of (s / 49) τ.sd (s / 7 % 7) (s % 7) 1) (by omega) (by omega) (fun c2 i2 a b => by
      have h := kc c2 i2 a b
      rw [yPut_o ν τ (by omega) (by omega)] at h
      rw [yPut_o ν _ (by omega) (by omega)]
      exact h)
  have kc3 : ∀ σ, yKC μ (yPut ν σ) := fun σ c2 i2 a b => by
      have h := kc c2 i2 a b
      rw [yPut_o ν τ (by omega) (by omega)] at h
      rw [yPut_o ν _ (by omega) (by omega)]
      exact h
  unfold fX0_beScene
  rw [e2, e1, e3, yWL, yPut_sov, yG (show ok_in (0 : Int32) 2 = true by decide), yWL, show Int32.toNatClampNeg (0 : Int32) = 0 by decide, yPut_s90, yG (show ok_in (1 : Int32) 2 = true by decide), yWL, show Int32.toNatClampNeg (1 : Int32) = 1 by decide, yPut_s91, yWL]
  have e7 : wSI (yPut ν (ySt.of (s / 49) τ.sd (s / 7 % 7) (s % 7) τ.mk)) 0 7 (1 : Int32) = yPut ν (ySt.of (s / 49) τ.sd (s / 7 % 7) (s % 7) 1) := yPut_smk ν _ 1
  refine Eq.trans (congrArg (fun z => gX0_beScene_46 N c0 t n (nI i) a3 _ N 0 z) e7) ?_
  refine lp.trans ?_
  have f28 : (yPut ν (ySt.of (s / 49) τ.sd (s / 7 % 7) (s % 7) (yMz w i))).1 0 28 = nI n := by rw [yPut_o _ _ (by omega) (by decide)]; exact h28
  show (if (yPut ν (ySt.of (s / 49) τ.sd (s / 7 % 7) (s % 7) (yMz w i))).1 0 28 ≤ nI i then _ else _) = _
  rw [f28, yIf (xI_le (a := n) (b := i) (by omega) (by omega)), if_neg (by omega), yG (xI_in hi (by omega)), yWL, xI_cl (by omega)]
  have at0 := X.at (kc3 (ySt.of (s / 49) τ.sd (s / 7 % 7) (s % 7) (yMz w i))) hi
  have r10 : nI (w i) - nI (w i) / (10 : Int32) * (10 : Int32) = nI (w i % 10) := xI_r10 (by omega)
  show some (wSI (yPut ν (ySt.of (s / 49) τ.sd (s / 7 % 7) (s % 7) (yMz w i))) 0 6 ((wAt (yPut ν (ySt.of (s / 49) τ.sd (s / 7 % 7) (s % 7) (yMz w i))) c0 t i).toInt32 - (wAt (yPut ν (ySt.of (s / 49) τ.sd (s / 7 % 7) (s % 7) (yMz w i))) c0 t i).toInt32 / (10 : Int32) * (10 : Int32))) = _
  rw [at0, r10, yPut_ssd]
  rfl
theorem yc_scene {φ : Nat → Nat → Nat} (O : yOk φ) {σ : ySt} (S : ySok φ σ) (ν : wMem) (N : Nat) : fX0_scene N (yPut ν σ) = some (nI (yKzc σ), yPut ν σ) := by
  have h6 := O.persons
  have h64 := yOv64 O S
  have z0 := S.z0
  have z1 := S.z1
  have m7 : ∀ x, nI x * (7 : Int32) = nI (x * 7) := fun x => xI_mul x 7
  have p : ∀ x z, z ≤ 6 → nI x + (nI z - 1) + (1 : Int32) = nI (x + z) := fun x z _ => by
    have e : nI x + (nI z - 1) + (1 : Int32) = nI x + nI z := by
      apply Int32.toBitVec_inj.mp
      simp only [Int32.toBitVec_add, Int32.toBitVec_sub]
      generalize (nI x).toBitVec = a
      generalize (nI z).toBitVec = b
      show a + (b - 1#32) + 1#32 = a + b
      rw [BitVec.add_assoc, BitVec.sub_add_cancel]
    rw [e, nI_add]
  unfold fX0_scene
  rw [yG (show ok_in (0 : Int32) 2 = true by decide), yG (show ok_in (1 : Int32) 2 = true by decide), show Int32.toNatClampNeg (0 : Int32) = 0 by decide, show Int32.toNatClampNeg (1 : Int32) = 1 by decide, yPut_5, yPut_90, yPut_91, m7, p _ _ (by omega), m7, p _ _ (by omega)]
  rfl
theorem yc_spot (N i s : Nat) (ν : wMem) : fX0_spot N (nI i) (nI s) ν = some (nI (3136 * i + s), ν) := by
  have : (3136 : Int32) * nI i = nI (3136 * i) := xI_mul 3136 i
  unfold fX0_spot
  rw [this, nI_add]
