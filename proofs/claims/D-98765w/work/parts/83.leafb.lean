set_option maxRecDepth 100000
/-! part 83: the component's whyNot, can, does, riskOf, state, be -/
theorem xI_e {a b : Nat} (ha : a < 2 ^ 31) (hb : b < 2 ^ 31) : (nI a = nI b) = (a = b) := xI_eq ha hb
theorem xI_e0 {a : Nat} (ha : a < 2 ^ 31) : (nI a = (0 : Int32)) = (a = 0) := xI_eq ha (b := 0) (by decide)
theorem xI_e1 {a : Nat} (ha : a < 2 ^ 31) : (nI a = (1 : Int32)) = (a = 1) := xI_eq ha (b := 1) (by decide)
theorem xI_e200 {a : Nat} (ha : a < 2 ^ 31) : (nI a = (200 : Int32)) = (a = 200) := xI_eq ha (b := 200) (by decide)
theorem xI_r10 {a : Nat} (ha : a < 2 ^ 31) : nI a - nI a / (10 : Int32) * (10 : Int32) = nI (a % 10) := xI_rem ha (b := 10) (by decide)
theorem xI_d100 {a : Nat} (ha : a < 2 ^ 31) : nI a / (100 : Int32) = nI (a / 100) := xI_div ha (b := 100) (by decide)
theorem xI_rd {a : Nat} (ha : a < 2 ^ 31) : (nI a - nI a / (100 : Int32) * (100 : Int32)) / (10 : Int32) = nI (a % 100 / 10) := by
  have h : nI a - nI a / (100 : Int32) * (100 : Int32) = nI (a % 100) := xI_rem ha (b := 100) (by decide)
  rw [h]
  exact xI_div (by omega) (b := 10) (by decide)
theorem yBit_lt (s p : Nat) : yBit s p < 2 := Nat.mod_lt _ (by decide)
theorem ySt.of_ov (a b c d e : Nat) : (ySt.of a b c d e).ov = a := rfl
theorem ySt.of_sd (a b c d e : Nat) : (ySt.of a b c d e).sd = b := rfl
theorem ySt.of_z0 (a b c d e : Nat) : (ySt.of a b c d e).z0 = c := rfl
theorem ySt.of_z1 (a b c d e : Nat) : (ySt.of a b c d e).z1 = d := rfl
theorem ySt.of_mk (a b c d e : Nat) : (ySt.of a b c d e).mk = e := rfl
def ySt.sz (σ : ySt) (k v : Nat) : ySt := ySt.of σ.ov σ.sd (if k = 0 then v else σ.z0) (if k = 1 then v else σ.z1) σ.mk
theorem yPut_sov (μ : wMem) (σ : ySt) (v : Nat) : wSI (yPut μ σ) 0 5 (nI v) = yPut μ (ySt.of v σ.sd σ.z0 σ.z1 σ.mk) := by
  apply yM_ext
  · intro c i
    simp only [yPut, yS_get, ySt.of_ov, ySt.of_sd, ySt.of_z0, ySt.of_z1, ySt.of_mk]
    repeat' split
    all_goals first | rfl | (exfalso; omega) | simp_all
  · rfl
theorem yPut_ssd (μ : wMem) (σ : ySt) (v : Nat) : wSI (yPut μ σ) 0 6 (nI v) = yPut μ (ySt.of σ.ov v σ.z0 σ.z1 σ.mk) := by
  apply yM_ext
  · intro c i
    simp only [yPut, yS_get, ySt.of_ov, ySt.of_sd, ySt.of_z0, ySt.of_z1, ySt.of_mk]
    repeat' split
    all_goals first | rfl | (exfalso; omega) | simp_all
  · rfl
theorem yPut_smk (μ : wMem) (σ : ySt) (v : Nat) : wSI (yPut μ σ) 0 7 (nI v) = yPut μ (ySt.of σ.ov σ.sd σ.z0 σ.z1 v) := by
  apply yM_ext
  · intro c i
    simp only [yPut, yS_get, ySt.of_ov, ySt.of_sd, ySt.of_z0, ySt.of_z1, ySt.of_mk]
    repeat' split
    all_goals first | rfl | (exfalso; omega) | simp_all
  · rfl
theorem yPut_sz (μ : wMem) (σ : ySt) {k v : Nat} (hk : k < 2) (hv : 0 < v) : wSI (yPut μ σ) 9 k (nI (v - 1)) = yPut μ (σ.sz k v) := by
  have e : k = 0 ∨ k = 1 := by omega
  rw [← xI_pred hv]
  apply yM_ext
  · intro c i
    simp only [yPut, yS_get, ySt.sz, ySt.of_ov, ySt.of_sd, ySt.of_z0, ySt.of_z1, ySt.of_mk]
    rcases e with rfl | rfl
    all_goals
      repeat' split
      all_goals first | rfl | (exfalso; omega) | simp_all
  · rfl
theorem yc_has {a p : Nat} (ha : a < 2 ^ 31) (hp : p < 32) (N : Nat) (μ : wMem) : fX0_has N (nI a) (nI p) μ = some (yB (decide (yBit a p = 1)), μ) := by
  have := yBit_lt a p
  unfold fX0_has
  rw [xI_bit ha hp]
  show (if nI (yBit a p) = 1 then _ else _) = _
  rw [yIf (xI_e1 (by omega))]
  by_cases h : yBit a p = 1
  · rw [if_pos h]; simp [yB, h]
  · rw [if_neg h]; simp [yB, h]
theorem yB_0 (b : Bool) : (yB b = (0 : Int32)) = (b = false) := by cases b <;> simp [yB]
def yWhy (φ : Nat → Nat → Nat) (σ : ySt) (p c k : Nat) : Nat :=
  if yBit σ.ov p = σ.sd then
    if yBit (φ 0 4) p = 1 then 2
    else if c = 0 then (if yBeh φ (σ.z k) p k = false then 4 else if yFit (φ 5 k) σ.sd σ.mk = false then 5 else 0)
    else if yBit (φ 0 4) (c - 1) = 1 then
      if yBit σ.ov (c - 1) = σ.sd then (if yBeh φ (σ.z k) p k = false then 4 else if yFit (φ 5 k) σ.sd σ.mk = false then 5 else 0)
      else 3
    else 3
  else 1
theorem yOv64 {φ : Nat → Nat → Nat} {σ : ySt} (O : yOk φ) (S : ySok φ σ) : σ.ov < 64 := by
  have h6 := O.persons
  have := S.ov
  have h : 2 ^ φ 0 2 ≤ 2 ^ 6 := Nat.pow_le_pow_right (by decide) h6
  have : (2 : Nat) ^ 6 = 64 := rfl
  omega
theorem ySz {φ : Nat → Nat → Nat} {σ : ySt} (S : ySok φ σ) (k : Nat) : σ.z k ≤ φ 0 2 := by
  unfold ySt.z
  split
  · exact S.z0
  · exact S.z1
theorem yc_whyTail {φ : Nat → Nat → Nat} {μ : wMem} {σ : ySt} (O : yOk φ) (F : yFC φ μ) (S : ySok φ σ) {N : Nat} (hN : 4 ≤ N) {p k : Nat} (hp : p < φ 0 2) (hk : k < φ 0 3) :
    (wG (ok_in (nI k) 2) (wBind (fX0_mayBehind N ((yPut μ σ).1 9 (Int32.toNatClampNeg (nI k))) (nI p) (nI k) (yPut μ σ)) fun v10 μ9 => if v10 = 0 then some (4, μ9) else wBind (fX0_fitsMarks N (nI k) μ9) fun v14 μ13 => if v14 = 0 then some (5, μ13) else some (0, μ13))) =
    some (nI (if yBeh φ (σ.z k) p k = false then 4 else if yFit (φ 5 k) σ.sd σ.mk = false then 5 else 0), yPut μ σ) := by
  have h2 := O.posts
  rw [yG (xI_in (by omega) (by omega)), xI_cl (by omega), yPut_9 μ σ (show k < 2 by omega), yc_mayBehind O (yFC_put F σ) N (ySz S k) hp hk]
  show (if yB _ = 0 then _ else _) = _
  rw [yIf (yB_0 _)]
  by_cases h : yBeh φ (σ.z k) p k = false
  · rw [if_pos h, if_pos h]; rfl
  · rw [if_neg h, if_neg h, yc_fitsMarks O F S hN hk]
    show (if yB _ = 0 then _ else _) = _
    rw [yIf (yB_0 _)]
    by_cases h : yFit (φ 5 k) σ.sd σ.mk = false
    · rw [if_pos h, if_pos h]; rfl
    · rw [if_neg h, if_neg h]; rfl
theorem yc_whyNot {φ : Nat → Nat → Nat} {μ : wMem} {σ : ySt} (O : yOk φ) (F : yFC φ μ) (S : ySok φ σ) {N : Nat} (hN : 4 ≤ N) {p c k : Nat} (hp : p < φ 0 2) (hc : c ≤ φ 0 2) (hk : k < φ 0 3) :
    fX0_whyNot N (nI p) (nI c - 1) (nI k) (yPut μ σ) = some (nI (yWhy φ σ p c k), yPut μ σ) := by
  have h6 := O.persons
  have h64 := yOv64 O S
  have hch := O.children
  have hsd := S.sd
  have b1 := yBit_lt σ.ov p
  have b2 := yBit_lt σ.ov (c - 1)
  have T := yc_whyTail O F S hN hp hk
  unfold fX0_whyNot wLet
  dsimp only
  rw [yPut_5, yPut_6, yPut_c μ σ (by decide) (by decide), F.fld 4 (by decide), xI_bit (by omega) (by omega), yc_has (by omega) (by omega)]
  show (if nI (yBit σ.ov p) = nI σ.sd then _ else _) = _
  rw [yIf (xI_e (by omega) (by omega))]
  unfold yWhy
  by_cases g1 : yBit σ.ov p = σ.sd
  · rw [if_pos g1, if_pos g1]
    show (if yB _ = 0 then _ else _) = _
    rw [yIf (yB_0 _)]
    by_cases g2 : yBit (φ 0 4) p = 1
    · rw [if_neg (by simp [g2]), if_pos g2]; rfl
    · rw [if_pos (by simp [g2]), if_neg g2, yIf (xI_m1 (by omega))]
      by_cases g3 : c = 0
      · rw [if_pos g3, if_pos g3]
        exact T
      · rw [if_neg g3, if_neg g3, xI_pred (by omega), yPut_c μ σ (by decide) (by decide), F.fld 4 (by decide), yc_has (by omega) (by omega)]
        show (if yB _ = 0 then _ else if _ then _ else _) = _
        rw [yIf (yB_0 _)]
        by_cases g4 : yBit (φ 0 4) (c - 1) = 1
        · rw [if_neg (by simp [g4]), if_pos g4, yPut_5, yPut_6, xI_bit (by omega) (by omega)]
          show (if nI (yBit σ.ov (c - 1)) = nI σ.sd then _ else _) = _
          rw [yIf (xI_e (by omega) (by omega))]
          by_cases g5 : yBit σ.ov (c - 1) = σ.sd
          · rw [if_pos g5, if_pos g5]
            exact T
          · rw [if_neg g5, if_neg g5]; rfl
        · rw [if_pos (by simp [g4]), if_neg g4]; rfl
  · rw [if_neg g1, if_neg g1]; rfl
