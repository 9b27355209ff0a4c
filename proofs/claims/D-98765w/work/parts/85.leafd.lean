set_option maxRecDepth 100000
/-! part 85: the component's riskOf, state, be, asAtFirst, isEnd, does0; what acts keep -/
theorem yBV {β : Type} (μ : wMem) (f : wMem → Option β) : wBindV (some μ) f = f μ := rfl
def yRisk (φ : Nat → Nat → Nat) (p k : Nat) : Nat := (100 - φ 1 p) * φ 3 k / 100
theorem yRisk_le {φ : Nat → Nat → Nat} (O : yOk φ) {p k : Nat} (hp : p < φ 0 2) (hk : k < φ 0 3) : yRisk φ p k ≤ 100 := by
  have := O.strict k hk
  have h1 : 100 - φ 1 p ≤ 100 := Nat.sub_le _ _
  have h2 : (100 - φ 1 p) * φ 3 k ≤ 100 * 100 := Nat.mul_le_mul h1 this
  unfold yRisk
  omega
theorem yc_risk {φ : Nat → Nat → Nat} {μ : wMem} (O : yOk φ) (F : yFC φ μ) (N : Nat) {p k : Nat} (hp : p < φ 0 2) (hk : k < φ 0 3) :
    fX0_riskOf N (nI p) (nI k) μ = some (nI (yRisk φ p k), μ) := by
  have h6 := O.persons
  have h2 := O.posts
  have a1 := O.like p hp
  have a2 := O.strict k hk
  have h1 : 100 - φ 1 p ≤ 100 := Nat.sub_le _ _
  have hm : (100 - φ 1 p) * φ 3 k ≤ 100 * 100 := Nat.mul_le_mul h1 a2
  unfold fX0_riskOf
  rw [yG (xI_in (by omega) (by omega)), yG (xI_in (by omega) (by omega)), xI_cl (by omega), xI_cl (by omega), F.like p hp, F.strict k hk]
  have e1 : (100 : Int32) - nI (φ 1 p) = nI (100 - φ 1 p) := xI_sub (a := 100) a1
  have e2 : nI ((100 - φ 1 p) * φ 3 k) / (100 : Int32) = nI ((100 - φ 1 p) * φ 3 k / 100) := xI_div (by omega) (b := 100) (by decide)
  rw [e1, xI_mul, e2]
  rfl
def yNum (σ : ySt) : Nat := (((σ.ov * 2 + σ.sd) * 7 + σ.z0) * 7 + σ.z1) * 16 + σ.mk
theorem xI_up (a z : Nat) : nI a + (nI z - 1) + 1 = nI (a + z) := by
  rw [Int32.add_assoc, Int32.sub_add_cancel, nI_add]
theorem yc_state (μ : wMem) (σ : ySt) (N : Nat) : fX0_state N (yPut μ σ) = some (nI (yNum σ), yPut μ σ) := by
  unfold fX0_state
  rw [yG (show ok_in (0 : Int32) 2 = true by decide), yG (show ok_in (1 : Int32) 2 = true by decide)]
  show some (((((yPut μ σ).1 0 5 * nI 2 + (yPut μ σ).1 0 6) * nI 7 + (yPut μ σ).1 9 0 + 1) * nI 7 + (yPut μ σ).1 9 1 + 1) * nI 16 + (yPut μ σ).1 0 7, yPut μ σ) = _
  rw [yPut_5, yPut_6, yPut_7, yPut_90, yPut_91]
  simp only [xI_mul, nI_add, xI_up]
  rfl
def yUn (s : Nat) : ySt := ySt.of (s / 1568) (s / 784 % 2) (s / 112 % 7) (s / 16 % 7) (s % 16)
theorem yUn_num {φ : Nat → Nat → Nat} {σ : ySt} (O : yOk φ) (S : ySok φ σ) : yUn (yNum σ) = ySt.of σ.ov σ.sd σ.z0 σ.z1 σ.mk := by
  have h6 := O.persons
  have a1 := S.sd
  have a2 := S.z0
  have a3 := S.z1
  have a4 := S.mk1
  unfold yUn yNum
  generalize σ.ov = o at *
  generalize σ.sd = s at *
  generalize σ.z0 = x at *
  generalize σ.z1 = y at *
  generalize σ.mk = m at *
  have e1 : ((((o * 2 + s) * 7 + x) * 7 + y) * 16 + m) / 1568 = o := by omega
  have e2 : ((((o * 2 + s) * 7 + x) * 7 + y) * 16 + m) / 784 % 2 = s := by omega
  have e3 : ((((o * 2 + s) * 7 + x) * 7 + y) * 16 + m) / 112 % 7 = x := by omega
  have e4 : ((((o * 2 + s) * 7 + x) * 7 + y) * 16 + m) / 16 % 7 = y := by omega
  have e5 : ((((o * 2 + s) * 7 + x) * 7 + y) * 16 + m) % 16 = m := by omega
  rw [e1, e2, e3, e4, e5]
theorem ySt.eta (σ : ySt) : ySt.of σ.ov σ.sd σ.z0 σ.z1 σ.mk = σ := rfl
theorem yNum_lt {φ : Nat → Nat → Nat} {σ : ySt} (O : yOk φ) (S : ySok φ σ) : yNum σ < 100352 := by
  have h6 := O.persons
  have := yOv64 O S
  have a1 := S.sd
  have a2 := S.z0
  have a3 := S.z1
  have a4 := S.mk1
  unfold yNum
  omega
theorem yPut_of (μ : wMem) (a b c d e : Nat) : wSI (wSI (wSI (wSI (wSI μ 0 7 (nI e)) 9 1 (nI d - 1)) 9 0 (nI c - 1)) 0 6 (nI b)) 0 5 (nI a) = yPut μ (ySt.of a b c d e) := by
  apply yM_ext
  · intro x i
    simp only [yPut, yS_get, ySt.of_ov, ySt.of_sd, ySt.of_z0, ySt.of_z1, ySt.of_mk]
    repeat' split
    all_goals first | rfl | (exfalso; omega) | simp_all
  · rfl
theorem yc_be (μ : wMem) {s : Nat} (hs : s < 2 ^ 31) (N : Nat) : fX0_be N (nI s) μ = some (yPut μ (yUn s)) := by
  unfold fX0_be wLet
  dsimp only
  rw [yG (show ok_in (1 : Int32) 2 = true by decide), yG (show ok_in (0 : Int32) 2 = true by decide)]
  have e16 : nI s / (16 : Int32) = nI (s / 16) := xI_div hs (b := 16) (by decide)
  have r16 : nI s - nI (s / 16) * (16 : Int32) = nI (s % 16) := by rw [← e16]; exact xI_rem hs (b := 16) (by decide)
  have e7 : ∀ a, a < 2 ^ 31 → nI a / (7 : Int32) = nI (a / 7) := fun a h => xI_div h (b := 7) (by decide)
  have r7 : ∀ a, a < 2 ^ 31 → nI a - nI (a / 7) * (7 : Int32) = nI (a % 7) := fun a h => by rw [← e7 a h]; exact xI_rem h (b := 7) (by decide)
  have e2 : ∀ a, a < 2 ^ 31 → nI a / (2 : Int32) = nI (a / 2) := fun a h => xI_div h (b := 2) (by decide)
  have r2 : ∀ a, a < 2 ^ 31 → nI a - nI (a / 2) * (2 : Int32) = nI (a % 2) := fun a h => by rw [← e2 a h]; exact xI_rem h (b := 2) (by decide)
  rw [e16, r16, e7 (s / 16) (by omega), r7 (s / 16) (by omega), e7 (s / 16 / 7) (by omega), r7 (s / 16 / 7) (by omega), e2 (s / 16 / 7 / 7) (by omega), r2 (s / 16 / 7 / 7) (by omega)]
  refine (congrArg some (yPut_of μ (s / 16 / 7 / 7 / 2) (s / 16 / 7 / 7 % 2) (s / 16 / 7 % 7) (s / 16 % 7) (s % 16))).trans ?_
  have d1 : s / 16 / 7 / 7 / 2 = s / 1568 := by omega
  have d2 : s / 16 / 7 / 7 = s / 784 := by omega
  have d3 : s / 16 / 7 = s / 112 := by omega
  rw [d1, d2, d3]
  rfl
def yFirst : ySt := ySt.of 0 0 0 0 1
theorem yc_first (μ : wMem) (N : Nat) : fX0_asAtFirst N μ = some (yPut μ yFirst) := by
  unfold fX0_asAtFirst wLet
  dsimp only
  rw [yG (show ok_in (0 : Int32) 2 = true by decide), yG (show ok_in (1 : Int32) 2 = true by decide)]
  congr 1
theorem yFirst_ok (φ : Nat → Nat → Nat) : ySok φ yFirst := ⟨Nat.pow_pos (by decide), by decide, Nat.zero_le _, Nat.zero_le _, by decide, by decide⟩
def yEnd (φ : Nat → Nat → Nat) : Nat := (2 ^ φ 0 2 - 1) &&& (63 ^^^ φ 0 5)
theorem yc_end {φ : Nat → Nat → Nat} {μ : wMem} {σ : ySt} (O : yOk φ) (F : yFC φ μ) (S : ySok φ σ) (N : Nat) : fX0_isEnd N (yPut μ σ) = some (yB (decide (σ.ov = yEnd φ)), yPut μ σ) := by
  have h6 := O.persons
  have h64 := yOv64 O S
  have h5 := O.stay
  have key : ∀ n, n ≤ 6 → ∀ s, s < 64 → (((1 : Int32) <<< (nI n &&& 31)) - 1) &&& (nI s ^^^ (-1 : Int32)) = nI ((2 ^ n - 1) &&& (63 ^^^ s)) := by decide +kernel
  have lt : yEnd φ < 2 ^ 31 := by
    unfold yEnd
    have : (2 ^ φ 0 2 - 1) &&& (63 ^^^ φ 0 5) ≤ 2 ^ φ 0 2 - 1 := Nat.and_le_left
    have h : 2 ^ φ 0 2 ≤ 2 ^ 6 := Nat.pow_le_pow_right (by decide) h6
    omega
  unfold fX0_isEnd fX0_all
  rw [yBd, yPut_c μ σ (c := 1) (by decide) (by decide), yPut_c μ σ (c := 1) (by decide) (by decide), F.fld 2 (by decide), F.fld 5 (by decide), yPut_5, key _ h6 _ h5]
  show (if nI σ.ov = nI (yEnd φ) then _ else _) = _
  rw [yIf (xI_e (by omega) lt)]
  by_cases g : σ.ov = yEnd φ
  · rw [if_pos g]; simp [yB, g]
  · rw [if_neg g]; simp [yB, g]
/-- an act that can be keeps a state a state -/
theorem yDo_ok {φ : Nat → Nat → Nat} {σ : ySt} (O : yOk φ) (S : ySok φ σ) {a : Nat} (ha : yAct φ a) : ySok φ (yDo φ σ a) := by
  have hsd := S.sd
  unfold yDo
  by_cases h : a = 200
  · rw [if_pos h]
    exact ⟨S.ov, by rw [ySt.of_sd]; omega, S.z0, S.z1, S.mk0, S.mk1⟩
  · rw [if_neg h]
    obtain ⟨h1, h2, h3, h4⟩ := ha.resolve_left h
    have q : ∀ p, p < φ 0 2 → 2 ^ p < 2 ^ φ 0 2 := fun p hp => Nat.pow_lt_pow_right (by decide) hp
    refine ⟨?_, by rw [ySt.of_sd]; omega, ?_, ?_, yMk_pos _ S.mk1 _ S.sd S.mk0, yMk_lt _ S.mk1 _ S.sd⟩
    · rw [ySt.of_ov]
      apply Nat.xor_lt_two_pow S.ov
      apply Nat.or_lt_two_pow (q _ h4)
      split
      · exact Nat.pow_pos (by decide)
      · exact q _ (by omega)
    · rw [ySt.of_z0]; have := S.z0; split <;> omega
    · rw [ySt.of_z1]; have := S.z1; split <;> omega
