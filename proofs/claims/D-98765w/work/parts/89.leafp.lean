set_option maxRecDepth 100000
/-! part 89: the twin's crosses, does, numberOf, begin, riskOf -/
def yCr (φ : Nat → Nat → Nat) (σ : ySt) (p c k : Nat) : ySt :=
  ySt.of (σ.ov ^^^ (2 ^ p ||| (if c = 0 then 0 else 2 ^ (c - 1)))) (1 - σ.sd) (if k = 0 ∨ φ 0 7 ≠ 0 then p + 1 else σ.z0) (if k = 1 ∨ φ 0 7 ≠ 0 then p + 1 else σ.z1) (yMk σ.mk σ.sd)
theorem yDo_cr (φ : Nat → Nat → Nat) (σ : ySt) {a : Nat} (h : a ≠ 200) : yDo φ σ a = yCr φ σ (a % 10) (a % 100 / 10) (a / 100) := by unfold yDo; rw [if_neg h]; rfl
theorem yDo_200 (φ : Nat → Nat → Nat) (σ : ySt) : yDo φ σ 200 = ySt.of σ.ov (1 - σ.sd) σ.z0 σ.z1 σ.mk := rfl
theorem ym_crossMid {φ : Nat → Nat → Nat} {μ : wMem} {σ : ySt} (O : yOk φ) (F : yFM φ 0 μ) (S : ySok φ σ) (N : Nat) {p k v : Nat} (hp : p < φ 0 2) (hk : k < φ 0 3) :
    wBindV (fX6_marks N (nI σ.sd) (wSI (yTut μ (ySt.of v σ.sd σ.z0 (if φ 0 3 ≤ 1 then 0 else σ.z1) (σ.mk - 1))) 0 24 ((1 : Int32) - nI σ.sd))) (fun μ8 => (wG (ok_in (1 : Int32) 35) (wLet (fun (v11 : Int32) (μ10 : wMem) => wLet (fun (μ12 : wMem) => wG (ok_in (3 : Int32) 35) (if (μ12.1 7 (Int32.toNatClampNeg (3 : Int32))) ≤ (1 : Int32) then some μ12 else wLet (fun (μ15 : wMem) => wLet (wSI μ15 0 26 (nI p + (1 : Int32))) fun μ16 => some μ16) fun Jcrosses103 => if nI k = (1 : Int32) then Jcrosses103 μ12 else if v11 = 0 then some μ12 else Jcrosses103 μ12)) fun Jcrosses83 => wLet (fun (μ19 : wMem) => wLet (wSI μ19 0 25 (nI p + (1 : Int32))) fun μ20 => Jcrosses83 μ20) fun Jcrosses76 => if nI k = 0 then Jcrosses76 μ10 else if v11 = 0 then Jcrosses83 μ10 else Jcrosses76 μ10) fun Jcrosses65 => if (μ8.1 7 (Int32.toNatClampNeg (1 : Int32))) = (1 : Int32) then Jcrosses65 1 μ8 else Jcrosses65 0 μ8))) =
    some (yTut μ (yT φ (ySt.of v (1 - σ.sd) (if k = 0 ∨ φ 0 7 ≠ 0 then p + 1 else σ.z0) (if k = 1 ∨ φ 0 7 ≠ 0 then p + 1 else σ.z1) (yMk σ.mk σ.sd)))) := by
  rw [yc_sub1 S.sd, yTut_s24, ym_marks (φ := φ) (m := σ.mk) S.mk0 S.mk1 rfl N S.sd, yBV]
  refine (ym_crossTail O F hp hk).trans ?_
  congr 1
  unfold yT
  apply yTut_eq <;> simp only [ySt.of_ov, ySt.of_sd, ySt.of_z0, ySt.of_z1, ySt.of_mk]
  by_cases g1 : φ 0 3 ≤ 1
  · rw [if_pos g1, if_pos g1, if_pos g1]
  · rw [if_neg g1, if_neg g1, if_neg g1]
theorem ym_crosses {φ : Nat → Nat → Nat} {μ : wMem} {σ : ySt} (O : yOk φ) (F : yFM φ 0 μ) (S : ySok φ σ) (N : Nat) {p c k : Nat} (hp : p < φ 0 2) (hc : c ≤ φ 0 2) (hk : k < φ 0 3)
    (hs : yBit σ.ov p = σ.sd) (hpc : c ≠ 0 → p ≠ c - 1) : fX6_crosses N (nI p) (nI c - 1) (nI k) (yTut μ (yT φ σ)) = some (yTut μ (yT φ (yCr φ σ p c k))) := by
  have h6 := O.persons
  have p1 : (1 : Int32) <<< (nI p &&& 31) = nI (2 ^ p) := xI_pow _ (by omega)
  have e23 : (yTut μ (yT φ σ)).1 0 23 = nI σ.ov := yTut_23 μ _
  unfold fX6_crosses
  rw [ym_side O S μ N (by omega), yBd, hs]
  show (if nI c - 1 = (-1 : Int32) then _ else _) = _
  rw [e23, p1, xI_xor, yTut_s23, yIf (xI_m1 (by omega))]
  by_cases g : c = 0
  · rw [if_pos g]
    have T := ym_crossMid (v := σ.ov ^^^ 2 ^ p) O F S N hp hk
    refine Eq.trans ?_ (T.trans ?_)
    · rfl
    · unfold yCr
      rw [if_pos g, Nat.or_zero]
  · rw [if_neg g, xI_pred (by omega)]
    have p2 : (1 : Int32) <<< (nI (c - 1) &&& 31) = nI (2 ^ (c - 1)) := xI_pow _ (by omega)
    have e2 : (yTut μ (ySt.of (σ.ov ^^^ 2 ^ p) (yT φ σ).sd (yT φ σ).z0 (yT φ σ).z1 (yT φ σ).mk)).1 0 23 = nI (σ.ov ^^^ 2 ^ p) := yTut_23 μ _
    have T := ym_crossMid (v := σ.ov ^^^ 2 ^ p ^^^ 2 ^ (c - 1)) O F S N hp hk
    have ex : wSI (yTut μ (ySt.of (σ.ov ^^^ 2 ^ p) (yT φ σ).sd (yT φ σ).z0 (yT φ σ).z1 (yT φ σ).mk)) 0 23 (nI (σ.ov ^^^ 2 ^ p) ^^^ nI (2 ^ (c - 1))) = yTut μ (ySt.of (σ.ov ^^^ 2 ^ p ^^^ 2 ^ (c - 1)) σ.sd σ.z0 (if φ 0 3 ≤ 1 then 0 else σ.z1) (σ.mk - 1)) := by
      rw [xI_xor, yTut_s23]
      rfl
    rw [e2, p2]
    rw [ex]
    refine Eq.trans ?_ (T.trans ?_)
    · rfl
    · unfold yCr
      rw [if_neg g, yXorOr p (by omega) (c - 1) (by omega) (hpc g), ← Nat.xor_assoc]
/-- what an act that can be says of the state -/
theorem yCan_side {φ : Nat → Nat → Nat} {σ : ySt} {a : Nat} (h : yCan φ σ a = true) (ha : a ≠ 200) : yBit σ.ov (a % 10) = σ.sd ∧ (a % 100 / 10 ≠ 0 → a % 10 ≠ a % 100 / 10 - 1) := by
  have hw : yWhy φ σ (a % 10) (a % 100 / 10) (a / 100) = 0 := by
    unfold yCan at h
    simpa [ha] using h
  unfold yWhy at hw
  by_cases g1 : yBit σ.ov (a % 10) = σ.sd
  · refine ⟨g1, fun hc e => ?_⟩
    rw [if_pos g1] at hw
    by_cases g2 : yBit (φ 0 4) (a % 10) = 1
    · rw [if_pos g2] at hw; cases hw
    · rw [if_neg g2, if_neg hc] at hw
      by_cases g3 : yBit (φ 0 4) (a % 100 / 10 - 1) = 1
      · rw [e] at g2; exact g2 g3
      · rw [if_neg g3] at hw; cases hw
  · rw [if_neg g1] at hw; cases hw
theorem ym_does {φ : Nat → Nat → Nat} {μ : wMem} {σ : ySt} (O : yOk φ) (F : yFM φ 0 μ) (S : ySok φ σ) (N : Nat) {a : Nat} (ha : yAct φ a) (hc : yCan φ σ a = true) :
    fX6_does N (nI a) (yTut μ (yT φ σ)) = some (yTut μ (yT φ (yDo φ σ a))) := by
  have hl := ha.le
  have e24 : (yTut μ (yT φ σ)).1 0 24 = nI σ.sd := yTut_24 μ _
  unfold fX6_does
  rw [yIf (xI_e200 (by omega))]
  by_cases h : a = 200
  · rw [if_pos h]
    show some (wSI (yTut μ (yT φ σ)) 0 24 (1 - (yTut μ (yT φ σ)).1 0 24)) = _
    rw [e24, yc_sub1 S.sd, yTut_s24, h, yDo_200]
    rfl
  · rw [if_neg h]
    obtain ⟨h1, h2, h3, h4⟩ := ha.resolve_left h
    obtain ⟨s1, s2⟩ := yCan_side hc h
    rw [xI_r10 (by omega), xI_rd (by omega), xI_d100 (by omega), ym_crosses O F S N h4 h3 h2 s1 s2, yBV, yDo_cr φ σ h]
/-- the twin's number of a state of its own -/
def yTn (τ : ySt) : Nat := ((τ.ov * 2 + τ.sd) * 49 + τ.z0 * 7 + τ.z1) * 15 + τ.mk
theorem ym_num (μ : wMem) (τ : ySt) (N : Nat) : fX6_numberOf N (yTut μ τ) = some (nI (yTn τ), yTut μ τ) := by
  unfold fX6_numberOf
  rw [yTut_23, yTut_24, yTut_25, yTut_26, yTut_27]
  show some ((((nI τ.ov * nI 2 + nI τ.sd) * nI 49 + nI τ.z0 * nI 7) + nI τ.z1) * nI 15 + nI τ.mk, yTut μ τ) = _
  simp only [xI_mul, nI_add]
  rfl
def yTu (s : Nat) : ySt := ySt.of (s / 1470) (s / 735 % 2) (s / 105 % 7) (s / 15 % 7) (s % 15)
theorem yTut_of (μ : wMem) (a b c d e : Nat) : wSI (wSI (wSI (wSI (wSI μ 0 27 (nI e)) 0 26 (nI d)) 0 25 (nI c)) 0 24 (nI b)) 0 23 (nI a) = yTut μ (ySt.of a b c d e) := rfl
theorem ym_begin (μ : wMem) {s : Nat} (hs : s < 2 ^ 31) (N : Nat) : fX6_begin N (nI s) μ = some (yTut μ (yTu s)) := by
  unfold fX6_begin wLet
  dsimp only
  have e15 : nI s / (15 : Int32) = nI (s / 15) := xI_div hs (b := 15) (by decide)
  have r15 : nI s - nI (s / 15) * (15 : Int32) = nI (s % 15) := by rw [← e15]; exact xI_rem hs (b := 15) (by decide)
  have e105 : nI s / (105 : Int32) = nI (s / 105) := xI_div hs (b := 105) (by decide)
  have e735 : nI s / (735 : Int32) = nI (s / 735) := xI_div hs (b := 735) (by decide)
  have e1470 : nI s / (1470 : Int32) = nI (s / 1470) := xI_div hs (b := 1470) (by decide)
  have e7 : ∀ a, a < 2 ^ 31 → nI a / (7 : Int32) = nI (a / 7) := fun a h => xI_div h (b := 7) (by decide)
  have r7 : ∀ a, a < 2 ^ 31 → nI a - nI (a / 7) * (7 : Int32) = nI (a % 7) := fun a h => by rw [← e7 a h]; exact xI_rem h (b := 7) (by decide)
  have e2 : ∀ a, a < 2 ^ 31 → nI a / (2 : Int32) = nI (a / 2) := fun a h => xI_div h (b := 2) (by decide)
  have r2 : ∀ a, a < 2 ^ 31 → nI a - nI (a / 2) * (2 : Int32) = nI (a % 2) := fun a h => by rw [← e2 a h]; exact xI_rem h (b := 2) (by decide)
  rw [e15, r15, e105, e735, e1470, e7 (s / 15) (by omega), r7 (s / 15) (by omega), e7 (s / 105) (by omega), r7 (s / 105) (by omega), e2 (s / 735) (by omega), r2 (s / 735) (by omega)]
  rfl
theorem yT_lt {φ : Nat → Nat → Nat} {σ : ySt} (O : yOk φ) (S : ySok φ σ) : yTn (yT φ σ) < 94080 := by
  have h6 := O.persons
  have := yOv64 O S
  have a1 := S.sd
  have a2 := S.z0
  have a3 := S.z1
  have a4 := S.mk1
  have a5 : (if φ 0 3 ≤ 1 then 0 else σ.z1) ≤ 6 := by split <;> omega
  unfold yTn yT
  rw [ySt.of_ov, ySt.of_sd, ySt.of_z0, ySt.of_z1, ySt.of_mk]
  omega
theorem yTu_num {φ : Nat → Nat → Nat} {σ : ySt} (O : yOk φ) (S : ySok φ σ) : yTu (yTn (yT φ σ)) = yT φ σ := by
  have h6 := O.persons
  have a1 := S.sd
  have a2 := S.z0
  have a3 := S.z1
  have a4 := S.mk1
  have a5 : (if φ 0 3 ≤ 1 then 0 else σ.z1) ≤ 6 := by split <;> omega
  unfold yTu yTn yT
  rw [ySt.of_ov, ySt.of_sd, ySt.of_z0, ySt.of_z1, ySt.of_mk]
  generalize (if φ 0 3 ≤ 1 then 0 else σ.z1) = y at *
  generalize σ.ov = o at *
  generalize σ.sd = s at *
  generalize σ.z0 = x at *
  generalize σ.mk = m at *
  have e1 : (((o * 2 + s) * 49 + x * 7 + y) * 15 + (m - 1)) / 1470 = o := by omega
  have e2 : (((o * 2 + s) * 49 + x * 7 + y) * 15 + (m - 1)) / 735 % 2 = s := by omega
  have e3 : (((o * 2 + s) * 49 + x * 7 + y) * 15 + (m - 1)) / 105 % 7 = x := by omega
  have e4 : (((o * 2 + s) * 49 + x * 7 + y) * 15 + (m - 1)) / 15 % 7 = y := by omega
  have e5 : (((o * 2 + s) * 49 + x * 7 + y) * 15 + (m - 1)) % 15 = m - 1 := by omega
  rw [e1, e2, e3, e4, e5]
theorem ym_risk {φ : Nat → Nat → Nat} {μ : wMem} (O : yOk φ) (F : yFM φ 0 μ) (N : Nat) {p k : Nat} (hp : p < φ 0 2) (hk : k < φ 0 3) :
    fX6_riskOf N (nI p) (nI k) μ = some (nI (yRisk φ p k), μ) := by
  have h6 := O.persons
  have h2 := O.posts
  have a1 := O.like p hp
  have a2 := O.strict k hk
  have h1 : 100 - φ 1 p ≤ 100 := Nat.sub_le _ _
  have hm : (100 - φ 1 p) * φ 3 k ≤ 100 * 100 := Nat.mul_le_mul h1 a2
  have e3 : (3 : Int32) * nI k = nI (3 * k) := xI_mul 3 k
  unfold fX6_riskOf
  rw [e3, yG (xI_in (by omega) (by omega)), yG (xI_in (by omega) (by omega)), xI_cl (by omega), xI_cl (by omega), F.like hp, F.strict hk]
  have e1 : (100 : Int32) - nI (φ 1 p) = nI (100 - φ 1 p) := xI_sub (a := 100) a1
  have e2 : nI ((100 - φ 1 p) * φ 3 k) / (100 : Int32) = nI ((100 - φ 1 p) * φ 3 k / 100) := xI_div (by omega) (b := 100) (by decide)
  rw [e1, xI_mul, e2]
  rfl
