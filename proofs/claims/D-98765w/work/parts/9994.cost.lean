set_option maxRecDepth 100000
/-! part 9994: what acts cost (b: 0 days, 1 risk, 2 crossings; H: what is told by the thousand, or by the ten thousand) -/
def yDay (φ : Nat → Nat → Nat) (a : Nat) : Nat := if a = 200 then φ 0 0 else 1
def yCst (φ : Nat → Nat → Nat) (H b a : Nat) : Nat :=
  if b = 0 then yDay φ a else if b = 1 then yDay φ a + (if a = 200 then 0 else H * yRisk φ (a % 10) (a / 100)) else (if a = 200 then 1 else H + 1)
theorem yc_of2 {φ : Nat → Nat → Nat} {μ : wMem} (F : yFC φ μ) (N : Nat) {a : Nat} (ha : a ≤ 200) : fX2_of N (nI a) μ = some (nI (yDay φ a), μ) := by
  unfold fX2_of yDay
  rw [yIf (xI_e200 (by omega)), F.fld 0 (by decide)]
  by_cases h : a = 200
  · rw [if_pos h, if_pos h]
  · rw [if_neg h, if_neg h]; rfl
theorem yc_of3 {φ : Nat → Nat → Nat} {μ : wMem} (O : yOk φ) (F : yFC φ μ) (N : Nat) {a : Nat} (ha : yAct φ a) : fX3_of N (nI a) μ = some (nI (yCst φ 1000 1 a), μ) := by
  have hl := ha.le
  have e : fX2_of_t20 N (nI a) μ = some (nI (yDay φ a), μ) := yc_of2 F N hl
  unfold fX3_of wLet fX0_personIn fX0_postIn
  dsimp only
  rw [e, yBd, yIf (xI_e200 (by omega))]
  by_cases h : a = 200
  · rw [if_pos h]
    have q : yCst φ 1000 1 a = yDay φ a + 0 := by unfold yCst; rw [if_neg (by decide), if_pos rfl, if_pos h]
    have q2 : nI (yDay φ a) + (0 : Int32) = nI (yDay φ a + 0) := nI_add _ 0
    rw [q, q2]
  · obtain ⟨h1, h2, h3, h4⟩ := ha.resolve_left h
    rw [if_neg h, xI_r10 (by omega), xI_d100 (by omega), yBd, yBd, yc_risk O F N h4 h2, yBd]
    have q : yCst φ 1000 1 a = yDay φ a + 1000 * yRisk φ (a % 10) (a / 100) := by unfold yCst; rw [if_neg (by decide), if_pos rfl, if_neg h]
    have q2 : (1000 : Int32) * nI (yRisk φ (a % 10) (a / 100)) = nI (1000 * yRisk φ (a % 10) (a / 100)) := xI_mul 1000 _
    rw [q, q2, nI_add]
theorem yc_of4 {φ : Nat → Nat → Nat} {μ : wMem} (N : Nat) {a : Nat} (ha : a ≤ 200) : fX4_of N (nI a) μ = some (nI (yCst φ 1000 2 a), μ) := by
  have q : yCst φ 1000 2 a = if a = 200 then 1 else 1000 + 1 := rfl
  unfold fX4_of
  rw [yIf (xI_e200 (by omega)), q]
  by_cases h : a = 200
  · rw [if_pos h, if_pos h]; rfl
  · rw [if_neg h, if_neg h]; rfl
/-- by.of(act), by one of days, risk, crossings -/
theorem yc_of {φ : Nat → Nat → Nat} {μ : wMem} (O : yOk φ) (F : yFC φ μ) (N : Nat) {a b : Nat} (ha : yAct φ a) (hb : b < 3) : fX_of N (19 + b) (nI a) μ = some (nI (yCst φ 1000 b a), μ) := by
  have : b = 0 ∨ b = 1 ∨ b = 2 := by omega
  unfold fX_of
  rcases this with h | h | h
  · subst h
    rw [if_pos rfl, yc_of2 F N ha.le]
    rfl
  · subst h
    rw [if_neg (by decide), if_pos rfl, yc_of3 O F N ha]
  · subst h
    rw [if_neg (by decide), if_neg (by decide), if_pos rfl, yc_of4 (φ := φ) N ha.le]
