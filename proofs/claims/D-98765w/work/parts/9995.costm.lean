set_option maxRecDepth 100000
/-! part 9995: what acts cost the twin -/
theorem ym_cost {φ : Nat → Nat → Nat} {μ : wMem} (O : yOk φ) (F : yFM φ 0 μ) (N : Nat) {a b : Nat} (ha : yAct φ a) (hb : b < 3) (h38 : μ.1 0 38 = nI b) : fX6_costOf N (nI a) μ = some (nI (yCst φ 10000 b a), μ) := by
  have hl := ha.le
  have q7 : μ.1 7 (Int32.toNatClampNeg (0 : Int32)) = nI (φ 0 0) := F.loaf
  have cases' : b = 0 ∨ b = 1 ∨ b = 2 := by omega
  unfold fX6_costOf wLet
  dsimp only
  rw [q7, yG (show ok_in (0 : Int32) 35 = true by decide), h38, yIf (xI_e200 (by omega)), yIf (xI_e0 (a := b) (by omega)), yIf (xI_e1 (a := b) (by omega))]
  by_cases h : a = 200
  · rw [if_pos h]
    have d : yDay φ a = φ 0 0 := by unfold yDay; rw [if_pos h]
    rcases cases' with e | e | e
    · subst e
      rw [if_pos rfl, ← d]
      rfl
    · subst e
      have q : yCst φ 10000 1 a = yDay φ a + 0 := by unfold yCst; rw [if_neg (by decide), if_pos rfl, if_pos h]
      have q2 : nI (φ 0 0) + (0 : Int32) = nI (φ 0 0 + 0) := nI_add _ 0
      rw [if_neg (by decide), if_pos rfl, yIf (xI_e200 (a := a) (by omega)), if_pos h, q, d, q2]
    · subst e
      have q : yCst φ 10000 2 a = 1 := by show (if a = 200 then 1 else 10000 + 1) = 1; rw [if_pos h]
      rw [if_neg (by decide), if_neg (by decide), yIf (xI_e200 (a := a) (by omega)), if_pos h, q]
      rfl
  · rw [if_neg h]
    have d : yDay φ a = 1 := by unfold yDay; rw [if_neg h]
    obtain ⟨h1, h2, h3, h4⟩ := ha.resolve_left h
    rcases cases' with e | e | e
    · subst e
      have q : yCst φ 10000 0 a = 1 := by show yDay φ a = 1; exact d
      rw [if_pos (show nI 0 = (0 : Int32) from rfl), q]
      rfl
    · subst e
      have q : yCst φ 10000 1 a = 1 + 10000 * yRisk φ (a % 10) (a / 100) := by unfold yCst; rw [if_neg (by decide), if_pos rfl, if_neg h, d]
      have q2 : (10000 : Int32) * nI (yRisk φ (a % 10) (a / 100)) = nI (10000 * yRisk φ (a % 10) (a / 100)) := xI_mul 10000 _
      have q3 : (1 : Int32) + nI (10000 * yRisk φ (a % 10) (a / 100)) = nI (1 + 10000 * yRisk φ (a % 10) (a / 100)) := nI_add 1 _
      rw [if_neg (by decide), if_pos (show nI 1 = (1 : Int32) from rfl), yIf (xI_e200 (a := a) (by omega)), if_neg h, xI_r10 (by omega), xI_d100 (by omega), ym_risk O F N h4 h2, yBd, q, q2, q3]
    · subst e
      have q : yCst φ 10000 2 a = 10001 := by show (if a = 200 then 1 else 10000 + 1) = 10001; rw [if_neg h]
      rw [if_neg (by decide), if_neg (by decide), yIf (xI_e200 (a := a) (by omega)), if_neg h, q]
      rfl
