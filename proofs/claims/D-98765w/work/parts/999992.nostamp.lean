set_option maxRecDepth 100000
/-! part 999992: stamps where there is no row, or no slot: what both ask first -/
def yCnz (φ : Nat → Nat → Nat) (a1 a2 : Int32) : Int32 := if yIs a1 4 ∧ φ 0 1 ≠ 0 ∧ a2 ≠ 0 then -6 else -2
theorem yc_asks_n2 {φ : Nat → Nat → Nat} {μ : wMem} (O : yOk φ) (F : yFC φ μ) (N : Nat) (a1 a2 : Int32) : fnX0_asksStamps N a1 a2 μ = some (yCnz φ a1 a2, μ) := by
  unfold fnX0_asksStamps yCnz
  rw [yc_isSlot, yBd, yWL]
  by_cases g1 : yIs a1 4
  · rw [yB1 g1, yc_isFamily O F, yBd]
    by_cases g2 : φ 0 1 ≠ 0
    · rw [yB1 g2]
      by_cases g3 : a2 = 0
      · rw [if_pos g3, if_neg (fun h => h.2.2 g3)]
      · rw [if_neg g3, if_pos ⟨g1, g2, g3⟩]
    · rw [yB2 g2, if_neg (fun h => g2 h.2.1)]
  · rw [yB2 g1, if_neg (fun h => g1 h.1)]
theorem yc_asks_b2 {μ : wMem} (N : Nat) {a1 : Int32} (h : ¬ yIs a1 4) (a2 : Int32) : fbX0_asksStamps N a1 a2 μ = some (-2, μ) := by
  unfold fbX0_asksStamps
  rw [yc_isSlot, yBd, yWL, yB2 h]
theorem ym_whyst_n {φ : Nat → Nat → Nat} {μm : wMem} (O : yOk φ) (F : yFM φ 0 μm) (N : Nat) (a1 : Int32) (h : yIs a1 4 → μm.1 1 (Int32.toNatClampNeg a1) = -1) : fX6_whyNoStamps N a1 μm = some (yCnz φ a1 1, μm) := by
  unfold fX6_whyNoStamps yCnz
  rw [ym_isSlot, yBd, yWL]
  by_cases g1 : yIs a1 4
  · rw [yB1 g1, ym_isFamily O F, yBd]
    by_cases g2 : φ 0 1 ≠ 0
    · rw [yB1 g2, yG ((yIs_in (by decide)).mpr g1), if_pos (h g1), if_pos ⟨g1, g2, by decide⟩]
    · rw [yB2 g2, if_neg (fun h => g2 h.2.1)]
  · rw [yB2 g1, if_neg (fun h => g1 h.1)]
