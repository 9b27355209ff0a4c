set_option maxRecDepth 100000
/-! part 94: now, person, post -/
def yCl (φ : Nat → Nat → Nat) (μ : wMem) : wMem := yPut (yDR μ (yDays φ (φ 0 6)) (yRisks φ (φ 0 6))) (yLay φ (φ 0 6))
def yMl (φ : Nat → Nat → Nat) (μ : wMem) : wMem := yTut (yLM φ (wSI μ 0 0 0) (φ 0 6)) (yT φ (yLay φ (φ 0 6)))
theorem yCl_k (φ : Nat → Nat → Nat) (μ : wMem) : yKC μ (yCl φ μ) := yc_laid φ _ _ _ _
theorem yMl_k (φ : Nat → Nat → Nat) (μ : wMem) : yKM μ (yMl φ μ) := (yKM_0 _ _).trans (ym_laid φ _ _ _)
theorem yc_oneOf (a : Int32) (n : Nat) (hn : n < 256) (N : Nat) (μ : wMem) : fX0_isOneOf N a (nI n) μ = some (yB (decide (yIs a n)), μ) := by
  unfold fX0_isOneOf
  rw [yc_isIn a hn, yBd, yG (yB_ok _)]
theorem yc_5 (a : Int32) (N : Nat) (μ : wMem) : fX0_isOneOf N a 5 μ = some (yB (decide (yIs a 5)), μ) := yc_oneOf a 5 (by decide) N μ
theorem yc_4 (a : Int32) (N : Nat) (μ : wMem) : fX0_isOneOf N a 4 μ = some (yB (decide (yIs a 4)), μ) := yc_oneOf a 4 (by decide) N μ
theorem ym_5 (a : Int32) (N : Nat) (μ : wMem) : fX6_in N a.toInt64 0 4 μ = some (yB (decide (yIs a 5)), μ) := by
  have e : (4 : Int64) = (nI 5 - 1).toInt64 := by decide
  rw [e, ym_in a (by decide)]
theorem ym_4 (a : Int32) (N : Nat) (μ : wMem) : fX6_in N a.toInt64 0 3 μ = some (yB (decide (yIs a 4)), μ) := by
  have e : (3 : Int64) = (nI 4 - 1).toInt64 := by decide
  rw [e, ym_in a (by decide)]
theorem yIs5 {a : Int32} (h : yIs a 5) : a = 0 ∨ a = 1 ∨ a = 2 ∨ a = 3 ∨ a = 4 := by
  obtain ⟨p, hp, rfl⟩ := yIs.of h (by decide)
  have : p = 0 ∨ p = 1 ∨ p = 2 ∨ p = 3 ∨ p = 4 := by omega
  rcases this with rfl | rfl | rfl | rfl | rfl <;> decide
theorem yIs4 {a : Int32} (h : yIs a 4) : a = 0 ∨ a = 1 ∨ a = 2 ∨ a = 3 := by
  obtain ⟨p, hp, rfl⟩ := yIs.of h (by decide)
  have : p = 0 ∨ p = 1 ∨ p = 2 ∨ p = 3 := by omega
  rcases this with rfl | rfl | rfl | rfl <;> decide
theorem yc_stamps_loop {φ : Nat → Nat → Nat} {μ : wMem} (O : yOk φ) (F : yFC φ μ) (N : Nat) (hA : ∀ i, i < φ 0 6 → φ 6 i ≤ 200) (K : Int32 → wMem → Option (Int32 × wMem)) : ∀ (n M i : Nat), n < M → i + n = φ 0 6 →
    gX0_stampsNow_4 N K M (nI (yCnt φ i)) (nI i) μ = K (nI (yCnt φ (φ 0 6))) μ := by
  have h40 := O.acts
  intro n
  induction n with
  | zero =>
    intro M i hM hi
    obtain ⟨M, rfl⟩ : ∃ q, M = q + 1 := ⟨M - 1, by omega⟩
    show gbX0_stampsNow_4 N K _ _ _ μ = _
    unfold gbX0_stampsNow_4
    rw [F.fld 6 (by decide), yIf (xI_le (by omega) (by omega)), if_pos (by omega)]
    have : i = φ 0 6 := by omega
    rw [this]
  | succ n ih =>
    intro M i hM hi
    obtain ⟨M, rfl⟩ : ∃ q, M = q + 1 := ⟨M - 1, by omega⟩
    show gbX0_stampsNow_4 N K _ _ _ μ = _
    unfold gbX0_stampsNow_4 wLet
    dsimp only
    have hA1 := hA i (by omega)
    have ei : nI i + (1 : Int32) = nI (i + 1) := nI_add i 1
    rw [F.fld 6 (by decide), yIf (xI_le (by omega) (by omega)), if_neg (by omega), yG (xI_in (by omega) (by omega)), xI_cl (by omega), F.act i (by omega), yIf (xI_e200 (by omega)), ei]
    have := ih M (i + 1) (by omega) (by omega)
    have c : yCnt φ (i + 1) = yCnt φ i + (if φ 6 i = 200 then 0 else 1) := rfl
    by_cases h : φ 6 i = 200
    · rw [if_pos h] at c ⊢
      have e0 : nI (yCnt φ i) + (0 : Int32) = nI (yCnt φ (i + 1)) := by rw [c]; exact nI_add _ 0
      rw [e0]
      exact this
    · rw [if_neg h] at c ⊢
      have e0 : nI (yCnt φ i) + (1 : Int32) = nI (yCnt φ (i + 1)) := by rw [c]; exact nI_add _ 1
      rw [e0]
      exact this
theorem yc_stampsNow {φ : Nat → Nat → Nat} {μ : wMem} (O : yOk φ) (G : yGo φ) (F : yFC φ μ) {N : Nat} (hN : 41 ≤ N) : fX0_stampsNow N μ = some (nI (yCnt φ (φ 0 6)), μ) := by
  have h40 := O.acts
  unfold fX0_stampsNow
  exact yc_stamps_loop O F N (fun i hi => (G i hi).1.le) _ (φ 0 6) N 0 (by omega) (by omega)
theorem yq_now {φ : Nat → Nat → Nat} {μ μm : wMem} (O : yOk φ) (G : yGo φ) (F : yFC φ μ) (M : yFM φ 0 μm) {N : Nat} (hN : 41 ≤ N) (a1 : Int32) : yBth (fX0_now N a1) (fX6_now N a1) μ μm := by
  have M1 := (yKM_0 μm 0).fm M
  have c5 : (yCl φ μ).1 0 5 = nI (yLay φ (φ 0 6)).ov := yPut_5 _ _
  have c6 : (yCl φ μ).1 0 6 = nI (yLay φ (φ 0 6)).sd := yPut_6 _ _
  have c9 : (yCl φ μ).1 0 9 = nI (yDays φ (φ 0 6)) := yDR_9 _ _ _ _
  have c10 : (yCl φ μ).1 0 10 = nI (yRisks φ (φ 0 6)) := yDR_10 _ _ _ _
  have m23 : (yMl φ μm).1 0 23 = nI (yLay φ (φ 0 6)).ov := yTut_23 _ _
  have m24 : (yMl φ μm).1 0 24 = nI (yLay φ (φ 0 6)).sd := yTut_24 _ _
  have m28 : (yMl φ μm).1 0 28 = nI (yDays φ (φ 0 6)) := by unfold yMl; rw [yTut_o _ _ (by omega), yLM_28]
  have m29 : (yMl φ μm).1 0 29 = nI (yRisks φ (φ 0 6)) := by unfold yMl; rw [yTut_o _ _ (by omega), yLM_29]
  have m30 : (yMl φ μm).1 0 30 = nI (yCnt φ (φ 0 6)) := by unfold yMl; rw [yTut_o _ _ (by omega), yLM_30]
  have lc : fX0_asItIs N μ = some (yCl φ μ) := yc_lay O F G hN
  have lm : fX6_lays N (wSI μm 0 0 0) = some (yMl φ μm) := ym_lay O M1 G hN
  have st : fX0_stampsNow N (yCl φ μ) = some (nI (yCnt φ (φ 0 6)), yCl φ μ) := yc_stampsNow O G ((yCl_k φ μ).fc F) hN
  by_cases g : φ 0 1 ≠ 0
  · by_cases g1 : yIs a1 5
    · have key : ∀ v : Int32, (if a1 = 0 then some ((yCl φ μ).1 0 5, yCl φ μ) else if a1 = 1 then some ((yCl φ μ).1 0 6, yCl φ μ) else if a1 = 2 then some ((yCl φ μ).1 0 9, yCl φ μ) else if a1 = 3 then some (nI (yCnt φ (φ 0 6)), yCl φ μ) else some ((yCl φ μ).1 0 10, yCl φ μ)) = some (v, yCl φ μ) →
          (if a1 = 0 then some ((yMl φ μm).1 0 23, yMl φ μm) else if a1 = 1 then some ((yMl φ μm).1 0 24, yMl φ μm) else if a1 = 2 then some ((yMl φ μm).1 0 28, yMl φ μm) else if a1 = 3 then some ((yMl φ μm).1 0 30, yMl φ μm) else some ((yMl φ μm).1 0 29, yMl φ μm)) = some (v, yMl φ μm) → yBth (fX0_now N a1) (fX6_now N a1) μ μm := by
        intro v h1 h2
        refine yBth.mk' (v := v) ?_ ?_ (yCl_k φ μ) (yMl_k φ μm)
        · unfold fX0_now wLet
          dsimp only
          rw [yc_isFamily O F, yBd, yB1 g, yc_5, yBd, yB1 g1, lc, yBV, st, yBd]
          exact h1
        · unfold fX6_now wLet
          dsimp only
          rw [ym_isFamily O M1, yBd, yB1 g, ym_5, yBd, yB1 g1, lm, yBV]
          exact h2
      rw [c5, c6, c9, c10, m23, m24, m28, m29, m30] at key
      rcases yIs5 g1 with h | h | h | h | h
      · exact key _ (if_pos h) (if_pos h)
      · subst h; exact key _ rfl rfl
      · subst h; exact key _ rfl rfl
      · subst h; exact key _ rfl rfl
      · subst h; exact key _ rfl rfl
    · refine yBth.mk' (v := -2) (μ1 := μ) (μm1 := wSI μm 0 0 0) ?_ ?_ (yKC.rfl' _) (yKM_0 _ _)
      · unfold fX0_now wLet
        dsimp only
        rw [yc_isFamily O F, yBd, yB1 g, yc_5, yBd, yB2 g1]
      · unfold fX6_now wLet
        dsimp only
        rw [ym_isFamily O M1, yBd, yB1 g, ym_5, yBd, yB2 g1]
  · refine yBth.mk' (v := -2) (μ1 := μ) (μm1 := wSI μm 0 0 0) ?_ ?_ (yKC.rfl' _) (yKM_0 _ _)
    · unfold fX0_now wLet
      dsimp only
      rw [yc_isFamily O F, yBd, yB2 g]
    · unfold fX6_now wLet
      dsimp only
      rw [ym_isFamily O M1, yBd, yB2 g]
