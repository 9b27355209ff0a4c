set_option maxRecDepth 100000
/-! part 91: the twin's lays -/
theorem yTut_com (ν : wMem) (τ : ySt) {c j : Nat} (h : c = 0 → j < 23 ∨ 27 < j) (v : Int32) : wSI (yTut ν τ) c j v = yTut (wSI ν c j v) τ := by
  apply yM_ext
  · intro d i
    simp only [yTut, yS_get]
    by_cases hc : c = 0
    · have := h hc
      subst hc
      repeat' split
      all_goals first | rfl | (exfalso; omega) | simp_all
    · repeat' split
      all_goals first | rfl | (exfalso; omega) | simp_all
  · rfl
def yLM (φ : Nat → Nat → Nat) (μ : wMem) : Nat → wMem
  | 0 => wSI (wSI (wSI μ 0 28 (nI 0)) 0 29 (nI 0)) 0 30 (nI 0)
  | i + 1 => if φ 6 i = 200 then wSI (yLM φ μ i) 0 28 (nI (yDays φ (i + 1)))
    else wSI (wSI (wSI (wSI (yLM φ μ i) 13 (yCnt φ i) (nI (10 * (φ 6 i / 100) + (yLay φ i).sd))) 0 30 (nI (yCnt φ (i + 1)))) 0 28 (nI (yDays φ (i + 1)))) 0 29 (nI (yRisks φ (i + 1)))
theorem yLM_28 (φ : Nat → Nat → Nat) (μ : wMem) : ∀ i, (yLM φ μ i).1 0 28 = nI (yDays φ i)
  | 0 => by simp [yLM, yS_get, yDays]
  | i + 1 => by
    show (if φ 6 i = 200 then _ else _ : wMem).1 0 28 = _
    split <;> simp [yS_get]
theorem yLM_29 (φ : Nat → Nat → Nat) (μ : wMem) : ∀ i, (yLM φ μ i).1 0 29 = nI (yRisks φ i)
  | 0 => by simp [yLM, yS_get, yRisks]
  | i + 1 => by
    show (if φ 6 i = 200 then _ else _ : wMem).1 0 29 = _
    split
    · next h => simp [yS_get, yLM_29 φ μ i, yRisks, h]
    · simp [yS_get]
theorem yLM_30 (φ : Nat → Nat → Nat) (μ : wMem) : ∀ i, (yLM φ μ i).1 0 30 = nI (yCnt φ i)
  | 0 => by simp [yLM, yS_get, yCnt]
  | i + 1 => by
    show (if φ 6 i = 200 then _ else _ : wMem).1 0 30 = _
    split
    · next h => simp [yS_get, yLM_30 φ μ i, yCnt, h]
    · simp [yS_get]
theorem yLM_o (φ : Nat → Nat → Nat) (μ : wMem) {c j : Nat} (h : c = 0 → j < 28 ∨ 30 < j) (h13 : c ≠ 13) : ∀ i, (yLM φ μ i).1 c j = μ.1 c j
  | 0 => by
    simp only [yLM, yS_get]
    repeat' split
    all_goals first | rfl | (exfalso; omega)
  | i + 1 => by
    show (if φ 6 i = 200 then _ else _ : wMem).1 c j = _
    split
    · simp only [yS_get, yLM_o φ μ h h13 i]
      repeat' split
      all_goals first | rfl | (exfalso; omega)
    · simp only [yS_get, yLM_o φ μ h h13 i]
      repeat' split
      all_goals first | rfl | (exfalso; omega)
theorem yFM_LM {φ ψ : Nat → Nat → Nat} {f : Nat} {μ : wMem} (h : yFM ψ f μ) (i : Nat) : yFM ψ f (yLM φ μ i) := yFM_of h fun c h1 h2 j => yLM_o φ μ (by omega) (by omega) i
theorem yCnt_lt {φ : Nat → Nat → Nat} (O : yOk φ) {i : Nat} (h : i ≤ φ 0 6) : yCnt φ i ≤ 40 := Nat.le_trans (yCnt_le φ i) (Nat.le_trans h O.acts)
theorem ym_goes {φ : Nat → Nat → Nat} {μ : wMem} (O : yOk φ) (F : yFM φ 0 μ) (G : yGo φ) (N : Nat) {i : Nat} (hi : i < φ 0 6) :
    fX6_goes N (nI (φ 6 i)) (yTut (yLM φ μ i) (yT φ (yLay φ i))) = some (yTut (yLM φ μ (i + 1)) (yT φ (yLay φ (i + 1)))) := by
  obtain ⟨ha, hc⟩ := G i hi
  have S := yLay_ok O G i (by omega)
  have hl := ha.le
  have h6 := O.persons
  have hcnt := yCnt_lt O (i := i) (by omega)
  have q28 : (yTut (yLM φ μ i) (yT φ (yLay φ i))).1 0 28 = nI (yDays φ i) := by rw [yTut_o _ _ (by omega), yLM_28]
  have q30 : (yTut (yLM φ μ i) (yT φ (yLay φ i))).1 0 30 = nI (yCnt φ i) := by rw [yTut_o _ _ (by omega), yLM_30]
  unfold fX6_goes wLet
  dsimp only
  by_cases h : φ 6 i = 200
  · have q7 : (yTut (yLM φ μ i) (yT φ (yLay φ i))).1 7 (Int32.toNatClampNeg (0 : Int32)) = nI (φ 0 0) := by rw [yTut_c _ _ (by decide), yLM_o φ μ (by simp) (by simp)]; exact F.loaf
    have e0 : yLM φ μ (i + 1) = wSI (yLM φ μ i) 0 28 (nI (yDays φ (i + 1))) := by show (if φ 6 i = 200 then _ else _) = _; rw [if_pos h]
    have e1 : yDays φ (i + 1) = yDays φ i + φ 0 0 := by show yDays φ i + _ = _; rw [if_pos h]
    rw [yIf (xI_e200 (by omega)), if_pos h, yG (show ok_in (0 : Int32) 35 = true by decide), q28, q7, nI_add, ← e1, yTut_com _ _ (by omega), ← e0,
      ym_does O (yFM_LM F _) S N ha hc, yBV]
    rfl
  · obtain ⟨h1, h2, h3, h4⟩ := ha.resolve_left h
    have h22 := O.posts
    have hsd := S.sd
    have q24 : (yTut (yLM φ μ i) (yT φ (yLay φ i))).1 0 24 = nI (yLay φ i).sd := yTut_24 _ _
    have e10 : (10 : Int32) * nI (φ 6 i / 100) = nI (10 * (φ 6 i / 100)) := xI_mul 10 _
    have d1 : yDays φ (i + 1) = yDays φ i + 1 := by show yDays φ i + _ = _; rw [if_neg h]
    have c1 : yCnt φ (i + 1) = yCnt φ i + 1 := by show yCnt φ i + _ = _; rw [if_neg h]
    have r1 : yRisks φ (i + 1) = yRisks φ i + yRisk φ (φ 6 i % 10) (φ 6 i / 100) := by show yRisks φ i + _ = _; rw [if_neg h]
    have e0 : yLM φ μ (i + 1) = wSI (wSI (wSI (wSI (yLM φ μ i) 13 (yCnt φ i) (nI (10 * (φ 6 i / 100) + (yLay φ i).sd))) 0 30 (nI (yCnt φ (i + 1)))) 0 28 (nI (yDays φ (i + 1)))) 0 29 (nI (yRisks φ (i + 1))) := by
      show (if φ 6 i = 200 then _ else _) = _; rw [if_neg h]
    have t1 : nI (yCnt φ i) + (1 : Int32) = nI (yCnt φ (i + 1)) := by rw [c1]; exact nI_add _ 1
    have t2 : nI (yDays φ i) + (1 : Int32) = nI (yDays φ (i + 1)) := by rw [d1]; exact nI_add _ 1
    have w30 : ∀ v τ, (yTut (wSI (yLM φ μ i) 13 (yCnt φ i) v) τ).1 0 30 = nI (yCnt φ i) := fun v τ => by
      rw [yTut_o _ _ (by omega)]; simp [yS_get, yLM_30]
    have w28 : ∀ v u τ, (yTut (wSI (wSI (yLM φ μ i) 13 (yCnt φ i) v) 0 30 u) τ).1 0 28 = nI (yDays φ i) := fun v u τ => by
      rw [yTut_o _ _ (by omega)]; simp [yS_get, yLM_28]
    have w29 : ∀ v u w τ, (yTut (wSI (wSI (wSI (yLM φ μ i) 13 (yCnt φ i) v) 0 30 u) 0 28 w) τ).1 0 29 = nI (yRisks φ i) := fun v u w τ => by
      rw [yTut_o _ _ (by omega)]; simp [yS_get, yLM_29]
    have wF : ∀ v u w, yFM φ 0 (wSI (wSI (wSI (yLM φ μ i) 13 (yCnt φ i) v) 0 30 u) 0 28 w) := fun v u w => yFM_of (yFM_LM (φ := φ) F i) fun c g1 g2 j => by
      simp only [yS_get]
      simp [show c ≠ 0 by omega, show c ≠ 13 by omega]
    rw [yIf (xI_e200 (by omega)), if_neg h, q30, yG (xI_in (by omega) (by omega)), xI_cl (by omega), xI_d100 (by omega), e10, q24, nI_add, xI_r10 (by omega),
      yTut_com _ _ (by omega), w30, t1, yTut_com _ _ (by omega), w28, t2, yTut_com _ _ (by omega), ym_risk O (yFM_put (wF _ _ _) _) N h4 h2, yBd, w29, nI_add, ← r1, yTut_com _ _ (by omega), ← e0,
      ym_does O (yFM_LM F _) S N ha hc, yBV]
    rfl
theorem ym_lay_loop {φ : Nat → Nat → Nat} {μ : wMem} (O : yOk φ) (F : yFM φ 0 μ) (G : yGo φ) (N : Nat) (K : wMem → Option wMem) : ∀ (n M i : Nat), n < M → i + n = φ 0 6 →
    gX6_lays_6 N K M (nI i) (yTut (yLM φ μ i) (yT φ (yLay φ i))) = K (yTut (yLM φ μ (φ 0 6)) (yT φ (yLay φ (φ 0 6)))) := by
  have h40 := O.acts
  have f6 : ∀ i, (yTut (yLM φ μ i) (yT φ (yLay φ i))).1 7 (Int32.toNatClampNeg (6 : Int32)) = nI (φ 0 6) := fun i => by rw [yTut_c _ _ (by decide)]; exact (yFM_LM F i).acts
  intro n
  induction n with
  | zero =>
    intro M i hM hi
    obtain ⟨M, rfl⟩ : ∃ q, M = q + 1 := ⟨M - 1, by omega⟩
    show gbX6_lays_6 N K _ _ _ = _
    unfold gbX6_lays_6
    rw [yG (show ok_in (6 : Int32) 35 = true by decide), f6, yIf (xI_le (by omega) (by omega)), if_pos (by omega)]
    have : i = φ 0 6 := by omega
    rw [this]
  | succ n ih =>
    intro M i hM hi
    obtain ⟨M, rfl⟩ : ∃ q, M = q + 1 := ⟨M - 1, by omega⟩
    show gbX6_lays_6 N K _ _ _ = _
    unfold gbX6_lays_6
    have fa : (yTut (yLM φ μ i) (yT φ (yLay φ i))).1 11 i = nI (φ 6 i) := by rw [yTut_c _ _ (by decide)]; exact (yFM_LM F i).act (by omega)
    have ei : nI i + (1 : Int32) = nI (i + 1) := nI_add i 1
    rw [yG (show ok_in (6 : Int32) 35 = true by decide), f6, yIf (xI_le (by omega) (by omega)), if_neg (by omega), yG (xI_in (by omega) (by omega)), xI_cl (by omega), fa, ym_goes O F G N (by omega), yBV]
    unfold wLet
    rw [ei]
    exact ih M (i + 1) (by omega) (by omega)
theorem yT_first (φ : Nat → Nat → Nat) : yTu 0 = yT φ yFirst := by
  unfold yT
  have : (if φ 0 3 ≤ 1 then 0 else yFirst.z1) = 0 := by split <;> rfl
  rw [this]
  rfl
/-- lays: the acts that are kept are done anew -/
theorem ym_lay {φ : Nat → Nat → Nat} {μ : wMem} (O : yOk φ) (F : yFM φ 0 μ) (G : yGo φ) {N : Nat} (hN : 41 ≤ N) :
    fX6_lays N μ = some (yTut (yLM φ μ (φ 0 6)) (yT φ (yLay φ (φ 0 6)))) := by
  have h40 := O.acts
  have hb : fX6_begin N (0 : Int32) μ = some (yTut μ (yTu 0)) := ym_begin μ (s := 0) (by decide) N
  unfold fX6_lays fX6_start
  rw [hb, yBV, yT_first φ]
  show gX6_lays_6 N _ N (nI 0) (wSI (wSI (wSI (yTut μ (yT φ yFirst)) 0 28 (nI 0)) 0 29 (nI 0)) 0 30 (nI 0)) = _
  rw [yTut_com _ _ (by omega), yTut_com _ _ (by omega), yTut_com _ _ (by omega)]
  exact ym_lay_loop O F G N _ (φ 0 6) N 0 (by omega) (by omega)
