set_option maxRecDepth 100000
/-! part 90: what is laid: asItIs and lays -/
def yLay (φ : Nat → Nat → Nat) : Nat → ySt
  | 0 => yFirst
  | i + 1 => yDo φ (yLay φ i) (φ 6 i)
def yDays (φ : Nat → Nat → Nat) : Nat → Nat
  | 0 => 0
  | i + 1 => yDays φ i + (if φ 6 i = 200 then φ 0 0 else 1)
def yRisks (φ : Nat → Nat → Nat) : Nat → Nat
  | 0 => 0
  | i + 1 => yRisks φ i + (if φ 6 i = 200 then 0 else yRisk φ (φ 6 i % 10) (φ 6 i / 100))
def yCnt (φ : Nat → Nat → Nat) : Nat → Nat
  | 0 => 0
  | i + 1 => yCnt φ i + (if φ 6 i = 200 then 0 else 1)
/-- the acts that are kept can be, one behind the other -/
def yGo (φ : Nat → Nat → Nat) : Prop := ∀ i, i < φ 0 6 → yAct φ (φ 6 i) ∧ yCan φ (yLay φ i) (φ 6 i) = true
theorem yLay_ok {φ : Nat → Nat → Nat} (O : yOk φ) (G : yGo φ) : ∀ i, i ≤ φ 0 6 → ySok φ (yLay φ i)
  | 0, _ => yFirst_ok φ
  | i + 1, h => yDo_ok O (yLay_ok O G i (by omega)) (G i (by omega)).1
theorem yDays_le {φ : Nat → Nat → Nat} (O : yOk φ) : ∀ i, yDays φ i ≤ 9 * i + i
  | 0 => Nat.le_refl _
  | i + 1 => by
    have := yDays_le O i
    have h := O.loaf
    show yDays φ i + _ ≤ _
    split <;> omega
theorem yRisks_le {φ : Nat → Nat → Nat} (O : yOk φ) (G : yGo φ) : ∀ i, i ≤ φ 0 6 → yRisks φ i ≤ 100 * i
  | 0, _ => Nat.le_refl _
  | i + 1, h => by
    have := yRisks_le O G i (by omega)
    show yRisks φ i + _ ≤ _
    split
    · omega
    · next g =>
      obtain ⟨h1, h2, h3, h4⟩ := (G i (by omega)).1.resolve_left g
      have := yRisk_le O h4 h2
      omega
theorem yCnt_le (φ : Nat → Nat → Nat) : ∀ i, yCnt φ i ≤ i
  | 0 => Nat.le_refl _
  | i + 1 => by
    have := yCnt_le φ i
    show yCnt φ i + _ ≤ _
    split <;> omega
def yDR (μ : wMem) (d r : Nat) : wMem := wSI (wSI μ 0 9 (nI d)) 0 10 (nI r)
theorem yDR_9 (μ : wMem) (σ : ySt) (d r : Nat) : (yPut (yDR μ d r) σ).1 0 9 = nI d := by
  rw [yPut_o _ _ (by simp) (by simp)]; simp [yDR, yS_get]
theorem yDR_10 (μ : wMem) (σ : ySt) (d r : Nat) : (yPut (yDR μ d r) σ).1 0 10 = nI r := by
  rw [yPut_o _ _ (by simp) (by simp)]; simp [yDR, yS_get]
theorem yDR_s9 (μ : wMem) (σ : ySt) (d r v : Nat) : wSI (yPut (yDR μ d r) σ) 0 9 (nI v) = yPut (yDR μ v r) σ := by
  apply yM_ext
  · intro c i
    simp only [yPut, yDR, yS_get]
    repeat' split
    all_goals first | rfl | (exfalso; omega) | simp_all
  · rfl
theorem yDR_s10 (μ : wMem) (σ : ySt) (d r v : Nat) : wSI (yPut (yDR μ d r) σ) 0 10 (nI v) = yPut (yDR μ d v) σ := by
  apply yM_ext
  · intro c i
    simp only [yPut, yDR, yS_get]
    repeat' split
    all_goals first | rfl | (exfalso; omega) | simp_all
  · rfl
theorem yDR_0 (μ : wMem) (σ : ySt) : wSI (wSI (yPut μ σ) 0 9 (nI 0)) 0 10 (nI 0) = yPut (yDR μ 0 0) σ := by
  apply yM_ext
  · intro c i
    simp only [yPut, yDR, yS_get]
    repeat' split
    all_goals first | rfl | (exfalso; omega) | simp_all
  · rfl
theorem yFC_of {φ : Nat → Nat → Nat} {μ ν : wMem} (h : yFC φ μ) (e : ∀ c, 1 ≤ c → c < 8 → ∀ i, ν.1 c i = μ.1 c i) : yFC φ ν :=
  ⟨fun i hi => by rw [e 1 (by decide) (by decide)]; exact h.fld i hi, fun i hi => by rw [e 2 (by decide) (by decide)]; exact h.like i hi,
   fun i hi => by rw [e 3 (by decide) (by decide)]; exact h.nose i hi, fun i hi => by rw [e 4 (by decide) (by decide)]; exact h.strict i hi,
   fun i hi => by rw [e 5 (by decide) (by decide)]; exact h.keen i hi, fun i hi => by rw [e 6 (by decide) (by decide)]; exact h.looks i hi,
   fun i hi => by rw [e 7 (by decide) (by decide)]; exact h.act i hi⟩
theorem yFC_DR {φ : Nat → Nat → Nat} {μ : wMem} (h : yFC φ μ) (d r : Nat) : yFC φ (yDR μ d r) := yFC_of h fun c h1 _ i => by
  simp only [yDR, yS_get]
  simp [show c ≠ 0 by omega]
theorem yc_does0 {φ : Nat → Nat → Nat} {μ : wMem} {σ : ySt} (O : yOk φ) (F : yFC φ μ) (S : ySok φ σ) (N : Nat) {a d r : Nat} (ha : yAct φ a) :
    fX0_does0 N (nI a) (yPut (yDR μ d r) σ) = some (yPut (yDR μ (d + (if a = 200 then φ 0 0 else 1)) (r + (if a = 200 then 0 else yRisk φ (a % 10) (a / 100)))) (yDo φ σ a)) := by
  have hl := ha.le
  unfold fX0_does0 wLet fX0_personIn fX0_postIn
  dsimp only
  by_cases h : a = 200
  · have e : ∀ (x y : Option wMem), (if nI a = (200 : Int32) then x else y) = x := fun x y => by rw [yIf (xI_e200 (by omega)), if_pos h]
    have f0 : (yPut (yDR μ d r) σ).1 1 0 = nI (φ 0 0) := by rw [yPut_c _ _ (by decide) (by decide)]; exact (yFC_DR F d r).fld 0 (by decide)
    rw [e, e, yDR_9, f0, nI_add, yDR_s9, yDR_10]
    show wBindV (fX0_does N (nI a) (wSI _ 0 10 (nI r + nI 0))) _ = _
    rw [nI_add, yDR_s10, yc_does O (yFC_DR F _ _) S N ha, yBV, if_pos h, if_pos h]
  · have e : ∀ (x y : Option wMem), (if nI a = (200 : Int32) then x else y) = y := fun x y => by rw [yIf (xI_e200 (by omega)), if_neg h]
    obtain ⟨h1, h2, h3, h4⟩ := ha.resolve_left h
    have e1 : nI d + (1 : Int32) = nI (d + 1) := nI_add d 1
    rw [e, e, yDR_9, e1, yDR_s9, xI_r10 (by omega), xI_d100 (by omega), yBd, yBd, yc_risk O (yFC_put (yFC_DR F _ _) σ) N h4 h2, yBd, yDR_10, nI_add, yDR_s10, yc_does O (yFC_DR F _ _) S N ha, yBV, if_neg h, if_neg h]
theorem yc_lay_loop {φ : Nat → Nat → Nat} {μ : wMem} (O : yOk φ) (F : yFC φ μ) (G : yGo φ) (N : Nat) (K : wMem → Option wMem) : ∀ (n M i : Nat), n < M → i + n = φ 0 6 →
    gX0_asItIs_16 N K M (nI i) (yPut (yDR μ (yDays φ i) (yRisks φ i)) (yLay φ i)) = K (yPut (yDR μ (yDays φ (φ 0 6)) (yRisks φ (φ 0 6))) (yLay φ (φ 0 6))) := by
  have h40 := O.acts
  have f6 : ∀ i, (yPut (yDR μ (yDays φ i) (yRisks φ i)) (yLay φ i)).1 1 6 = nI (φ 0 6) := fun i => by rw [yPut_c _ _ (by decide) (by decide)]; exact (yFC_DR F _ _).fld 6 (by decide)
  intro n
  induction n with
  | zero =>
    intro M i hM hi
    obtain ⟨M, rfl⟩ : ∃ q, M = q + 1 := ⟨M - 1, by omega⟩
    show gbX0_asItIs_16 N K _ _ _ = _
    unfold gbX0_asItIs_16
    rw [f6, yIf (xI_le (by omega) (by omega)), if_pos (by omega)]
    have : i = φ 0 6 := by omega
    rw [this]
  | succ n ih =>
    intro M i hM hi
    obtain ⟨M, rfl⟩ : ∃ q, M = q + 1 := ⟨M - 1, by omega⟩
    show gbX0_asItIs_16 N K _ _ _ = _
    unfold gbX0_asItIs_16
    have fa : (yPut (yDR μ (yDays φ i) (yRisks φ i)) (yLay φ i)).1 7 i = nI (φ 6 i) := by rw [yPut_c _ _ (by decide) (by decide)]; exact (yFC_DR F _ _).act i (by omega)
    have ei : nI i + (1 : Int32) = nI (i + 1) := nI_add i 1
    rw [f6, yIf (xI_le (by omega) (by omega)), if_neg (by omega), yG (xI_in (by omega) (by omega)), xI_cl (by omega), fa, yc_does0 O F (yLay_ok O G i (by omega)) N (G i (by omega)).1, yBV]
    unfold wLet
    rw [ei]
    exact ih M (i + 1) (by omega) (by omega)
/-- asItIs: the acts that are kept are done anew -/
theorem yc_lay {φ : Nat → Nat → Nat} {μ : wMem} (O : yOk φ) (F : yFC φ μ) (G : yGo φ) {N : Nat} (hN : 41 ≤ N) :
    fX0_asItIs N μ = some (yPut (yDR μ (yDays φ (φ 0 6)) (yRisks φ (φ 0 6))) (yLay φ (φ 0 6))) := by
  have h40 := O.acts
  unfold fX0_asItIs
  rw [yc_first, yBV]
  show gX0_asItIs_16 N _ N (nI 0) (wSI (wSI (yPut μ yFirst) 0 9 (nI 0)) 0 10 (nI 0)) = _
  rw [yDR_0]
  exact yc_lay_loop O F G N _ (φ 0 6) N 0 (by omega) (by omega)
