set_option maxRecDepth 100000
/-! part 86: the twin's small functions -/
/-- the twin's cells hold the family as its family f -/
def yFM (φ : Nat → Nat → Nat) (f : Nat) (μ : wMem) : Prop :=
  (μ.1 7 (7 * f) = nI (φ 0 0) ∧ μ.1 6 f = nI (φ 0 1) ∧ μ.1 7 (7 * f + 2) = nI (φ 0 2) ∧ μ.1 7 (7 * f + 3) = nI (φ 0 3) ∧ μ.1 7 (7 * f + 4) = nI (φ 0 4) ∧ μ.1 7 (7 * f + 5) = nI (φ 0 5) ∧ μ.1 7 (7 * f + 6) = nI (φ 0 6) ∧ μ.1 7 (7 * f + 1) = nI (φ 0 7)) ∧
  (∀ i, i < φ 0 2 → μ.1 8 (6 * f + i) = nI (φ 1 i)) ∧
  (∀ i, i < φ 0 2 → μ.1 9 (6 * f + i) = nI (φ 2 i)) ∧
  (∀ i, i < φ 0 3 → μ.1 10 (6 * f + 3 * i) = nI (φ 3 i) ∧ μ.1 10 (6 * f + 3 * i + 1) = nI (φ 4 i) ∧ μ.1 10 (6 * f + 3 * i + 2) = nI (φ 5 i)) ∧
  (∀ i, i < φ 0 6 → μ.1 11 (40 * f + i) = nI (φ 6 i))
theorem yFM.loaf {φ : Nat → Nat → Nat} {μ : wMem} (h : yFM φ 0 μ) : μ.1 7 0 = nI (φ 0 0) := h.1.1
theorem yFM.lines {φ : Nat → Nat → Nat} {μ : wMem} (h : yFM φ 0 μ) : μ.1 6 0 = nI (φ 0 1) := h.1.2.1
theorem yFM.persons {φ : Nat → Nat → Nat} {μ : wMem} (h : yFM φ 0 μ) : μ.1 7 2 = nI (φ 0 2) := h.1.2.2.1
theorem yFM.posts {φ : Nat → Nat → Nat} {μ : wMem} (h : yFM φ 0 μ) : μ.1 7 3 = nI (φ 0 3) := h.1.2.2.2.1
theorem yFM.children {φ : Nat → Nat → Nat} {μ : wMem} (h : yFM φ 0 μ) : μ.1 7 4 = nI (φ 0 4) := h.1.2.2.2.2.1
theorem yFM.stay {φ : Nat → Nat → Nat} {μ : wMem} (h : yFM φ 0 μ) : μ.1 7 5 = nI (φ 0 5) := h.1.2.2.2.2.2.1
theorem yFM.acts {φ : Nat → Nat → Nat} {μ : wMem} (h : yFM φ 0 μ) : μ.1 7 6 = nI (φ 0 6) := h.1.2.2.2.2.2.2.1
theorem yFM.compares {φ : Nat → Nat → Nat} {μ : wMem} (h : yFM φ 0 μ) : μ.1 7 1 = nI (φ 0 7) := h.1.2.2.2.2.2.2.2
theorem yFM.like {φ : Nat → Nat → Nat} {μ : wMem} (h : yFM φ 0 μ) {i : Nat} (hi : i < φ 0 2) : μ.1 8 i = nI (φ 1 i) := by have := h.2.1 i hi; rwa [show 6 * 0 + i = i by omega] at this
theorem yFM.nose {φ : Nat → Nat → Nat} {μ : wMem} (h : yFM φ 0 μ) {i : Nat} (hi : i < φ 0 2) : μ.1 9 i = nI (φ 2 i) := by have := h.2.2.1 i hi; rwa [show 6 * 0 + i = i by omega] at this
theorem yFM.strict {φ : Nat → Nat → Nat} {μ : wMem} (h : yFM φ 0 μ) {i : Nat} (hi : i < φ 0 3) : μ.1 10 (3 * i) = nI (φ 3 i) := by have := (h.2.2.2.1 i hi).1; rwa [show 6 * 0 + 3 * i = 3 * i by omega] at this
theorem yFM.keen {φ : Nat → Nat → Nat} {μ : wMem} (h : yFM φ 0 μ) {i : Nat} (hi : i < φ 0 3) : μ.1 10 (3 * i + 1) = nI (φ 4 i) := by have := (h.2.2.2.1 i hi).2.1; rwa [show 6 * 0 + 3 * i + 1 = 3 * i + 1 by omega] at this
theorem yFM.looks {φ : Nat → Nat → Nat} {μ : wMem} (h : yFM φ 0 μ) {i : Nat} (hi : i < φ 0 3) : μ.1 10 (3 * i + 2) = nI (φ 5 i) := by have := (h.2.2.2.1 i hi).2.2; rwa [show 6 * 0 + 3 * i + 2 = 3 * i + 2 by omega] at this
theorem yFM.act {φ : Nat → Nat → Nat} {μ : wMem} (h : yFM φ 0 μ) {i : Nat} (hi : i < φ 0 6) : μ.1 11 i = nI (φ 6 i) := by have := h.2.2.2.2 i hi; rwa [show 40 * 0 + i = i by omega] at this
theorem yFM_of {φ : Nat → Nat → Nat} {f : Nat} {μ ν : wMem} (h : yFM φ f μ) (e : ∀ c, 6 ≤ c → c < 12 → ∀ i, ν.1 c i = μ.1 c i) : yFM φ f ν := by
  obtain ⟨⟨a0, a1, a2, a3, a4, a5, a6, a7⟩, b, c, d, g⟩ := h
  refine ⟨⟨?_, ?_, ?_, ?_, ?_, ?_, ?_, ?_⟩, ?_, ?_, ?_, ?_⟩
  · rw [e 7 (by decide) (by decide)]; exact a0
  · rw [e 6 (by decide) (by decide)]; exact a1
  · rw [e 7 (by decide) (by decide)]; exact a2
  · rw [e 7 (by decide) (by decide)]; exact a3
  · rw [e 7 (by decide) (by decide)]; exact a4
  · rw [e 7 (by decide) (by decide)]; exact a5
  · rw [e 7 (by decide) (by decide)]; exact a6
  · rw [e 7 (by decide) (by decide)]; exact a7
  · intro i hi; rw [e 8 (by decide) (by decide)]; exact b i hi
  · intro i hi; rw [e 9 (by decide) (by decide)]; exact c i hi
  · intro i hi; rw [e 10 (by decide) (by decide), e 10 (by decide) (by decide), e 10 (by decide) (by decide)]; exact d i hi
  · intro i hi; rw [e 11 (by decide) (by decide)]; exact g i hi
/-- the twin's memory with a state (its own numbers) written into it -/
def yTut (μ : wMem) (τ : ySt) : wMem :=
  wSI (wSI (wSI (wSI (wSI μ 0 27 (nI τ.mk)) 0 26 (nI τ.z1)) 0 25 (nI τ.z0)) 0 24 (nI τ.sd)) 0 23 (nI τ.ov)
theorem yTut_23 (μ : wMem) (τ : ySt) : (yTut μ τ).1 0 23 = nI τ.ov := by simp [yTut, yS_get]
theorem yTut_24 (μ : wMem) (τ : ySt) : (yTut μ τ).1 0 24 = nI τ.sd := by simp [yTut, yS_get]
theorem yTut_25 (μ : wMem) (τ : ySt) : (yTut μ τ).1 0 25 = nI τ.z0 := by simp [yTut, yS_get]
theorem yTut_26 (μ : wMem) (τ : ySt) : (yTut μ τ).1 0 26 = nI τ.z1 := by simp [yTut, yS_get]
theorem yTut_27 (μ : wMem) (τ : ySt) : (yTut μ τ).1 0 27 = nI τ.mk := by simp [yTut, yS_get]
theorem yTut_c (μ : wMem) (τ : ySt) {c : Nat} (h : c ≠ 0) (i : Nat) : (yTut μ τ).1 c i = μ.1 c i := by
  simp only [yTut, yS_get]
  simp [h]
theorem yTut_o (μ : wMem) (τ : ySt) {i : Nat} (h : i < 23 ∨ 27 < i) : (yTut μ τ).1 0 i = μ.1 0 i := by
  simp only [yTut, yS_get]
  repeat' split
  all_goals first | rfl | (exfalso; omega)
theorem yTut_put (μ : wMem) (σ τ : ySt) : yTut (yTut μ σ) τ = yTut μ τ := by
  apply yM_ext
  · intro c i
    simp only [yTut, yS_get]
    repeat' split
    all_goals first | rfl | (exfalso; omega) | simp_all
  · rfl
theorem yFM_put {φ : Nat → Nat → Nat} {f : Nat} {μ : wMem} (h : yFM φ f μ) (τ : ySt) : yFM φ f (yTut μ τ) := yFM_of h fun c h1 _ i => yTut_c μ τ (by omega) i
theorem yTut_s23 (μ : wMem) (σ : ySt) (v : Nat) : wSI (yTut μ σ) 0 23 (nI v) = yTut μ (ySt.of v σ.sd σ.z0 σ.z1 σ.mk) := by
  apply yM_ext
  · intro c i
    simp only [yTut, yS_get, ySt.of_ov, ySt.of_sd, ySt.of_z0, ySt.of_z1, ySt.of_mk]
    repeat' split
    all_goals first | rfl | (exfalso; omega) | simp_all
  · rfl
theorem yTut_s24 (μ : wMem) (σ : ySt) (v : Nat) : wSI (yTut μ σ) 0 24 (nI v) = yTut μ (ySt.of σ.ov v σ.z0 σ.z1 σ.mk) := by
  apply yM_ext
  · intro c i
    simp only [yTut, yS_get, ySt.of_ov, ySt.of_sd, ySt.of_z0, ySt.of_z1, ySt.of_mk]
    repeat' split
    all_goals first | rfl | (exfalso; omega) | simp_all
  · rfl
theorem yTut_s25 (μ : wMem) (σ : ySt) (v : Nat) : wSI (yTut μ σ) 0 25 (nI v) = yTut μ (ySt.of σ.ov σ.sd v σ.z1 σ.mk) := by
  apply yM_ext
  · intro c i
    simp only [yTut, yS_get, ySt.of_ov, ySt.of_sd, ySt.of_z0, ySt.of_z1, ySt.of_mk]
    repeat' split
    all_goals first | rfl | (exfalso; omega) | simp_all
  · rfl
theorem yTut_s26 (μ : wMem) (σ : ySt) (v : Nat) : wSI (yTut μ σ) 0 26 (nI v) = yTut μ (ySt.of σ.ov σ.sd σ.z0 v σ.mk) := by
  apply yM_ext
  · intro c i
    simp only [yTut, yS_get, ySt.of_ov, ySt.of_sd, ySt.of_z0, ySt.of_z1, ySt.of_mk]
    repeat' split
    all_goals first | rfl | (exfalso; omega) | simp_all
  · rfl
theorem yTut_s27 (μ : wMem) (σ : ySt) (v : Nat) : wSI (yTut μ σ) 0 27 (nI v) = yTut μ (ySt.of σ.ov σ.sd σ.z0 σ.z1 v) := by
  apply yM_ext
  · intro c i
    simp only [yTut, yS_get, ySt.of_ov, ySt.of_sd, ySt.of_z0, ySt.of_z1, ySt.of_mk]
    repeat' split
    all_goals first | rfl | (exfalso; omega) | simp_all
  · rfl
/-- the twin's own numbers of a state -/
def yT (φ : Nat → Nat → Nat) (σ : ySt) : ySt := ySt.of σ.ov σ.sd σ.z0 (if φ 0 3 ≤ 1 then 0 else σ.z1) (σ.mk - 1)
theorem ym_noses {φ : Nat → Nat → Nat} {μ : wMem} (O : yOk φ) (F : yFM φ 0 μ) (N : Nat) {z p k : Nat} (hz : z ≤ φ 0 2) (hp : p < φ 0 2) (hk : k < φ 0 3) :
    fX6_noses N (nI p) (nI z) (nI k) μ = some (yB (yBeh φ z p k), μ) := by
  have h6 := O.persons
  have h2 := O.posts
  have e1 : nI p + (1 : Int32) = nI (p + 1) := nI_add p 1
  have e3 : (3 : Int32) * nI k + (1 : Int32) = nI (3 * k + 1) := by
    have : (3 : Int32) * nI k = nI (3 * k) := xI_mul 3 k
    rw [this]; exact nI_add _ 1
  unfold fX6_noses wLet
  dsimp only
  rw [yIf (xI_e0 (by omega)), e1, e3, yIf (xI_e (by omega) (by omega))]
  by_cases h0 : z = 0
  · rw [if_pos h0]; simp [yBeh, h0, yB]
  · rw [if_neg h0]
    by_cases h1 : z = p + 1
    · rw [if_pos h1]; simp [yBeh, h1, yB]
    · have hz1 : z - 1 < φ 0 2 := by omega
      rw [if_neg h1, xI_pred (by omega), yG (xI_in (by omega) (by omega)), yG (xI_in (by omega) (by omega)), yG (xI_in (by omega) (by omega)), yG (xI_in (by omega) (by omega)),
        xI_cl (by omega), xI_cl (by omega), xI_cl (by omega), F.nose hz1, F.nose hp, F.keen hk]
      have a1 := O.nose _ hz1
      have a2 := O.nose _ hp
      have a3 := O.keen _ hk
      simp only [yBeh, yB, h0, h1, decide_false, Bool.false_or]
      generalize φ 2 (z - 1) = x at a1 ⊢
      generalize φ 2 p = y at a2 ⊢
      generalize φ 4 k = w at a3 ⊢
      have k1 : ∀ x, x < 10 → ∀ y, y < 10 → ∀ w, w < 10 → (nI w < nI y - nI x) = ¬ (y ≤ x + w) := by decide +kernel
      have k2 : ∀ x, x < 10 → ∀ y, y < 10 → ∀ w, w < 10 → (nI w < -(nI y - nI x)) = ¬ (x ≤ y + w) := by decide +kernel
      rw [yIf (k1 x (by omega) y (by omega) w (by omega)), yIf (k2 x (by omega) y (by omega) w (by omega))]
      by_cases q1 : y ≤ x + w
      · by_cases q2 : x ≤ y + w
        · simp [q1, q2]
        · simp [q1, q2]
      · simp [q1]
