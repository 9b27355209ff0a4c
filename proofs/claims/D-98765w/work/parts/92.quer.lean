set_option maxRecDepth 100000
/-! part 92: what calls leave alone; the arguments' questions -/
/-- all but the component's scratch is as it was -/
def yKC (μ ν : wMem) : Prop := ∀ c i, (c = 0 → i < 5) → (c < 9 ∨ 21 < c) → ν.1 c i = μ.1 c i ∧ ν.2 c i = μ.2 c i
/-- all but the twin's scratch is as it was -/
def yKM (μ ν : wMem) : Prop := ∀ c i, (c = 0 → i = 6 ∨ i = 14 ∨ i = 15 ∨ i = 34) → c ≠ 4 → (c < 13 ∨ c = 14 ∨ c = 15 ∨ 22 < c) → ν.1 c i = μ.1 c i ∧ ν.2 c i = μ.2 c i
theorem yKC.rfl' (μ : wMem) : yKC μ μ := fun _ _ _ _ => ⟨rfl, rfl⟩
theorem yKM.rfl' (μ : wMem) : yKM μ μ := fun _ _ _ _ _ => ⟨rfl, rfl⟩
theorem yKC.trans {μ ν ρ : wMem} (h : yKC μ ν) (g : yKC ν ρ) : yKC μ ρ := fun c i a b => ⟨(g c i a b).1.trans (h c i a b).1, (g c i a b).2.trans (h c i a b).2⟩
theorem yKM.trans {μ ν ρ : wMem} (h : yKM μ ν) (g : yKM ν ρ) : yKM μ ρ := fun c i a b d => ⟨(g c i a b d).1.trans (h c i a b d).1, (g c i a b d).2.trans (h c i a b d).2⟩
theorem yKC_put (μ : wMem) (σ : ySt) : yKC μ (yPut μ σ) := fun c i a b => ⟨yPut_o μ σ (fun h => by have := a h; omega) (by omega), rfl⟩
theorem yKC_DR (μ : wMem) (d r : Nat) : yKC μ (yDR μ d r) := fun c i a b => ⟨by
  simp only [yDR, yS_get]
  repeat' split
  all_goals first | rfl | (exfalso; have := a (by omega); omega), rfl⟩
theorem yKM_put (μ : wMem) (σ : ySt) : yKM μ (yTut μ σ) := fun c i a b d => ⟨by
  by_cases h : c = 0
  · subst h; exact yTut_o μ σ (by have := a rfl; omega)
  · exact yTut_c μ σ h i, rfl⟩
theorem yLM_2 (φ : Nat → Nat → Nat) (μ : wMem) : ∀ i, (yLM φ μ i).2 = μ.2
  | 0 => rfl
  | i + 1 => by
    show (if φ 6 i = 200 then _ else _ : wMem).2 = _
    split
    · exact yLM_2 φ μ i
    · exact yLM_2 φ μ i
theorem yKM_LM (φ : Nat → Nat → Nat) (μ : wMem) (n : Nat) : yKM μ (yLM φ μ n) := fun c i a b d => ⟨yLM_o φ μ (fun h => by have := a h; omega) (by omega) n, by rw [yLM_2]⟩
theorem yKM_0 (μ : wMem) (v : Int32) : yKM μ (wSI μ 0 0 v) := fun c i a b d => ⟨by
  rw [yS_get]
  split
  · next h => exfalso; have := a h.1; omega
  · rfl, rfl⟩
theorem yKC.fc {φ : Nat → Nat → Nat} {μ ν : wMem} (h : yKC μ ν) (F : yFC φ μ) : yFC φ ν := yFC_of F fun c h1 h2 i => (h c i (by omega) (by omega)).1
theorem yKM.fm {φ : Nat → Nat → Nat} {f : Nat} {μ ν : wMem} (h : yKM μ ν) (F : yFM φ f μ) : yFM φ f ν := yFM_of F fun c h1 h2 i => (h c i (by omega) (by omega) (by omega)).1
theorem yc_laid (φ : Nat → Nat → Nat) (μ : wMem) (d r : Nat) (σ : ySt) : yKC μ (yPut (yDR μ d r) σ) := (yKC_DR μ d r).trans (yKC_put _ _)
theorem ym_laid (φ : Nat → Nat → Nat) (μ : wMem) (n : Nat) (σ : ySt) : yKM μ (yTut (yLM φ μ n) σ) := (yKM_LM φ μ n).trans (yKM_put _ _)
/-- a is one of 0 .. n - 1 -/
abbrev yIs (a : Int32) (n : Nat) : Prop := 0 ≤ a.toInt ∧ a.toInt < n
theorem yIs.of {a : Int32} {n : Nat} (h : yIs a n) (hn : n < 2 ^ 31) : ∃ p, p < n ∧ a = nI p := by
  refine ⟨a.toInt.toNat, ?_, ?_⟩
  · have := h.1; have := h.2; omega
  · apply Int32.toInt_inj.mp
    have h1 := h.1
    have h2 := h.2
    rw [nI_toInt (by omega)]
    omega
theorem yIs_n {p n : Nat} (h : p < n) (hn : n < 2 ^ 31) : yIs (nI p) n := by
  unfold yIs
  rw [nI_toInt (by omega)]
  omega
theorem yL_pred : ∀ n, n < 256 → ((nI n - 1).toInt64).toInt = (n : Int) - 1 := by decide +kernel
theorem yIn (a : Int32) {n : Nat} (hn : n < 256) {α : Type} (x y z : α) : (if a.toInt64 < 0 then x else if (nI n - 1).toInt64 < a.toInt64 then y else z) = if yIs a n then z else if a.toInt64 < 0 then x else y := by
  have e0 : ((0 : Int64)).toInt = 0 := by decide
  have h1 : (a.toInt64 < 0) ↔ a.toInt < 0 := by rw [Int64.lt_iff_toInt_lt, Int32.toInt_toInt64, e0]
  have h2 : ((nI n - 1).toInt64 < a.toInt64) ↔ (n : Int) - 1 < a.toInt := by rw [Int64.lt_iff_toInt_lt, Int32.toInt_toInt64 a, yL_pred n hn]
  unfold yIs
  by_cases g1 : a.toInt64 < 0
  · have := h1.mp g1
    rw [if_pos g1, if_neg (by omega), if_pos g1]
  · have q1 : ¬ a.toInt < 0 := fun h => g1 (h1.mpr h)
    rw [if_neg g1]
    by_cases g2 : (nI n - 1).toInt64 < a.toInt64
    · have := h2.mp g2
      rw [if_pos g2, if_neg (by omega), if_neg g1]
    · have q2 : ¬ (n : Int) - 1 < a.toInt := fun h => g2 (h2.mpr h)
      rw [if_neg g2, if_pos (by omega)]
theorem yB_t {p : Prop} [Decidable p] (h : p) : yB (decide p) = 1 := by simp [yB, h]
theorem yB_f {p : Prop} [Decidable p] (h : ¬ p) : yB (decide p) = 0 := by simp [yB, h]
theorem yc_isIn (a : Int32) {n : Nat} (hn : n < 256) (N : Nat) (μ : wMem) : fX0_isIn N a.toInt64 0 (nI n - 1).toInt64 μ = some (yB (decide (yIs a n)), μ) := by
  unfold fX0_isIn
  rw [yIn a hn]
  by_cases h : yIs a n
  · rw [if_pos h, yB_t h]
  · rw [if_neg h, yB_f h]; split <;> rfl
theorem ym_in (a : Int32) {n : Nat} (hn : n < 256) (N : Nat) (μ : wMem) : fX6_in N a.toInt64 0 (nI n - 1).toInt64 μ = some (yB (decide (yIs a n)), μ) := by
  unfold fX6_in
  rw [yIn a hn]
  by_cases h : yIs a n
  · rw [if_pos h, yB_t h]
  · rw [if_neg h, yB_f h]; split <;> rfl
theorem yB_ok (b : Bool) : ok_b (yB b) = true := by cases b <;> rfl
theorem yc_isPerson {φ : Nat → Nat → Nat} {μ : wMem} (O : yOk φ) (F : yFC φ μ) (N : Nat) (a : Int32) : fX0_isPerson N a μ = some (yB (decide (yIs a (φ 0 2))), μ) := by
  have h6 := O.persons
  unfold fX0_isPerson
  rw [F.fld 2 (by decide), yc_isIn a (by omega), yBd, yG (yB_ok _)]
theorem yc_isPost {φ : Nat → Nat → Nat} {μ : wMem} (O : yOk φ) (F : yFC φ μ) (N : Nat) (a : Int32) : fX0_isPost N a μ = some (yB (decide (yIs a (φ 0 3))), μ) := by
  have h6 := O.posts
  unfold fX0_isPost
  rw [F.fld 3 (by decide), yc_isIn a (by omega), yBd, yG (yB_ok _)]
theorem ym_isPerson {φ : Nat → Nat → Nat} {μ : wMem} (O : yOk φ) (F : yFM φ 0 μ) (N : Nat) (a : Int32) : fX6_isPerson N a μ = some (yB (decide (yIs a (φ 0 2))), μ) := by
  have h6 := O.persons
  have e : μ.1 7 (Int32.toNatClampNeg (2 : Int32)) = nI (φ 0 2) := F.persons
  unfold fX6_isPerson
  rw [yG (show ok_in (2 : Int32) 35 = true by decide), e, ym_in a (by omega), yBd, yG (yB_ok _)]
theorem ym_isPost {φ : Nat → Nat → Nat} {μ : wMem} (O : yOk φ) (F : yFM φ 0 μ) (N : Nat) (a : Int32) : fX6_isPost N a μ = some (yB (decide (yIs a (φ 0 3))), μ) := by
  have h6 := O.posts
  have e : μ.1 7 (Int32.toNatClampNeg (3 : Int32)) = nI (φ 0 3) := F.posts
  unfold fX6_isPost
  rw [yG (show ok_in (3 : Int32) 35 = true by decide), e, ym_in a (by omega), yBd, yG (yB_ok _)]
theorem yc_isFamily {φ : Nat → Nat → Nat} {μ : wMem} (O : yOk φ) (F : yFC φ μ) (N : Nat) : fX0_isFamily N μ = some (yB (decide (φ 0 1 ≠ 0)), μ) := by
  have h := O.lines
  have e : (nI (φ 0 1) ≤ (0 : Int32)) = (φ 0 1 ≤ 0) := xI_le (b := 0) (by omega) (by decide)
  unfold fX0_isFamily
  rw [F.fld 1 (by decide), yIf e]
  by_cases g : φ 0 1 = 0
  · rw [if_pos (by omega)]; simp [yB, g]
  · rw [if_neg (by omega)]; simp [yB, g]
theorem ym_isFamily {φ : Nat → Nat → Nat} {μ : wMem} (O : yOk φ) (F : yFM φ 0 μ) (N : Nat) : fX6_isFamily N μ = some (yB (decide (φ 0 1 ≠ 0)), μ) := by
  have h := O.lines
  have e : (nI (φ 0 1) ≤ (0 : Int32)) = (φ 0 1 ≤ 0) := xI_le (b := 0) (by omega) (by decide)
  have q : μ.1 6 (Int32.toNatClampNeg (0 : Int32)) = nI (φ 0 1) := F.lines
  unfold fX6_isFamily
  rw [yG (show ok_in (0 : Int32) 5 = true by decide), q, yIf e]
  by_cases g : φ 0 1 = 0
  · rw [if_pos (by omega)]; simp [yB, g]
  · rw [if_neg (by omega)]; simp [yB, g]
