set_option maxRecDepth 100000
/-! part 82: the abstract game; what the component's small functions compute -/
theorem yS_get (μ : wMem) (c i : Nat) (v : Int32) (d j : Nat) : (wSI μ c i v).1 d j = if d = c ∧ j = i then v else μ.1 d j := by
  unfold wSI va_up upd
  show (if d = c then (fun k => if k = i then v else μ.1 c k) else μ.1 d) j = _
  by_cases h : d = c
  · subst h
    by_cases h2 : j = i
    · simp [h2]
    · simp [h2]
  · simp [h]
theorem yS_get2 (μ : wMem) (c i : Nat) (v : Int32) : (wSI μ c i v).2 = μ.2 := rfl
theorem yM_ext {μ ν : wMem} (h : ∀ c i, μ.1 c i = ν.1 c i) (h2 : μ.2 = ν.2) : μ = ν := Prod.ext (funext fun c => funext fun i => h c i) h2
def ySt : Type := Nat × Nat × Nat × Nat × Nat
def ySt.of (ov sd z0 z1 mk : Nat) : ySt := (ov, sd, z0, z1, mk)
def ySt.ov (σ : ySt) : Nat := σ.1
def ySt.sd (σ : ySt) : Nat := σ.2.1
def ySt.z0 (σ : ySt) : Nat := σ.2.2.1
def ySt.z1 (σ : ySt) : Nat := σ.2.2.2.1
def ySt.mk (σ : ySt) : Nat := σ.2.2.2.2
def ySt.z (σ : ySt) (k : Nat) : Nat := if k = 0 then σ.z0 else σ.z1
def yBit (s p : Nat) : Nat := s / 2 ^ p % 2
/-- the family: 0 its fields (loaf, lines, persons, posts, children, stay, acts, compares), 1 like, 2 nose, 3 strict, 4 keen, 5 looks, 6 the acts -/
def yOk (φ : Nat → Nat → Nat) : Prop :=
  (φ 0 0 ≤ 9) ∧
  (φ 0 1 < 1000) ∧
  (φ 0 2 ≤ 6) ∧
  (φ 0 3 ≤ 2) ∧
  (φ 0 4 < 64) ∧
  (φ 0 5 < 64) ∧
  (φ 0 6 ≤ 40) ∧
  (φ 0 7 ≤ 1) ∧
  (∀ i, i < φ 0 2 → φ 1 i ≤ 100) ∧
  (∀ i, i < φ 0 2 → φ 2 i ≤ 9) ∧
  (∀ i, i < φ 0 3 → φ 3 i ≤ 100) ∧
  (∀ i, i < φ 0 3 → φ 4 i ≤ 9) ∧
  (∀ i, i < φ 0 3 → φ 5 i ≤ 3)
theorem yOk.loaf {φ : Nat → Nat → Nat} (h : yOk φ) : φ 0 0 ≤ 9 := h.1
theorem yOk.lines {φ : Nat → Nat → Nat} (h : yOk φ) : φ 0 1 < 1000 := h.2.1
theorem yOk.persons {φ : Nat → Nat → Nat} (h : yOk φ) : φ 0 2 ≤ 6 := h.2.2.1
theorem yOk.posts {φ : Nat → Nat → Nat} (h : yOk φ) : φ 0 3 ≤ 2 := h.2.2.2.1
theorem yOk.children {φ : Nat → Nat → Nat} (h : yOk φ) : φ 0 4 < 64 := h.2.2.2.2.1
theorem yOk.stay {φ : Nat → Nat → Nat} (h : yOk φ) : φ 0 5 < 64 := h.2.2.2.2.2.1
theorem yOk.acts {φ : Nat → Nat → Nat} (h : yOk φ) : φ 0 6 ≤ 40 := h.2.2.2.2.2.2.1
theorem yOk.compares {φ : Nat → Nat → Nat} (h : yOk φ) : φ 0 7 ≤ 1 := h.2.2.2.2.2.2.2.1
theorem yOk.like {φ : Nat → Nat → Nat} (h : yOk φ) : ∀ i, i < φ 0 2 → φ 1 i ≤ 100 := h.2.2.2.2.2.2.2.2.1
theorem yOk.nose {φ : Nat → Nat → Nat} (h : yOk φ) : ∀ i, i < φ 0 2 → φ 2 i ≤ 9 := h.2.2.2.2.2.2.2.2.2.1
theorem yOk.strict {φ : Nat → Nat → Nat} (h : yOk φ) : ∀ i, i < φ 0 3 → φ 3 i ≤ 100 := h.2.2.2.2.2.2.2.2.2.2.1
theorem yOk.keen {φ : Nat → Nat → Nat} (h : yOk φ) : ∀ i, i < φ 0 3 → φ 4 i ≤ 9 := h.2.2.2.2.2.2.2.2.2.2.2.1
theorem yOk.looks {φ : Nat → Nat → Nat} (h : yOk φ) : ∀ i, i < φ 0 3 → φ 5 i ≤ 3 := h.2.2.2.2.2.2.2.2.2.2.2.2
def ySok (φ : Nat → Nat → Nat) (σ : ySt) : Prop :=
  (σ.ov < 2 ^ φ 0 2) ∧
  (σ.sd < 2) ∧
  (σ.z0 ≤ φ 0 2) ∧
  (σ.z1 ≤ φ 0 2) ∧
  (0 < σ.mk) ∧
  (σ.mk < 16)
theorem ySok.ov {φ : Nat → Nat → Nat} {σ : ySt} (h : ySok φ σ) : σ.ov < 2 ^ φ 0 2 := h.1
theorem ySok.sd {φ : Nat → Nat → Nat} {σ : ySt} (h : ySok φ σ) : σ.sd < 2 := h.2.1
theorem ySok.z0 {φ : Nat → Nat → Nat} {σ : ySt} (h : ySok φ σ) : σ.z0 ≤ φ 0 2 := h.2.2.1
theorem ySok.z1 {φ : Nat → Nat → Nat} {σ : ySt} (h : ySok φ σ) : σ.z1 ≤ φ 0 2 := h.2.2.2.1
theorem ySok.mk0 {φ : Nat → Nat → Nat} {σ : ySt} (h : ySok φ σ) : 0 < σ.mk := h.2.2.2.2.1
theorem ySok.mk1 {φ : Nat → Nat → Nat} {σ : ySt} (h : ySok φ σ) : σ.mk < 16 := h.2.2.2.2.2
/-- the component's cells hold the family -/
def yFC (φ : Nat → Nat → Nat) (μ : wMem) : Prop :=
  (∀ i, i < 8 → μ.1 1 i = nI (φ 0 i)) ∧
  (∀ i, i < φ 0 2 → μ.1 2 i = nI (φ 1 i)) ∧
  (∀ i, i < φ 0 2 → μ.1 3 i = nI (φ 2 i)) ∧
  (∀ i, i < φ 0 3 → μ.1 4 i = nI (φ 3 i)) ∧
  (∀ i, i < φ 0 3 → μ.1 5 i = nI (φ 4 i)) ∧
  (∀ i, i < φ 0 3 → μ.1 6 i = nI (φ 5 i)) ∧
  (∀ i, i < φ 0 6 → μ.1 7 i = nI (φ 6 i))
theorem yFC.fld {φ : Nat → Nat → Nat} {μ : wMem} (h : yFC φ μ) : ∀ i, i < 8 → μ.1 1 i = nI (φ 0 i) := h.1
theorem yFC.like {φ : Nat → Nat → Nat} {μ : wMem} (h : yFC φ μ) : ∀ i, i < φ 0 2 → μ.1 2 i = nI (φ 1 i) := h.2.1
theorem yFC.nose {φ : Nat → Nat → Nat} {μ : wMem} (h : yFC φ μ) : ∀ i, i < φ 0 2 → μ.1 3 i = nI (φ 2 i) := h.2.2.1
theorem yFC.strict {φ : Nat → Nat → Nat} {μ : wMem} (h : yFC φ μ) : ∀ i, i < φ 0 3 → μ.1 4 i = nI (φ 3 i) := h.2.2.2.1
theorem yFC.keen {φ : Nat → Nat → Nat} {μ : wMem} (h : yFC φ μ) : ∀ i, i < φ 0 3 → μ.1 5 i = nI (φ 4 i) := h.2.2.2.2.1
theorem yFC.looks {φ : Nat → Nat → Nat} {μ : wMem} (h : yFC φ μ) : ∀ i, i < φ 0 3 → μ.1 6 i = nI (φ 5 i) := h.2.2.2.2.2.1
theorem yFC.act {φ : Nat → Nat → Nat} {μ : wMem} (h : yFC φ μ) : ∀ i, i < φ 0 6 → μ.1 7 i = nI (φ 6 i) := h.2.2.2.2.2.2
/-- the memory with the state written into the component's cells -/
def yPut (μ : wMem) (σ : ySt) : wMem :=
  wSI (wSI (wSI (wSI (wSI μ 0 5 (nI σ.ov)) 0 6 (nI σ.sd)) 0 7 (nI σ.mk)) 9 0 (nI σ.z0 - 1)) 9 1 (nI σ.z1 - 1)
theorem yPut_5 (μ : wMem) (σ : ySt) : (yPut μ σ).1 0 5 = nI σ.ov := by simp [yPut, yS_get]
theorem yPut_6 (μ : wMem) (σ : ySt) : (yPut μ σ).1 0 6 = nI σ.sd := by simp [yPut, yS_get]
theorem yPut_7 (μ : wMem) (σ : ySt) : (yPut μ σ).1 0 7 = nI σ.mk := by simp [yPut, yS_get]
theorem yPut_90 (μ : wMem) (σ : ySt) : (yPut μ σ).1 9 0 = nI σ.z0 - 1 := by simp [yPut, yS_get]
theorem yPut_91 (μ : wMem) (σ : ySt) : (yPut μ σ).1 9 1 = nI σ.z1 - 1 := by simp [yPut, yS_get]
theorem yPut_9 (μ : wMem) (σ : ySt) {k : Nat} (h : k < 2) : (yPut μ σ).1 9 k = nI (σ.z k) - 1 := by
  have : k = 0 ∨ k = 1 := by omega
  rcases this with h | h <;> subst h
  · exact yPut_90 μ σ
  · exact yPut_91 μ σ
theorem yPut_o (μ : wMem) (σ : ySt) {c i : Nat} (h0 : c = 0 → i ≠ 5 ∧ i ≠ 6 ∧ i ≠ 7) (h9 : c ≠ 9) : (yPut μ σ).1 c i = μ.1 c i := by
  simp only [yPut, yS_get]
  by_cases h : c = 0
  · have := h0 h
    subst h
    simp [this.1, this.2.1, this.2.2]
  · simp [h, h9]
theorem yPut_c (μ : wMem) (σ : ySt) {c : Nat} (h0 : c ≠ 0) (h9 : c ≠ 9) (i : Nat) : (yPut μ σ).1 c i = μ.1 c i := yPut_o μ σ (fun h => absurd h h0) h9
theorem yPut_put (μ : wMem) (σ τ : ySt) : yPut (yPut μ σ) τ = yPut μ τ := by
  apply yM_ext
  · intro c i
    simp only [yPut, yS_get]
    repeat' split
    all_goals first | rfl | (exfalso; omega) | simp_all
  · rfl
theorem yFC_put {φ : Nat → Nat → Nat} {μ : wMem} (h : yFC φ μ) (σ : ySt) : yFC φ (yPut μ σ) :=
  ⟨fun i hi => by rw [yPut_c μ σ (by decide) (by decide)]; exact h.fld i hi,
   fun i hi => by rw [yPut_c μ σ (by decide) (by decide)]; exact h.like i hi,
   fun i hi => by rw [yPut_c μ σ (by decide) (by decide)]; exact h.nose i hi,
   fun i hi => by rw [yPut_c μ σ (by decide) (by decide)]; exact h.strict i hi,
   fun i hi => by rw [yPut_c μ σ (by decide) (by decide)]; exact h.keen i hi,
   fun i hi => by rw [yPut_c μ σ (by decide) (by decide)]; exact h.looks i hi,
   fun i hi => by rw [yPut_c μ σ (by decide) (by decide)]; exact h.act i hi⟩
def yBeh (φ : Nat → Nat → Nat) (z p k : Nat) : Bool := decide (z = 0) || decide (z = p + 1) || (decide (φ 2 (z - 1) ≤ φ 2 p + φ 4 k) && decide (φ 2 p ≤ φ 2 (z - 1) + φ 4 k))
theorem yIf {α : Type} {p q : Prop} {i : Decidable p} [j : Decidable q] (h : p = q) (a b : α) : @ite α p i a b = @ite α q j a b := by subst h; congr
def yB (b : Bool) : Int32 := if b then 1 else 0
theorem yG {α : Type} {b : Bool} (h : b = true) (x : Option α) : wG b x = x := by rw [h]; rfl
theorem yc_mayBehind {φ : Nat → Nat → Nat} {μ : wMem} (O : yOk φ) (F : yFC φ μ) (N : Nat) {z p k : Nat} (hz : z ≤ φ 0 2) (hp : p < φ 0 2) (hk : k < φ 0 3) :
    fX0_mayBehind N (nI z - 1) (nI p) (nI k) μ = some (yB (yBeh φ z p k), μ) := by
  have h6 := O.persons
  have h2 := O.posts
  unfold fX0_mayBehind wLet
  dsimp only
  rw [yIf (xI_m1 (by omega))]
  by_cases h0 : z = 0
  · rw [if_pos h0]; simp [yBeh, h0, yB]
  · rw [if_neg h0, xI_pred (by omega), yIf (xI_eq (by omega) (by omega))]
    by_cases h1 : z - 1 = p
    · rw [if_pos h1]
      have : z = p + 1 := by omega
      simp [yBeh, this, yB]
    · have hz1 : z - 1 < φ 0 2 := by omega
      rw [if_neg h1, yG (xI_in (by omega) (by omega)), yG (xI_in (by omega) (by omega)), yG (xI_in (by omega) (by omega)),
        xI_cl (by omega), xI_cl (by omega), xI_cl (by omega), F.nose _ hz1, F.nose _ hp, F.keen _ hk]
      have a1 := O.nose _ hz1
      have a2 := O.nose _ hp
      have a3 := O.keen _ hk
      have e : z ≠ p + 1 := by omega
      simp only [yBeh, yB, h0, e, decide_false, Bool.false_or]
      generalize φ 2 (z - 1) = x at a1 ⊢
      generalize φ 2 p = y at a2 ⊢
      generalize φ 4 k = w at a3 ⊢
      have key : ∀ x, x < 10 → ∀ y, y < 10 → ∀ w, w < 10 → (nI w < (if 0 ≤ (nI x - nI y) then (nI x - nI y) else 0 - (nI x - nI y))) = ¬ (x ≤ y + w ∧ y ≤ x + w) := by
        decide +kernel
      rw [yIf (key x (by omega) y (by omega) w (by omega))]
      by_cases h : x ≤ y + w ∧ y ≤ x + w
      · simp [h]
      · have : ¬ (x ≤ y + w ∧ y ≤ x + w) := h
        simp only [this, not_false_eq_true, if_true]
        by_cases q1 : x ≤ y + w
        · have : ¬ y ≤ x + w := fun q2 => h ⟨q1, q2⟩
          simp [this]
        · simp [q1]
def yFit : Nat → Nat → Nat → Bool
  | 0, _, _ => true
  | n + 1, now, left => if left ≤ 1 then true else if left % 2 = now then false else yFit n (left % 2) (left / 2)
theorem yc_fits_loop {φ : Nat → Nat → Nat} {μ : wMem} (O : yOk φ) (F : yFC φ μ) (N : Nat) {k : Nat} (hk : k < φ 0 3) (r : Option (Int32 × wMem)) : ∀ (n M i now left : Nat), n < M → i + n = φ 5 k → now < 2 → left < 16 →
    gX0_fitsMarks_13 N (nI k) (fun μ => some (1, μ)) M (nI now) (nI left) (nI i) μ = some (yB (yFit n now left), μ) := by
  have h2 := O.posts
  have h3 := O.looks k hk
  intro n
  induction n with
  | zero =>
    intro M i now left hM hi hn hl
    obtain ⟨M, rfl⟩ : ∃ m, M = m + 1 := ⟨M - 1, by omega⟩
    show gbX0_fitsMarks_13 N (nI k) _ _ _ _ _ μ = _
    unfold gbX0_fitsMarks_13
    rw [yG (xI_in (by omega) (by omega)), xI_cl (by omega), F.looks k hk, yIf (xI_le (by omega) (by omega)), if_pos (by omega)]
    rfl
  | succ n ih =>
    intro M i now left hM hi hn hl
    obtain ⟨M, rfl⟩ : ∃ m, M = m + 1 := ⟨M - 1, by omega⟩
    show gbX0_fitsMarks_13 N (nI k) _ _ _ _ _ μ = _
    unfold gbX0_fitsMarks_13 wLet
    rw [yG (xI_in (by omega) (by omega)), xI_cl (by omega), F.looks k hk, yIf (xI_le (by omega) (by omega)), if_neg (by omega)]
    show (if nI left ≤ nI 1 then _ else if nI left - nI left / nI 2 * nI 2 = nI now then _ else gX0_fitsMarks_13 N (nI k) _ M (nI left - nI left / nI 2 * nI 2) (nI left / nI 2) (nI i + nI 1) μ) = _
    rw [yIf (xI_le (by omega) (by omega)), xI_rem (by omega) (by omega), yIf (xI_eq (by omega) (by omega)), xI_div (by omega) (by omega), nI_add]
    show _ = some (yB (if left ≤ 1 then true else if left % 2 = now then false else yFit n (left % 2) (left / 2)), μ)
    by_cases c1 : left ≤ 1
    · rw [if_pos c1, if_pos c1]; rfl
    · rw [if_neg c1, if_neg c1]
      by_cases c2 : left % 2 = now
      · rw [if_pos c2, if_pos c2]; rfl
      · rw [if_neg c2, if_neg c2]
        exact ih M (i + 1) (left % 2) (left / 2) (by omega) (by omega) (by omega) (by omega)
theorem yc_fitsMarks {φ : Nat → Nat → Nat} {μ : wMem} {σ : ySt} (O : yOk φ) (F : yFC φ μ) (S : ySok φ σ) {N : Nat} (hN : 4 ≤ N) {k : Nat} (hk : k < φ 0 3) :
    fX0_fitsMarks N (nI k) (yPut μ σ) = some (yB (yFit (φ 5 k) σ.sd σ.mk), yPut μ σ) := by
  have h3 := O.looks k hk
  unfold fX0_fitsMarks wLet
  rw [yPut_6, yPut_7]
  exact yc_fits_loop O (yFC_put F σ) N hk none (φ 5 k) N 0 σ.sd σ.mk (by omega) (by omega) S.sd S.mk1
