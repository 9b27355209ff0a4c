set_option maxRecDepth 100000
/-! part 999695: the first cheapest row, told once for both sides -/
def yRe (φ : Nat → Nat → Nat) (τ : ySt) : Prop := ∃ l, yRun φ yFirst l = some τ
theorem yRe.next {φ : Nat → Nat → Nat} {τ : ySt} {x : Nat} (h : yRe φ τ) (ex : yEb φ τ x = true) : yRe φ (yDo φ τ x) := by
  obtain ⟨l, r⟩ := h
  refine ⟨l ++ [x], ?_⟩
  rw [yRun_snoc, r]
  show (if yEb φ τ x = true then some (yDo φ τ x) else none) = _
  rw [if_pos ex]
theorem yRe.ok {φ : Nat → Nat → Nat} {τ : ySt} (O : yOk φ) (h : yRe φ τ) : ySok φ τ := by
  obtain ⟨l, r⟩ := h
  exact yW.ok O (H := 0) (b := 0) (yFirst_ok φ) ⟨l, r, rfl⟩
/-- the least cost to the end is p by what counts first and s by what counts then -/
def yDx (φ : Nat → Nat → Nat) (b : Nat) (τ : ySt) (p s : Nat) : Prop := s < 1000 ∧ p < 200000 ∧ ∀ H, 1000 ≤ H → yMin φ H b τ (yIsE φ) (H * p + s)
theorem yDx_ex {φ : Nat → Nat → Nat} (W : yBnd) (O : yOk φ) (hl : 0 < φ 0 0) {b : Nat} (hb : b < 3) {τ : ySt} (R : yRe φ τ) (h : yHo φ τ) : ∃ p s, yDx φ b τ p s := by
  obtain ⟨l, r⟩ := R
  obtain ⟨l2, ρ, r2, e⟩ := h
  obtain ⟨_, bd⟩ := W φ O hl l τ r
  obtain ⟨p, s, s1, p1, mn⟩ := yLex O hb (bd b hb) r2 e
  exact ⟨p, s, s1, p1, mn⟩
theorem yDx.uniq {φ : Nat → Nat → Nat} {b p s p2 s2 : Nat} {τ : ySt} (h : yDx φ b τ p s) (g : yDx φ b τ p2 s2) : p = p2 ∧ s = s2 := by
  have a := (h.2.2 1000 (by decide)).uniq (g.2.2 1000 (by decide))
  have c := (h.2.2 2000 (by decide)).uniq (g.2.2 2000 (by decide))
  have := h.1
  have := g.1
  constructor <;> omega
theorem yDx.ho {φ : Nat → Nat → Nat} {b p s : Nat} {τ : ySt} (h : yDx φ b τ p s) : yHo φ τ := by
  obtain ⟨⟨ρ, e, l, r, _⟩, _⟩ := h.2.2 1000 (by decide)
  exact ⟨l, ρ, r, e⟩
theorem yDx.step {φ : Nat → Nat → Nat} {b p s p2 s2 x : Nat} {τ : ySt} (h : yDx φ b τ p s) (ex : yEb φ τ x = true) (g : yDx φ b (yDo φ τ x) p2 s2) {H : Nat} (hH : 1000 ≤ H) : H * p + s ≤ yCst φ H b x + (H * p2 + s2) := by
  obtain ⟨⟨ρ, e, w⟩, _⟩ := g.2.2 H hH
  exact (h.2.2 H hH).2 ρ _ e (yW.cons ex w)
theorem ySc1_le {φ : Nat → Nat → Nat} (O : yOk φ) (b a : Nat) : ySc1 φ b a ≤ 9 := by
  unfold ySc1 yDay
  have := O.loaf
  repeat' split
  all_goals omega
theorem ySc1_pos {φ : Nat → Nat → Nat} (hl : 0 < φ 0 0) (b a : Nat) : 0 < ySc1 φ b a := by
  unfold ySc1
  split
  · exact yDay_pos hl a
  · decide
/-- an act that lies on a cheapest row -/
def yTi (φ : Nat → Nat → Nat) (b p s p2 s2 x : Nat) : Prop := p = yPr1 φ b x + p2 ∧ s = ySc1 φ b x + s2
theorem yDx.tight {φ : Nat → Nat → Nat} (O : yOk φ) {b p s p2 s2 x : Nat} (hb : b < 3) {τ : ySt} (h : yDx φ b τ p s) (ex : yEb φ τ x = true) (g : yDx φ b (yDo φ τ x) p2 s2) :
    (yCst φ 1000 b x + (1000 * p2 + s2) = 1000 * p + s ↔ yTi φ b p s p2 s2 x) ∧ (yCst φ 10000 b x + (10000 * p2 + s2) = 10000 * p + s ↔ yTi φ b p s p2 s2 x) := by
  have a := h.step ex g (H := 1000) (by decide)
  have c := h.step ex g (H := 10000) (by decide)
  have := h.1
  have := g.1
  have := ySc1_le O b x
  rw [yCst_two φ 1000 hb] at a ⊢
  rw [yCst_two φ 10000 hb] at c ⊢
  unfold yTi
  constructor <;> constructor <;> omega
def yTg (φ : Nat → Nat → Nat) (b : Nat) (τ : ySt) (x : Nat) : Prop := yEb φ τ x = true ∧ ∃ p s p2 s2, yDx φ b τ p s ∧ yDx φ b (yDo φ τ x) p2 s2 ∧ yTi φ b p s p2 s2 x
def yFs (φ : Nat → Nat → Nat) (b : Nat) (τ : ySt) (x : Nat) : Prop := yTg φ b τ x ∧ ∀ y, y < x → ¬ yTg φ b τ y
theorem yFs.uniq {φ : Nat → Nat → Nat} {b x y : Nat} {τ : ySt} (h : yFs φ b τ x) (g : yFs φ b τ y) : x = y := by
  rcases Nat.lt_trichotomy x y with q | q | q
  · exact absurd h.1 (g.2 x q)
  · exact q
  · exact absurd g.1 (h.2 y q)
/-- the first cheapest row to the end -/
def yRow (φ : Nat → Nat → Nat) (b : Nat) : ySt → List Nat → Prop
  | τ, [] => yIsE φ τ
  | τ, x :: l => ¬ yIsE φ τ ∧ yFs φ b τ x ∧ yRow φ b (yDo φ τ x) l
theorem yRow.uniq {φ : Nat → Nat → Nat} {b : Nat} : ∀ (l m : List Nat) (τ : ySt), yRow φ b τ l → yRow φ b τ m → l = m := by
  intro l
  induction l with
  | nil =>
    intro m τ h g
    cases m with
    | nil => rfl
    | cons y m => exact absurd h g.1
  | cons x l ih =>
    intro m τ h g
    cases m with
    | nil => exact absurd g h.1
    | cons y m =>
      have e := h.2.1.uniq g.2.1
      subst e
      rw [ih m _ h.2.2 g.2.2]
theorem yDx_end {φ : Nat → Nat → Nat} {b p s : Nat} {τ : ySt} (h : yDx φ b τ p s) (e : yIsE φ τ) : p = 0 ∧ s = 0 := by
  have := (h.2.2 1000 (by decide)).2 τ 0 e (yW.nil φ 1000 b τ)
  constructor <;> omega
theorem yRow_ex {φ : Nat → Nat → Nat} (W : yBnd) (O : yOk φ) (hl : 0 < φ 0 0) {b : Nat} (hb : b < 3) : ∀ (s p : Nat) (τ : ySt), yRe φ τ → yDx φ b τ p s → ∃ l, yRow φ b τ l ∧ yPr φ b l = p ∧ ySc φ b l = s ∧ ∃ ρ, yRun φ τ l = some ρ ∧ yIsE φ ρ := by
  intro s
  induction s using Nat.strongRecOn with
  | ind s ih =>
    intro p τ R D
    by_cases e : yIsE φ τ
    · obtain ⟨p0, s0⟩ := yDx_end D e
      exact ⟨[], e, p0.symm, s0.symm, τ, rfl, e⟩
    · obtain ⟨⟨ρ, pe, l0, r0, c0⟩, _⟩ := D.2.2 1000 (by decide)
      have ex0 : ∃ x, yTg φ b τ x := by
        cases l0 with
        | nil =>
          have : τ = ρ := Option.some.inj r0
          rw [this] at e
          exact absurd pe e
        | cons x l1 =>
          replace r0 : (if yEb φ τ x = true then yRun φ (yDo φ τ x) l1 else none) = some ρ := r0
          by_cases q : yEb φ τ x = true
          · rw [if_pos q] at r0
            obtain ⟨p2, s2, D2⟩ := yDx_ex W O hl hb (R.next q) ⟨l1, ρ, r0, pe⟩
            refine ⟨x, q, p, s, p2, s2, D, D2, ?_⟩
            refine (D.tight O hb q D2).1.mp ?_
            have a := D.step q D2 (H := 1000) (by decide)
            have c := (D2.2.2 1000 (by decide)).2 ρ _ pe ⟨l1, r0, rfl⟩
            replace c0 : yCst φ 1000 b x + yCs φ 1000 b l1 = 1000 * p + s := c0
            omega
          · rw [if_neg q] at r0; cases r0
      obtain ⟨x0, t0⟩ := ex0
      obtain ⟨x, t, mn⟩ := yLeastN (Q := yTg φ b τ) x0 t0
      obtain ⟨ex, p1, s1, p2, s2, D1, D2, ti⟩ := id t
      obtain ⟨rfl, rfl⟩ := D.uniq D1
      have sp := ySc1_pos hl b x
      obtain ⟨l, y1, y2, y3, ρ2, y4, y5⟩ := ih s2 (by have := ti.2; omega) p2 (yDo φ τ x) (R.next ex) D2
      refine ⟨x :: l, ⟨e, ⟨t, fun y hy q => by have := mn y q; omega⟩, y1⟩, ?_, ?_, ρ2, ?_, y5⟩
      · show yPr1 φ b x + yPr φ b l = p
        rw [y2]; exact ti.1.symm
      · show ySc1 φ b x + ySc φ b l = s
        rw [y3]; exact ti.2.symm
      · show (if yEb φ τ x = true then yRun φ (yDo φ τ x) l else none) = _
        rw [if_pos ex, y4]
/-- the row has 400 acts at most -/
theorem yRow_len {φ : Nat → Nat → Nat} (W : yBnd) (O : yOk φ) (hl : 0 < φ 0 0) {b : Nat} (hb : b < 2) {p s : Nat} {τ ρ : ySt} {l : List Nat} (R : yRe φ τ) (D : yDx φ b τ p s) (hp : yPr φ b l = p) (hs : ySc φ b l = s) (r : yRun φ τ l = some ρ) (e : yIsE φ ρ) : l.length ≤ 400 := by
  obtain ⟨l0, r0⟩ := R
  obtain ⟨_, bd⟩ := W φ O hl l0 τ r0
  refine (bd b (by omega) l ρ r e fun l2 ρ2 r2 e2 => ?_).2 hb
  have c := (D.2.2 (1001 + ySc φ b l2) (by omega)).2 ρ2 _ e2 ⟨l2, r2, rfl⟩
  rw [yCs_two φ _ (by omega), ← hp, ← hs] at c
  rcases Nat.lt_trichotomy (yPr φ b l) (yPr φ b l2) with q | q | q
  · exact Or.inl q
  · right
    refine ⟨q, ?_⟩
    rw [q] at c
    omega
  · exfalso
    have : (1001 + ySc φ b l2) * (yPr φ b l2 + 1) ≤ (1001 + ySc φ b l2) * yPr φ b l := Nat.mul_le_mul_left _ q
    rw [Nat.mul_add] at this
    omega
