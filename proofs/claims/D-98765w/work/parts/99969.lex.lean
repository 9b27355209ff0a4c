set_option maxRecDepth 100000
/-! part 99969: costs by two numbers; short rows; what is owed of bounds -/
theorem yLeastN {Q : Nat → Prop} : ∀ n, Q n → ∃ m, Q m ∧ ∀ k, Q k → m ≤ k := by
  intro n
  induction n using Nat.strongRecOn with
  | ind n ih =>
    intro h
    by_cases g : ∃ k, k < n ∧ Q k
    · obtain ⟨k, hk, q⟩ := g
      exact ih k hk q
    · exact ⟨n, h, fun k q => by
        rcases Nat.lt_or_ge k n with x | x
        · exact absurd ⟨k, x, q⟩ g
        · exact x⟩
/-- what counts first: nothing, risks, crossings -/
def yPr1 (φ : Nat → Nat → Nat) (b a : Nat) : Nat := if b = 0 then 0 else if a = 200 then 0 else if b = 1 then yRisk φ (a % 10) (a / 100) else 1
/-- what counts then: days, days, acts -/
def ySc1 (φ : Nat → Nat → Nat) (b a : Nat) : Nat := if b < 2 then yDay φ a else 1
def yPr (φ : Nat → Nat → Nat) (b : Nat) : List Nat → Nat
  | [] => 0
  | a :: l => yPr1 φ b a + yPr φ b l
def ySc (φ : Nat → Nat → Nat) (b : Nat) : List Nat → Nat
  | [] => 0
  | a :: l => ySc1 φ b a + ySc φ b l
theorem yCst_two (φ : Nat → Nat → Nat) (H : Nat) {b : Nat} (hb : b < 3) (a : Nat) : yCst φ H b a = H * yPr1 φ b a + ySc1 φ b a := by
  have : b = 0 ∨ b = 1 ∨ b = 2 := by omega
  unfold yCst yPr1 ySc1
  rcases this with h | h | h <;> subst h
  · simp
  · by_cases g : a = 200 <;> simp [g] <;> omega
  · by_cases g : a = 200 <;> simp [g]
theorem yCs_two (φ : Nat → Nat → Nat) (H : Nat) {b : Nat} (hb : b < 3) : ∀ l, yCs φ H b l = H * yPr φ b l + ySc φ b l := by
  intro l
  induction l with
  | nil => rfl
  | cons a l ih =>
    show yCst φ H b a + yCs φ H b l = H * (yPr1 φ b a + yPr φ b l) + (ySc1 φ b a + ySc φ b l)
    rw [ih, yCst_two φ H hb, Nat.mul_add]
    omega
theorem ySc_len {φ : Nat → Nat → Nat} (hl : 0 < φ 0 0) (b : Nat) : ∀ l : List Nat, l.length ≤ ySc φ b l := by
  intro l
  induction l with
  | nil => exact Nat.le_refl _
  | cons a l ih =>
    show l.length + 1 ≤ ySc1 φ b a + ySc φ b l
    have : 0 < ySc1 φ b a := by
      unfold ySc1
      split
      · exact yDay_pos hl a
      · decide
    omega
theorem ySc_le {φ : Nat → Nat → Nat} (O : yOk φ) (b : Nat) : ∀ l : List Nat, ySc φ b l ≤ 9 * l.length := by
  intro l
  induction l with
  | nil => exact Nat.le_refl _
  | cons a l ih =>
    show ySc1 φ b a + ySc φ b l ≤ 9 * (l.length + 1)
    have : ySc1 φ b a ≤ 9 := by
      unfold ySc1 yDay
      have := O.loaf
      repeat' split
      all_goals omega
    omega
theorem yPr_le {φ : Nat → Nat → Nat} (O : yOk φ) (b : Nat) : ∀ (l : List Nat) (σ τ : ySt), yRun φ σ l = some τ → yPr φ b l ≤ (if b = 2 then 1 else 100) * l.length := by
  intro l
  induction l with
  | nil => intro _ _ _; exact Nat.zero_le _
  | cons a l ih =>
    intro σ τ r
    replace r : (if yEb φ σ a = true then yRun φ (yDo φ σ a) l else none) = some τ := r
    by_cases g : yEb φ σ a = true
    · rw [if_pos g] at r
      have := ih _ _ r
      have p1 : yPr1 φ b a ≤ (if b = 2 then 1 else 100) := by
        unfold yPr1
        by_cases g0 : b = 0
        · rw [if_pos g0]; exact Nat.zero_le _
        · rw [if_neg g0]
          by_cases g1 : a = 200
          · rw [if_pos g1]; exact Nat.zero_le _
          · rw [if_neg g1]
            obtain ⟨_, h2, _, h4⟩ := (yEb_act g).1.resolve_left g1
            have := yRisk_le O h4 h2
            repeat' split
            all_goals omega
      show yPr1 φ b a + yPr φ b l ≤ (if b = 2 then 1 else 100) * (l.length + 1)
      rw [Nat.mul_add]
      omega
    · rw [if_neg g] at r; cases r
/-- a row can be had that visits no state twice -/
theorem yRun_take {φ : Nat → Nat → Nat} {σ τ : ySt} {l : List Nat} (r : yRun φ σ l = some τ) (i : Nat) : ∃ ρ, yRun φ σ (l.take i) = some ρ ∧ yRun φ ρ (l.drop i) = some τ := by
  have := yRun_append (φ := φ) (l.take i) (l.drop i) σ
  rw [List.take_append_drop, r] at this
  cases h : yRun φ σ (l.take i) with
  | none => rw [h] at this; cases this
  | some ρ =>
    rw [h] at this
    exact ⟨ρ, rfl, this.symm⟩
theorem yShort {φ : Nat → Nat → Nat} (O : yOk φ) {σ : ySt} (S : ySok φ σ) : ∀ (n : Nat) (l : List Nat) (τ : ySt), l.length ≤ n → yRun φ σ l = some τ → ∃ m, yRun φ σ m = some τ ∧ m.length ≤ 100352 := by
  intro n
  induction n with
  | zero => intro l τ h r; exact ⟨l, r, by omega⟩
  | succ n ih =>
    intro l τ h r
    rcases Nat.lt_or_ge 100352 l.length with g | g
    · by_cases two : ∃ i j, i < j ∧ j ≤ l.length ∧ yRun φ σ (l.take i) = yRun φ σ (l.take j)
      · obtain ⟨i, j, hij, hj, e⟩ := two
        obtain ⟨ρ, r1, r2⟩ := yRun_take r j
        refine ih (l.take i ++ l.drop j) τ ?_ ?_
        · rw [List.length_append, List.length_take, List.length_drop]
          omega
        · rw [yRun_append, e, r1]
          exact r2
      · exfalso
        have pig := yPig (n := l.length + 1) (m := 100352) (g := fun i => match yRun φ σ (l.take i) with | some ρ => yNum ρ | none => 0) (fun i hi => by
          obtain ⟨ρ, r1, _⟩ := yRun_take r i
          rw [r1]
          exact yNum_lt O (yW.ok O (H := 0) (b := 0) S ⟨_, r1, rfl⟩)) (fun i j hi hj e => by
          obtain ⟨ρ, r1, _⟩ := yRun_take r i
          obtain ⟨π, r2, _⟩ := yRun_take r j
          rw [r1, r2] at e
          replace e : yNum ρ = yNum π := e
          have : ρ = π := yNum_inj O (yW.ok O (H := 0) (b := 0) S ⟨_, r1, rfl⟩) (yW.ok O (H := 0) (b := 0) S ⟨_, r2, rfl⟩) e
          subst this
          rcases Nat.lt_trichotomy i j with q | q | q
          · exact absurd ⟨i, j, q, by omega, by rw [r1, r2]⟩ two
          · exact q
          · exact absurd ⟨j, i, q, by omega, by rw [r1, r2]⟩ two)
        omega
    · exact ⟨l, r, g⟩
/-- by days and by crossings nothing costs too much -/
theorem yFew_0 {φ : Nat → Nat → Nat} (O : yOk φ) {σ : ySt} (S : ySok φ σ) {b : Nat} (hb : b = 0 ∨ b = 2) : yFew φ b σ := by
  intro τ c w
  obtain ⟨l, r, _⟩ := w
  obtain ⟨m, r2, len⟩ := yShort O S l.length l τ (Nat.le_refl _) r
  refine ⟨yCs φ 1000 b m, ⟨m, r2, rfl⟩, ?_⟩
  rw [yCs_two φ 1000 (by omega)]
  have h1 := ySc_le O b m
  rcases hb with h | h
  · subst h
    have : ∀ m, yPr φ 0 m = 0 := by
      intro m
      induction m with
      | nil => rfl
      | cons a m ih => show yPr1 φ 0 a + yPr φ 0 m = 0; rw [ih]; rfl
    rw [this]
    omega
  · subst h
    have := yPr_le O 2 m σ τ r2
    rw [if_pos rfl] at this
    omega
/-- the bound on a least row: by what counts first, then by what counts then -/
def yBd1 (φ : Nat → Nat → Nat) (b : Nat) (σ : ySt) : Prop :=
  ∀ l τ, yRun φ σ l = some τ → yIsE φ τ → (∀ l2 τ2, yRun φ σ l2 = some τ2 → yIsE φ τ2 → yPr φ b l < yPr φ b l2 ∨ (yPr φ b l = yPr φ b l2 ∧ ySc φ b l ≤ ySc φ b l2)) → ySc φ b l < 1000 ∧ (b < 2 → l.length ≤ 400)
/-- WHAT IS OWED OF BOUNDS: for every family and every state that can be come to -/
def yBnd : Prop := ∀ φ, yOk φ → 0 < φ 0 0 → ∀ l σ, yRun φ yFirst l = some σ → yFew φ 1 σ ∧ ∀ b, b < 3 → yBd1 φ b σ
theorem yLex {φ : Nat → Nat → Nat} (O : yOk φ) {b : Nat} (hb : b < 3) {σ : ySt} (B : yBd1 φ b σ) {l0 : List Nat} {τ0 : ySt} (r0 : yRun φ σ l0 = some τ0) (e0 : yIsE φ τ0) :
    ∃ p s, s < 1000 ∧ p < 200000 ∧ ∀ H, 1000 ≤ H → yMin φ H b σ (yIsE φ) (H * p + s) := by
  obtain ⟨p, ⟨l1, τ1, r1, e1, p1⟩, mp⟩ := yLeastN (Q := fun p => ∃ l τ, yRun φ σ l = some τ ∧ yIsE φ τ ∧ yPr φ b l = p) (yPr φ b l0) ⟨l0, τ0, r0, e0, rfl⟩
  obtain ⟨s, ⟨l, τ, r, e, pp, ss⟩, ms⟩ := yLeastN (Q := fun s => ∃ l τ, yRun φ σ l = some τ ∧ yIsE φ τ ∧ yPr φ b l = p ∧ ySc φ b l = s) (ySc φ b l1) ⟨l1, τ1, r1, e1, p1, rfl⟩
  have lex : ∀ l2 τ2, yRun φ σ l2 = some τ2 → yIsE φ τ2 → yPr φ b l < yPr φ b l2 ∨ (yPr φ b l = yPr φ b l2 ∧ ySc φ b l ≤ ySc φ b l2) := fun l2 τ2 r2 e2 => by
    have a1 := mp _ ⟨l2, τ2, r2, e2, rfl⟩
    by_cases q : yPr φ b l2 = p
    · right
      have := ms _ ⟨l2, τ2, r2, e2, q, rfl⟩
      omega
    · left; omega
  obtain ⟨b1, b2⟩ := B l τ r e lex
  have pl := yPr_le O b l σ τ r
  refine ⟨p, s, by omega, ?_, fun H hH => ⟨⟨τ, e, l, r, by rw [yCs_two φ H hb, pp, ss]⟩, fun ρ d q w => ?_⟩⟩
  · by_cases q : b = 2
    · rw [if_pos q] at pl
      have : l.length ≤ ySc φ b l := by
        have : ∀ l : List Nat, b = 2 → l.length ≤ ySc φ b l := by
          intro l q
          subst q
          induction l with
          | nil => exact Nat.le_refl _
          | cons a l ih => show l.length + 1 ≤ 1 + ySc φ 2 l; omega
        exact this l q
      omega
    · rw [if_neg q] at pl
      have := b2 (by omega)
      omega
  · obtain ⟨l2, r2, d2⟩ := w
    rw [yCs_two φ H hb] at d2
    rcases lex l2 ρ r2 q with h | ⟨h1, h2⟩
    · have : H * (p + 1) ≤ H * yPr φ b l2 := Nat.mul_le_mul_left H (by omega)
      rw [Nat.mul_add] at this
      omega
    · rw [← h1, pp] at d2
      omega
/-- where the kept acts lead can be come to -/
theorem yEb_of {φ : Nat → Nat → Nat} {σ : ySt} {a : Nat} (h : yAct φ a) (hc : yCan φ σ a = true) : yEb φ σ a = true := by
  rcases h with h | ⟨h1, h2, h3, h4⟩
  · rw [h]; exact yEb_200 φ σ
  · rw [yEb_lt φ σ h1, hc]
    unfold yGd
    simp [h2, h3, h4]
theorem yLay_run {φ : Nat → Nat → Nat} (G : yGo φ) : ∀ i, i ≤ φ 0 6 → ∃ l, yRun φ yFirst l = some (yLay φ i)
  | 0, _ => ⟨[], rfl⟩
  | i + 1, h => by
    obtain ⟨l, r⟩ := yLay_run G i (by omega)
    obtain ⟨g1, g2⟩ := G i (by omega)
    refine ⟨l ++ [φ 6 i], ?_⟩
    rw [yRun_snoc, r]
    show (if yEb φ (yLay φ i) (φ 6 i) = true then some (yDo φ (yLay φ i) (φ 6 i)) else none) = _
    rw [if_pos (yEb_of g1 g2)]
    rfl
