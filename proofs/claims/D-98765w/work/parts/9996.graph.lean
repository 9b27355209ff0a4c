set_option maxRecDepth 100000
/-! part 9996: walks and what they cost -/
def yEb (φ : Nat → Nat → Nat) (σ : ySt) (a : Nat) : Bool := decide (a = 200) || (decide (a < 200) && (yGd φ a && yCan φ σ a))
theorem yEb_act {φ : Nat → Nat → Nat} {σ : ySt} {a : Nat} (h : yEb φ σ a = true) : yAct φ a ∧ yCan φ σ a = true := by
  unfold yEb at h
  rw [Bool.or_eq_true] at h
  rcases h with h | h
  · have h2 : a = 200 := of_decide_eq_true h
    subst h2
    exact ⟨Or.inl rfl, by unfold yCan; simp⟩
  · rw [Bool.and_eq_true, Bool.and_eq_true] at h
    exact ⟨yGd_act (of_decide_eq_true h.1) h.2.1, h.2.2⟩
theorem yEb_200 (φ : Nat → Nat → Nat) (σ : ySt) : yEb φ σ 200 = true := by unfold yEb; simp
theorem yEb_lt (φ : Nat → Nat → Nat) (σ : ySt) {a : Nat} (ha : a < 200) : yEb φ σ a = (yGd φ a && yCan φ σ a) := by
  unfold yEb
  simp [ha, show a ≠ 200 by omega]
theorem yEb_le {φ : Nat → Nat → Nat} {σ : ySt} {a : Nat} (h : yEb φ σ a = true) : a ≤ 200 := (yEb_act h).1.le
theorem yNext_spec (φ : Nat → Nat → Nat) (σ : ySt) : ∀ n a, a + n = 200 → yEb φ σ (yNext φ σ n a) = true ∧ ∀ b, a ≤ b → b < yNext φ σ n a → yEb φ σ b = false := by
  intro n
  induction n with
  | zero =>
    intro a ha
    have : a = 200 := by omega
    subst this
    refine ⟨yEb_200 φ σ, fun b h1 h2 => ?_⟩
    exact absurd (show b < 200 from h2) (by omega)
  | succ n ih =>
    intro a ha
    have e : yNext φ σ (n + 1) a = if (yGd φ a && yCan φ σ a) = true then a else yNext φ σ n (a + 1) := rfl
    rw [e]
    by_cases g : (yGd φ a && yCan φ σ a) = true
    · rw [if_pos g]
      refine ⟨by rw [yEb_lt φ σ (by omega)]; exact g, fun b h1 h2 => by omega⟩
    · rw [if_neg g]
      obtain ⟨i1, i2⟩ := ih (a + 1) (by omega)
      refine ⟨i1, fun b h1 h2 => ?_⟩
      by_cases q : b = a
      · subst q
        rw [yEb_lt φ σ (by omega)]
        simpa using g
      · exact i2 b (by omega) h2
/-- the act that comes, from a number on; 201: none -/
def yNx (φ : Nat → Nat → Nat) (σ : ySt) (a : Nat) : Nat := if a = 201 then 201 else yNext φ σ (200 - a) a
theorem yNx_le (φ : Nat → Nat → Nat) (σ : ySt) {a : Nat} (ha : a ≤ 201) : a ≤ yNx φ σ a ∧ yNx φ σ a ≤ 201 := by
  unfold yNx
  by_cases h : a = 201
  · rw [if_pos h]; omega
  · rw [if_neg h]
    have := yNext_le φ σ (200 - a) a
    omega
theorem yNx_on (φ : Nat → Nat → Nat) (σ : ySt) {a : Nat} (ha : a ≤ 201) (h : yNx φ σ a ≠ 201) : yEb φ σ (yNx φ σ a) = true := by
  unfold yNx at h ⊢
  by_cases g : a = 201
  · rw [if_pos g] at h; exact absurd rfl h
  · rw [if_neg g]; exact (yNext_spec φ σ (200 - a) a (by omega)).1
theorem yNx_off (φ : Nat → Nat → Nat) (σ : ySt) {a : Nat} (ha : a ≤ 201) {b : Nat} (h1 : a ≤ b) (h2 : b < yNx φ σ a) : yEb φ σ b = false := by
  unfold yNx at h2
  by_cases g : a = 201
  · rw [if_pos g] at h2; omega
  · rw [if_neg g] at h2; exact (yNext_spec φ σ (200 - a) a (by omega)).2 b h1 h2
theorem yc_nx {φ : Nat → Nat → Nat} {μ : wMem} {σ : ySt} (O : yOk φ) (F : yFC φ μ) (S : ySok φ σ) {N : Nat} (hN : 202 ≤ N) {a : Nat} (ha : a ≤ 201) : fX0_nextAct N (nI a) (yPut μ σ) = some (nI (yNx φ σ a), yPut μ σ) := by
  unfold yNx
  by_cases h : a = 201
  · rw [if_pos h, h]; exact yc_nextNo (by omega)
  · rw [if_neg h]; exact yc_nextAct O F S hN (by omega)
theorem ym_nx {φ : Nat → Nat → Nat} {μ : wMem} {σ : ySt} (O : yOk φ) (F : yFM φ 0 μ) (S : ySok φ σ) {N : Nat} (hN : 202 ≤ N) {a : Nat} (ha : a ≤ 201) : fX6_nextAct N (nI a) (yTut μ (yT φ σ)) = some (if yNx φ σ a = 201 then -1 else nI (yNx φ σ a), yTut μ (yT φ σ)) := by
  unfold yNx
  by_cases h : a = 201
  · rw [if_pos h, h, if_pos rfl]; exact ym_nextNo O F (by omega)
  · rw [if_neg h]
    have := (yNext_le φ σ (200 - a) a).2
    rw [if_neg (by omega)]
    exact ym_nextAct O F S hN (by omega)
/-- a row of acts from a state on -/
def yRun (φ : Nat → Nat → Nat) : ySt → List Nat → Option ySt
  | σ, [] => some σ
  | σ, a :: l => if yEb φ σ a = true then yRun φ (yDo φ σ a) l else none
def yCs (φ : Nat → Nat → Nat) (H b : Nat) : List Nat → Nat
  | [] => 0
  | a :: l => yCst φ H b a + yCs φ H b l
theorem yRun_snoc {φ : Nat → Nat → Nat} : ∀ (l : List Nat) (σ : ySt) (a : Nat), yRun φ σ (l ++ [a]) = (yRun φ σ l).bind fun τ => if yEb φ τ a = true then some (yDo φ τ a) else none := by
  intro l
  induction l with
  | nil => intro σ a; rfl
  | cons x l ih =>
    intro σ a
    show (if yEb φ σ x = true then yRun φ (yDo φ σ x) (l ++ [a]) else none) = Option.bind (if yEb φ σ x = true then yRun φ (yDo φ σ x) l else none) _
    by_cases g : yEb φ σ x = true
    · rw [if_pos g, if_pos g]; exact ih _ a
    · rw [if_neg g, if_neg g]; rfl
theorem yRun_append {φ : Nat → Nat → Nat} : ∀ (l m : List Nat) (σ : ySt), yRun φ σ (l ++ m) = (yRun φ σ l).bind fun τ => yRun φ τ m := by
  intro l
  induction l with
  | nil => intro m σ; rfl
  | cons x l ih =>
    intro m σ
    show (if yEb φ σ x = true then yRun φ (yDo φ σ x) (l ++ m) else none) = Option.bind (if yEb φ σ x = true then yRun φ (yDo φ σ x) l else none) _
    by_cases g : yEb φ σ x = true
    · rw [if_pos g, if_pos g]; exact ih m _
    · rw [if_neg g, if_neg g]; rfl
theorem yCs_append (φ : Nat → Nat → Nat) (H b : Nat) : ∀ l m, yCs φ H b (l ++ m) = yCs φ H b l + yCs φ H b m := by
  intro l
  induction l with
  | nil => intro m; show yCs φ H b m = 0 + _; omega
  | cons x l ih =>
    intro m
    show yCst φ H b x + yCs φ H b (l ++ m) = yCst φ H b x + yCs φ H b l + _
    rw [ih m]; omega
/-- from σ to τ there is a row that costs c -/
def yW (φ : Nat → Nat → Nat) (H b : Nat) (σ τ : ySt) (c : Nat) : Prop := ∃ l, yRun φ σ l = some τ ∧ yCs φ H b l = c
theorem yW.nil (φ : Nat → Nat → Nat) (H b : Nat) (σ : ySt) : yW φ H b σ σ 0 := ⟨[], rfl, rfl⟩
theorem yW.snoc {φ : Nat → Nat → Nat} {H b : Nat} {σ τ : ySt} {c a : Nat} (h : yW φ H b σ τ c) (e : yEb φ τ a = true) : yW φ H b σ (yDo φ τ a) (c + yCst φ H b a) := by
  obtain ⟨l, h1, h2⟩ := h
  refine ⟨l ++ [a], ?_, ?_⟩
  · rw [yRun_snoc, h1]
    show (if yEb φ τ a = true then some (yDo φ τ a) else none) = _
    rw [if_pos e]
  · rw [yCs_append, h2]; rfl
theorem yW.cons {φ : Nat → Nat → Nat} {H b : Nat} {σ τ : ySt} {c a : Nat} (e : yEb φ σ a = true) (h : yW φ H b (yDo φ σ a) τ c) : yW φ H b σ τ (yCst φ H b a + c) := by
  obtain ⟨l, h1, h2⟩ := h
  refine ⟨a :: l, ?_, ?_⟩
  · show (if yEb φ σ a = true then yRun φ (yDo φ σ a) l else none) = _
    rw [if_pos e, h1]
  · show _ + yCs φ H b l = _
    rw [h2]
theorem yW.trans {φ : Nat → Nat → Nat} {H b : Nat} {σ τ ρ : ySt} {c d : Nat} (h : yW φ H b σ τ c) (g : yW φ H b τ ρ d) : yW φ H b σ ρ (c + d) := by
  obtain ⟨l, h1, h2⟩ := h
  obtain ⟨m, g1, g2⟩ := g
  refine ⟨l ++ m, ?_, ?_⟩
  · rw [yRun_append, h1]; exact g1
  · rw [yCs_append, h2, g2]
theorem yW.uncons {φ : Nat → Nat → Nat} {H b : Nat} {σ τ : ySt} {c : Nat} (h : yW φ H b σ τ c) : (σ = τ ∧ c = 0) ∨ ∃ a d, yEb φ σ a = true ∧ yW φ H b (yDo φ σ a) τ d ∧ c = yCst φ H b a + d := by
  obtain ⟨l, h1, h2⟩ := h
  cases l with
  | nil =>
    left
    exact ⟨Option.some.inj h1, h2.symm⟩
  | cons x l =>
    right
    replace h1 : (if yEb φ σ x = true then yRun φ (yDo φ σ x) l else none) = some τ := h1
    by_cases g : yEb φ σ x = true
    · rw [if_pos g] at h1
      exact ⟨x, yCs φ H b l, g, ⟨l, h1, rfl⟩, h2.symm⟩
    · rw [if_neg g] at h1; cases h1
/-- what holds at σ and goes on with every act holds wherever one can come -/
theorem yRun_ind {φ : Nat → Nat → Nat} {P : ySt → List Nat → Prop} {σ : ySt} (h0 : P σ []) (hs : ∀ τ l a, yRun φ σ l = some τ → P τ l → yEb φ τ a = true → P (yDo φ τ a) (l ++ [a])) : ∀ (n : Nat) (l : List Nat), l.length = n → ∀ τ, yRun φ σ l = some τ → P τ l := by
  intro n
  induction n with
  | zero =>
    intro l hl τ h
    have : l = [] := List.eq_nil_of_length_eq_zero hl
    subst this
    have e : σ = τ := Option.some.inj h
    subst e
    exact h0
  | succ n ih =>
    intro l hl τ h
    have ne : l ≠ [] := fun e => by rw [e] at hl; cases hl
    have e := (List.dropLast_concat_getLast ne).symm
    have len : l.dropLast.length = n := by rw [List.length_dropLast, hl]; rfl
    generalize l.dropLast = m at e len
    generalize l.getLast ne = a at e
    subst e
    rw [yRun_snoc] at h
    cases hr : yRun φ σ m with
    | none => rw [hr] at h; cases h
    | some ρ =>
      rw [hr] at h
      replace h : (if yEb φ ρ a = true then some (yDo φ ρ a) else none) = some τ := h
      by_cases g : yEb φ ρ a = true
      · rw [if_pos g] at h
        have e2 := Option.some.inj h
        subst e2
        exact hs ρ m a hr (ih m len ρ hr) g
      · rw [if_neg g] at h; cases h
theorem yW.ind {φ : Nat → Nat → Nat} {H b : Nat} {P : ySt → Nat → Prop} {σ : ySt} (h0 : P σ 0) (hs : ∀ τ c a, yW φ H b σ τ c → P τ c → yEb φ τ a = true → P (yDo φ τ a) (c + yCst φ H b a)) {τ : ySt} {c : Nat} (h : yW φ H b σ τ c) : P τ c := by
  obtain ⟨l, h1, h2⟩ := h
  have := yRun_ind (φ := φ) (P := fun τ l => P τ (yCs φ H b l)) (σ := σ) h0 (fun τ l a r p e => by
    show P (yDo φ τ a) (yCs φ H b (l ++ [a]))
    rw [yCs_append]
    exact hs τ _ a ⟨l, r, rfl⟩ p e) l.length l rfl τ h1
  rw [← h2]
  exact this
theorem yW.ok {φ : Nat → Nat → Nat} (O : yOk φ) {H b : Nat} {σ τ : ySt} {c : Nat} (S : ySok φ σ) (h : yW φ H b σ τ c) : ySok φ τ := by
  refine yW.ind (P := fun τ _ => ySok φ τ) S (fun τ c a _ p e => ?_) h
  exact yDo_ok O p (yEb_act e).1
theorem yDay_pos {φ : Nat → Nat → Nat} (hl : 0 < φ 0 0) (a : Nat) : 0 < yDay φ a := by
  unfold yDay
  split
  · exact hl
  · decide
theorem yCst_pos {φ : Nat → Nat → Nat} (hl : 0 < φ 0 0) (H b a : Nat) : 0 < yCst φ H b a := by
  have := yDay_pos hl a
  unfold yCst
  repeat' split
  all_goals omega
theorem yCst_le {φ : Nat → Nat → Nat} (O : yOk φ) {H b a : Nat} (hH : 9 ≤ H) (ha : yAct φ a) : yCst φ H b a ≤ 100 * H + 9 := by
  have hd : yDay φ a ≤ 9 := by
    unfold yDay
    have := O.loaf
    split <;> omega
  unfold yCst
  by_cases h : a = 200
  · subst h
    simp only [if_true]
    repeat' split
    all_goals omega
  · obtain ⟨h1, h2, h3, h4⟩ := ha.resolve_left h
    have r := yRisk_le O h4 h2
    have rm : H * yRisk φ (a % 10) (a / 100) ≤ H * 100 := Nat.mul_le_mul_left H r
    simp only [if_neg h]
    repeat' split
    all_goals omega
/-- one number of a state is one state -/
theorem yNum_inj {φ : Nat → Nat → Nat} {σ τ : ySt} (O : yOk φ) (S : ySok φ σ) (T : ySok φ τ) (e : yNum σ = yNum τ) : σ = τ := by
  have h1 := yUn_num O S
  have h2 := yUn_num O T
  rw [e, h2] at h1
  exact h1.symm
