set_option maxRecDepth 100000
/-! ways of the game where the posts need not compare -/
def Ng_ok (φ : Nat → Nat → Nat) : NgS → List Nat → Prop
  | _, [] => True
  | x, a :: l => Ng_can φ x a = true ∧ Ng_ok φ (Ng_go x a) l
def Ng_end : NgS → List Nat → NgS
  | x, [] => x
  | x, a :: l => Ng_end (Ng_go x a) l
def Ng_S (c : Nat → Nat → Nat) : NgS → List Nat → Nat
  | _, [] => 0
  | x, a :: l => c (Ng_lf x a) a + Ng_S c (Ng_go x a) l
theorem Ng_run_iff {φ : Nat → Nat → Nat} : ∀ (l : List Nat) (x y : NgS), Ng_run φ x l = some y ↔ Ng_ok φ x l ∧ y = Ng_end x l := by
  intro l
  induction l with
  | nil =>
    intro x y
    constructor
    · intro h; cases h; exact ⟨trivial, rfl⟩
    · intro h; rw [h.2]; rfl
  | cons a l ih =>
    intro x y
    show (if Ng_can φ x a = true then Ng_run φ (Ng_go x a) l else none) = some y ↔ (Ng_can φ x a = true ∧ Ng_ok φ (Ng_go x a) l) ∧ y = Ng_end (Ng_go x a) l
    by_cases g : Ng_can φ x a = true
    · rw [if_pos g, ih]
      exact ⟨fun h => ⟨⟨g, h.1⟩, h.2⟩, fun h => ⟨h.1.2, h.2⟩⟩
    · rw [if_neg g]
      constructor
      · intro h; cases h
      · intro h; exact absurd h.1.1 g
theorem Ng_ok_app {φ : Nat → Nat → Nat} : ∀ (l m : List Nat) (x : NgS), Ng_ok φ x (l ++ m) ↔ Ng_ok φ x l ∧ Ng_ok φ (Ng_end x l) m := by
  intro l
  induction l with
  | nil => intro m x; exact ⟨fun h => ⟨trivial, h⟩, fun h => h.2⟩
  | cons a l ih =>
    intro m x
    show Ng_can φ x a = true ∧ Ng_ok φ (Ng_go x a) (l ++ m) ↔ (Ng_can φ x a = true ∧ Ng_ok φ (Ng_go x a) l) ∧ Ng_ok φ (Ng_end (Ng_go x a) l) m
    rw [ih, and_assoc]
theorem Ng_end_app : ∀ (l m : List Nat) (x : NgS), Ng_end x (l ++ m) = Ng_end (Ng_end x l) m := by
  intro l
  induction l with
  | nil => intro m x; rfl
  | cons a l ih => intro m x; exact ih m _
theorem Ng_S_app (c : Nat → Nat → Nat) : ∀ (l m : List Nat) (x : NgS), Ng_S c x (l ++ m) = Ng_S c x l + Ng_S c (Ng_end x l) m := by
  intro l
  induction l with
  | nil => intro m x; show _ = 0 + _; rw [Nat.zero_add]; rfl
  | cons a l ih => intro m x; show c _ a + Ng_S c _ (l ++ m) = c _ a + Ng_S c _ l + _; rw [ih]; show _ + (_ + Ng_S c (Ng_end (Ng_go x a) l) m) = _; rw [Nat.add_assoc]; rfl
theorem Ng_lo_S : ∀ (l : List Nat) (x : NgS), Ng_lo x l = Ng_S (fun f _ => f) x l := by
  intro l
  induction l with
  | nil => intro x; rfl
  | cons a l ih => intro x; show _ + Ng_lo _ l = _ + Ng_S _ _ l; rw [ih]
theorem Ng_ok_lt {φ : Nat → Nat → Nat} : ∀ (l : List Nat) (x : NgS), Ng_ok φ x l → ∀ a, a ∈ l → a < 200 := by
  intro l
  induction l with
  | nil => intro x _ a h; cases h
  | cons b l ih =>
    intro x h a ha
    rcases List.mem_cons.mp ha with e | e
    · rw [e]; exact (Ng_can_iff.mp h.1).1
    · exact ih _ h.2 a e
theorem Ng_raw_pr (φ : Nat → Nat → Nat) (b : Nat) : ∀ (l : List Nat) (x : NgS), (∀ a, a ∈ l → a ≠ 200) → yPr φ b (Ng_raw x l) = Ng_S (fun _ a => yPr1 φ b a) x l ∧ lo (Ng_raw x l) = Ng_lo x l ∧ cr (Ng_raw x l) = l.length := by
  intro l
  induction l with
  | nil => intro x _; exact ⟨rfl, rfl, rfl⟩
  | cons a l ih =>
    intro x h
    obtain ⟨i1, i2, i3⟩ := ih (Ng_go x a) fun b hb => h b (List.mem_cons_of_mem _ hb)
    have ha := h a List.mem_cons_self
    unfold Ng_raw
    have f : Ng_lf x a = 0 ∨ Ng_lf x a = 1 := by unfold Ng_lf; split <;> simp
    have p200 : yPr1 φ b 200 = 0 := by unfold yPr1; split <;> simp
    rcases f with f | f
    · rw [if_pos f]
      refine ⟨?_, ?_, ?_⟩
      · show yPr1 φ b a + yPr φ b (Ng_raw (Ng_go x a) l) = yPr1 φ b a + _; rw [i1]
      · show (if a = 200 then 1 else 0) + lo (Ng_raw (Ng_go x a) l) = Ng_lf x a + _; rw [if_neg ha, f, i2]
      · show (if a = 200 then 0 else 1) + cr (Ng_raw (Ng_go x a) l) = l.length + 1; rw [if_neg ha, i3]; omega
    · rw [if_neg (by omega)]
      refine ⟨?_, ?_, ?_⟩
      · show yPr1 φ b 200 + (yPr1 φ b a + yPr φ b (Ng_raw (Ng_go x a) l)) = yPr1 φ b a + _; rw [i1, p200, Nat.zero_add]
      · show 1 + ((if a = 200 then 1 else 0) + lo (Ng_raw (Ng_go x a) l)) = Ng_lf x a + _; rw [if_neg ha, f, i2]; omega
      · show 0 + ((if a = 200 then 0 else 1) + cr (Ng_raw (Ng_go x a) l)) = l.length + 1; rw [if_neg ha, i3]; omega
