set_option maxRecDepth 100000
/-! of seven loafs some may be left out -/
def Cg_st (u p D : Nat) (e : Bool) : Nat := if p = u ∨ D.testBit u = (D.testBit p ^^ e) then D else D ^^^ 2 ^ u
theorem Cg_st_bit (u p D : Nat) (e : Bool) (q : Nat) : (Cg_st u p D e).testBit q = if q = u ∧ p ≠ u then (D.testBit p ^^ e) else D.testBit q := by
  unfold Cg_st
  by_cases pu : p = u
  · rw [if_pos (Or.inl pu), if_neg (fun h => h.2 pu)]
  · by_cases h : D.testBit u = (D.testBit p ^^ e)
    · rw [if_pos (Or.inr h)]
      by_cases qu : q = u
      · rw [if_pos ⟨qu, pu⟩, qu, h]
      · rw [if_neg (fun w => qu w.1)]
    · rw [if_neg (fun w => w.elim pu h), cBit_xor]
      by_cases qu : q = u
      · rw [if_pos qu, if_pos ⟨qu, pu⟩, qu]
        revert h
        cases D.testBit u <;> cases D.testBit p <;> cases e <;> simp
      · rw [if_neg qu, if_neg (fun w => qu w.1)]
theorem Cg_st_xor (u p D E : Nat) (e f : Bool) : Cg_st u p (D ^^^ E) (e ^^ f) = Cg_st u p D e ^^^ Cg_st u p E f := by
  apply Nat.eq_of_testBit_eq
  intro q
  rw [Nat.testBit_xor, Cg_st_bit, Cg_st_bit, Cg_st_bit]
  split
  · rw [Nat.testBit_xor]
    cases D.testBit p <;> cases E.testBit p <;> cases e <;> cases f <;> rfl
  · rw [Nat.testBit_xor]
def Cg_xl : List Bool → List Bool → List Bool
  | b :: bs, c :: cs => (b ^^ c) :: Cg_xl bs cs
  | _, _ => []
theorem Cg_df_xor : ∀ (l : List Nat) (bs cs : List Bool) (x : CgS) (D E : Nat), bs.length = l.length → cs.length = l.length → Cg_df x (D ^^^ E) l (Cg_xl bs cs) = Cg_df x D l bs ^^^ Cg_df x E l cs := by
  intro l
  induction l with
  | nil =>
    intro bs cs x D E h1 h2
    have e1 : bs = [] := List.length_eq_zero_iff.mp h1
    have e2 : cs = [] := List.length_eq_zero_iff.mp h2
    subst e1; subst e2; rfl
  | cons a l ih =>
    intro bs cs x D E h1 h2
    cases bs with
    | nil => cases h1
    | cons b bs =>
      cases cs with
      | nil => cases h2
      | cons c cs =>
        have h1' : bs.length = l.length := by have : bs.length + 1 = l.length + 1 := h1; omega
        have h2' : cs.length = l.length := by have : cs.length + 1 = l.length + 1 := h2; omega
        show Cg_df (Cg_go x a) (Cg_st (Cg_t x - 1) (a % 10) (D ^^^ E) ((b ^^ c) && decide (Cg_lf x a = 1))) l (Cg_xl bs cs) =
          Cg_df (Cg_go x a) (Cg_st (Cg_t x - 1) (a % 10) D (b && decide (Cg_lf x a = 1))) l bs ^^^ Cg_df (Cg_go x a) (Cg_st (Cg_t x - 1) (a % 10) E (c && decide (Cg_lf x a = 1))) l cs
        rw [← ih bs cs _ _ _ h1' h2', ← Cg_st_xor]
        congr 2
        cases b <;> cases c <;> cases decide (Cg_lf x a = 1) <;> rfl
theorem Cg_df_lt {φ : Nat → Nat → Nat} (O : yOk φ) : ∀ (l : List Nat) (bs : List Bool) (x : CgS) (D : Nat), Cg_g φ x → Cg_ok φ x l → D < 64 → Cg_df x D l bs < 64 := by
  intro l
  induction l with
  | nil => intro bs x D _ _ h; cases bs <;> exact h
  | cons a l ih =>
    intro bs x D g k h
    cases bs with
    | nil => exact h
    | cons b bs =>
      have p6 := O.persons
      have := g.2.2.1.1
      refine ih bs _ _ (Cg_g_go k.1) k.2 ?_
      show Cg_st _ _ _ _ < 64
      unfold Cg_st
      split
      · exact h
      · have : 2 ^ (Cg_t x - 1) < 2 ^ 6 := Nat.pow_lt_pow_right (by decide) (by omega)
        exact Nat.xor_lt_two_pow (n := 6) h this
/-- the loafs of S: bit i says whether the loaf i is left out -/
def Cg_mk : CgS → List Nat → Nat → List Bool
  | _, [], _ => []
  | x, a :: l, S => if Cg_lf x a = 1 then S.testBit 0 :: Cg_mk (Cg_go x a) l (S / 2) else false :: Cg_mk (Cg_go x a) l S
theorem Cg_mk_len : ∀ (l : List Nat) (x : CgS) (S : Nat), (Cg_mk x l S).length = l.length := by
  intro l
  induction l with
  | nil => intro x S; rfl
  | cons a l ih =>
    intro x S
    show (if _ then _ else _ : List Bool).length = l.length + 1
    split
    · show (Cg_mk _ l _).length + 1 = _; rw [ih]
    · show (Cg_mk _ l _).length + 1 = _; rw [ih]
theorem Cg_mk_xor : ∀ (l : List Nat) (x : CgS) (S T : Nat), Cg_xl (Cg_mk x l S) (Cg_mk x l T) = Cg_mk x l (S ^^^ T) := by
  intro l
  induction l with
  | nil => intro x S T; rfl
  | cons a l ih =>
    intro x S T
    unfold Cg_mk
    by_cases h : Cg_lf x a = 1
    · rw [if_pos h, if_pos h, if_pos h]
      show (S.testBit 0 ^^ T.testBit 0) :: Cg_xl (Cg_mk _ l _) (Cg_mk _ l _) = _
      rw [ih, Nat.testBit_xor]
      congr 2
      apply Nat.eq_of_testBit_eq
      intro i
      rw [Nat.testBit_xor, Nat.testBit_div_two, Nat.testBit_div_two, Nat.testBit_div_two, Nat.testBit_xor]
    · rw [if_neg h, if_neg h, if_neg h]
      show (false ^^ false) :: Cg_xl (Cg_mk _ l _) (Cg_mk _ l _) = _
      rw [ih]; rfl
theorem Cg_mk_pos {φ : Nat → Nat → Nat} : ∀ (l : List Nat) (x : CgS) (S : Nat), Cg_g φ x → Cg_ok φ x l → S ≠ 0 → S < 2 ^ Cg_lo x l → 1 ≤ Cg_om_n x l (Cg_mk x l S) := by
  intro l
  induction l with
  | nil => intro x S _ _ h1 h2; exfalso; change S < 2 ^ 0 at h2; rw [Nat.pow_zero] at h2; omega
  | cons a l ih =>
    intro x S g k h1 h2
    have g' := Cg_g_go k.1
    unfold Cg_mk
    by_cases h : Cg_lf x a = 1
    · rw [if_pos h]
      have ne : a % 10 ≠ Cg_t x - 1 := by
        intro e
        have : Cg_lf x a = 0 := by
          unfold Cg_lf
          rw [e, g.2.1, if_pos]
          unfold Cg_ar; rw [if_neg g.1]
        omega
      show 1 ≤ (if a % 10 ≠ Cg_t x - 1 ∧ (S.testBit 0 && decide (Cg_lf x a = 1)) = true then 1 else 0) + Cg_om_n (Cg_go x a) l (Cg_mk (Cg_go x a) l (S / 2))
      by_cases b0 : S.testBit 0 = true
      · rw [if_pos ⟨ne, by rw [b0, h]; rfl⟩]; omega
      · have e2 : Cg_lo x (a :: l) = 1 + Cg_lo (Cg_go x a) l := by show Cg_lf x a + _ = _; rw [h]
        rw [e2, Nat.pow_add] at h2
        rw [Nat.testBit_zero, decide_eq_true_eq] at b0
        have := ih (Cg_go x a) (S / 2) g' k.2 (by omega) (by omega)
        omega
    · rw [if_neg h]
      have e2 : Cg_lo x (a :: l) = Cg_lo (Cg_go x a) l := by
        show Cg_lf x a + _ = _
        have : Cg_lf x a = 0 ∨ Cg_lf x a = 1 := by unfold Cg_lf; split <;> simp
        have : Cg_lf x a = 0 := this.resolve_right h
        rw [this, Nat.zero_add]
      rw [e2] at h2
      have := ih (Cg_go x a) S g' k.2 h1 h2
      show 1 ≤ (if _ then 1 else 0) + Cg_om_n (Cg_go x a) l (Cg_mk (Cg_go x a) l S)
      omega
/-- pigeons: 128 into 64 -/
theorem Cg_pig (f : Nat → Nat) (h : ∀ S, S < 128 → f S < 64) : ∃ S T, S < 128 ∧ T < 128 ∧ S ≠ T ∧ f S = f T := by
  refine Classical.byContradiction fun n => ?_
  have := yPig2 (p := fun _ => true) (n := 128) (m := 64) (g := f) (fun i hi _ => h i hi) (fun i j hij hj _ _ e => n ⟨i, j, by omega, hj, by omega, e⟩)
  have c : yCn (fun _ => true) 128 = 128 := by decide +kernel
  omega
/-- a way without children and with seven loafs has a way to the same end with fewer -/
theorem Cg_seven {φ : Nat → Nat → Nat} (O : yOk φ) {A : Nat} (hA : A < φ 0 3) (h0 : φ 5 A = 0) {x : CgS} {l : List Nat} (g : Cg_g φ x) (k : Cg_ok φ x l) (kd : Cg_kid l) (h7 : 7 ≤ Cg_lo x l) :
    ∃ m, Cg_ok φ x m ∧ Cg_le (Cg_end x l) (Cg_end x m) ∧ Cg_lo x m < Cg_lo x l ∧ Cg_kid m := by
  obtain ⟨S, T, hS, hT, ne, e⟩ := Cg_pig (fun S => Cg_df x 0 l (Cg_mk x l S)) fun S _ => Cg_df_lt O l _ x 0 g k (by decide)
  have R0 : S ^^^ T ≠ 0 := fun z => ne (by
    have : S ^^^ T ^^^ T = 0 ^^^ T := by rw [z]
    rw [Nat.xor_assoc, Nat.xor_self, Nat.xor_zero, Nat.zero_xor] at this; exact this)
  have Rl : S ^^^ T < 2 ^ Cg_lo x l := Nat.lt_of_lt_of_le (Nat.xor_lt_two_pow (n := 7) hS hT) (Nat.pow_le_pow_right (by decide) h7)
  have D0 : Cg_df x 0 l (Cg_mk x l (S ^^^ T)) = 0 := by
    rw [← Cg_mk_xor]
    have := Cg_df_xor l (Cg_mk x l S) (Cg_mk x l T) x 0 0 (Cg_mk_len _ _ _) (Cg_mk_len _ _ _)
    rw [Nat.xor_self] at this
    rw [this]
    have e' : Cg_df x 0 l (Cg_mk x l S) = Cg_df x 0 l (Cg_mk x l T) := e
    rw [e', Nat.xor_self]
  obtain ⟨i1, i2, i3, i4, i5, i6, i7, i8⟩ := Cg_om_ok O hA h0 l (Cg_mk x l (S ^^^ T)) x x (Cg_mk_len _ _ _) g g rfl (Nat.le_refl _) k kd
  rw [Nat.xor_self, D0] at i6
  have pos := Cg_mk_pos l x (S ^^^ T) g k R0 Rl
  have es : Cg_s (Cg_end x l) = Cg_s (Cg_end x (Cg_om A x x l (Cg_mk x l (S ^^^ T)))) := by
    have : Cg_s (Cg_end x l) ^^^ Cg_s (Cg_end x (Cg_om A x x l (Cg_mk x l (S ^^^ T)))) ^^^ Cg_s (Cg_end x (Cg_om A x x l (Cg_mk x l (S ^^^ T)))) = 0 ^^^ Cg_s (Cg_end x (Cg_om A x x l (Cg_mk x l (S ^^^ T)))) := by rw [i6]
    rw [Nat.xor_assoc, Nat.xor_self, Nat.xor_zero, Nat.zero_xor] at this; exact this
  refine ⟨_, i1, ⟨i2, es, ?_, i3⟩, by omega, i8⟩
  rw [i4.2.1, i5.2.1]
  unfold Cg_ar
  rw [if_neg i4.1, if_neg i5.1, i2, es]
