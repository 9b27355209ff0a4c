set_option maxRecDepth 100000
/-! all but six loafs may be left out at once -/
theorem Ng_df_xor : ∀ (l : List Nat) (bs cs : List Bool) (x : NgS) (D E : Nat), bs.length = l.length → cs.length = l.length → Ng_df x (D ^^^ E) l (Cg_xl bs cs) = Ng_df x D l bs ^^^ Ng_df x E l cs := by
  intro l
  induction l with
  | nil =>
    intro bs cs x D E h1 h2
    have e1 : bs = [] := List.length_eq_zero_iff.mp h1
    have e2 : cs = [] := List.length_eq_zero_iff.mp h2
    subst e1; subst e2; rfl
  | cons a l ih =>
    intro bs cs x D E h1 h2
    cases bs with
    | nil => cases h1
    | cons b bs =>
      cases cs with
      | nil => cases h2
      | cons c cs =>
        have h1' : bs.length = l.length := by have : bs.length + 1 = l.length + 1 := h1; omega
        have h2' : cs.length = l.length := by have : cs.length + 1 = l.length + 1 := h2; omega
        show Ng_df (Ng_go x a) (Cg_st (Ng_t x - 1) (a % 10) (D ^^^ E) ((b ^^ c) && decide (Ng_lf x a = 1))) l (Cg_xl bs cs) =
          Ng_df (Ng_go x a) (Cg_st (Ng_t x - 1) (a % 10) D (b && decide (Ng_lf x a = 1))) l bs ^^^ Ng_df (Ng_go x a) (Cg_st (Ng_t x - 1) (a % 10) E (c && decide (Ng_lf x a = 1))) l cs
        rw [← ih bs cs _ _ _ h1' h2', ← Cg_st_xor]
        congr 2
        cases b <;> cases c <;> cases decide (Ng_lf x a = 1) <;> rfl
theorem Ng_df_lt {φ : Nat → Nat → Nat} (O : yOk φ) : ∀ (l : List Nat) (bs : List Bool) (x : NgS) (D : Nat), Ng_g φ x → Ng_ok φ x l → D < 64 → Ng_df x D l bs < 64 := by
  intro l
  induction l with
  | nil => intro bs x D _ _ h; cases bs <;> exact h
  | cons a l ih =>
    intro bs x D g k h
    cases bs with
    | nil => exact h
    | cons b bs =>
      have p6 := O.persons
      have := g.2.2.1.1
      refine ih bs _ _ (Ng_g_go O (fun h => absurd h g.1) k.1) k.2 ?_
      show Cg_st _ _ _ _ < 64
      unfold Cg_st
      split
      · exact h
      · have : 2 ^ (Ng_t x - 1) < 2 ^ 6 := Nat.pow_lt_pow_right (by decide) (by omega)
        exact Nat.xor_lt_two_pow (n := 6) h this
/-- of the loafs that are left: bit i of S says whether the i-th of them is left out -/
def Ng_mk : NgS → List Nat → List Bool → Nat → List Bool
  | x, a :: l, b :: bs, S => if Ng_lf x a = 1 ∧ b = false then S.testBit 0 :: Ng_mk (Ng_go x a) l bs (S / 2) else false :: Ng_mk (Ng_go x a) l bs S
  | _, _, _, _ => []
/-- loafs left -/
def Ng_rm : NgS → List Nat → List Bool → Nat
  | x, a :: l, b :: bs => (if Ng_lf x a = 1 ∧ b = false then 1 else 0) + Ng_rm (Ng_go x a) l bs
  | _, _, _ => 0
theorem Ng_mk_len : ∀ (l : List Nat) (bs : List Bool) (x : NgS) (S : Nat), bs.length = l.length → (Ng_mk x l bs S).length = l.length := by
  intro l
  induction l with
  | nil => intro bs x S h; rw [List.length_eq_zero_iff.mp h]; rfl
  | cons a l ih =>
    intro bs x S h
    cases bs with
    | nil => cases h
    | cons b bs =>
      have h' : bs.length = l.length := by have : bs.length + 1 = l.length + 1 := h; omega
      show (if _ then _ else _ : List Bool).length = l.length + 1
      split
      · show (Ng_mk _ l bs _).length + 1 = _; rw [ih bs _ _ h']
      · show (Ng_mk _ l bs _).length + 1 = _; rw [ih bs _ _ h']
theorem Ng_mk_xor : ∀ (l : List Nat) (bs : List Bool) (x : NgS) (S T : Nat), bs.length = l.length → Cg_xl (Ng_mk x l bs S) (Ng_mk x l bs T) = Ng_mk x l bs (S ^^^ T) := by
  intro l
  induction l with
  | nil => intro bs x S T h; rw [List.length_eq_zero_iff.mp h]; rfl
  | cons a l ih =>
    intro bs x S T h
    cases bs with
    | nil => cases h
    | cons b bs =>
      have h' : bs.length = l.length := by have : bs.length + 1 = l.length + 1 := h; omega
      unfold Ng_mk
      by_cases g : Ng_lf x a = 1 ∧ b = false
      · rw [if_pos g, if_pos g, if_pos g]
        show (S.testBit 0 ^^ T.testBit 0) :: Cg_xl (Ng_mk _ l bs _) (Ng_mk _ l bs _) = _
        rw [ih bs _ _ _ h', Nat.testBit_xor]
        congr 2
        apply Nat.eq_of_testBit_eq
        intro i
        rw [Nat.testBit_xor, Nat.testBit_div_two, Nat.testBit_div_two, Nat.testBit_div_two, Nat.testBit_xor]
      · rw [if_neg g, if_neg g, if_neg g]
        show (false ^^ false) :: Cg_xl (Ng_mk _ l bs _) (Ng_mk _ l bs _) = _
        rw [ih bs _ _ _ h']; rfl
theorem Ng_xl_len : ∀ (bs cs : List Bool) (n : Nat), bs.length = n → cs.length = n → (Cg_xl bs cs).length = n := by
  intro bs
  induction bs with
  | nil => intro cs n h1 h2; cases cs <;> exact h1
  | cons b bs ih =>
    intro cs n h1 h2
    cases cs with
    | nil => exact h2
    | cons c cs =>
      show (Cg_xl bs cs).length + 1 = n
      have h1' : bs.length + 1 = n := h1
      have h2' : cs.length + 1 = n := h2
      rw [ih cs bs.length rfl (by omega)]; exact h1'
/-- fewer are left then -/
theorem Ng_rm_lt : ∀ (l : List Nat) (bs : List Bool) (x : NgS) (S : Nat), bs.length = l.length → S < 2 ^ Ng_rm x l bs →
    Ng_rm x l (Cg_xl bs (Ng_mk x l bs S)) ≤ Ng_rm x l bs ∧ (S ≠ 0 → Ng_rm x l (Cg_xl bs (Ng_mk x l bs S)) < Ng_rm x l bs) := by
  intro l
  induction l with
  | nil => intro bs x S h h2; rw [List.length_eq_zero_iff.mp h] at h2 ⊢; exact ⟨Nat.le_refl _, fun n => by change S < 2 ^ 0 at h2; rw [Nat.pow_zero] at h2; omega⟩
  | cons a l ih =>
    intro bs x S h h2
    cases bs with
    | nil => cases h
    | cons b bs =>
      have h' : bs.length = l.length := by have : bs.length + 1 = l.length + 1 := h; omega
      by_cases g : Ng_lf x a = 1 ∧ b = false
      · have e1 : Ng_rm x (a :: l) (b :: bs) = 1 + Ng_rm (Ng_go x a) l bs := by show (if _ then 1 else 0) + _ = _; rw [if_pos g]
        have e2 : Ng_mk x (a :: l) (b :: bs) S = S.testBit 0 :: Ng_mk (Ng_go x a) l bs (S / 2) := by show (if _ then _ else _) = _; rw [if_pos g]
        rw [e1, Nat.pow_add] at h2
        obtain ⟨i1, i2⟩ := ih bs (Ng_go x a) (S / 2) h' (by omega)
        have e3 : Ng_rm x (a :: l) (Cg_xl (b :: bs) (Ng_mk x (a :: l) (b :: bs) S)) = (if S.testBit 0 = false then 1 else 0) + Ng_rm (Ng_go x a) l (Cg_xl bs (Ng_mk (Ng_go x a) l bs (S / 2))) := by
          rw [e2]
          show (if Ng_lf x a = 1 ∧ (b ^^ S.testBit 0) = false then 1 else 0) + _ = _
          rw [g.2]
          simp [g.1]
        rw [e1, e3]
        by_cases t : S.testBit 0 = true
        · rw [if_neg (by rw [t]; decide)]
          exact ⟨by omega, fun _ => by omega⟩
        · rw [if_pos (by simpa using t)]
          refine ⟨by omega, fun n => ?_⟩
          rw [Nat.testBit_zero, decide_eq_true_eq] at t
          have := i2 (by omega)
          omega
      · have e1 : Ng_rm x (a :: l) (b :: bs) = Ng_rm (Ng_go x a) l bs := by show (if _ then 1 else 0) + _ = _; rw [if_neg g, Nat.zero_add]
        have e2 : Ng_mk x (a :: l) (b :: bs) S = false :: Ng_mk (Ng_go x a) l bs S := by show (if _ then _ else _) = _; rw [if_neg g]
        rw [e1] at h2
        obtain ⟨i1, i2⟩ := ih bs (Ng_go x a) S h' h2
        have e3 : Ng_rm x (a :: l) (Cg_xl (b :: bs) (Ng_mk x (a :: l) (b :: bs) S)) = Ng_rm (Ng_go x a) l (Cg_xl bs (Ng_mk (Ng_go x a) l bs S)) := by
          rw [e2]
          show (if Ng_lf x a = 1 ∧ (b ^^ false) = false then 1 else 0) + _ = _
          rw [Bool.xor_false, if_neg g, Nat.zero_add]
        rw [e1, e3]
        exact ⟨i1, i2⟩
/-- some loafs may be left out so that at most six are left -/
theorem Ng_six {φ : Nat → Nat → Nat} (O : yOk φ) {x : NgS} {l : List Nat} (g : Ng_g φ x) (k : Ng_ok φ x l) : ∀ (n : Nat) (bs : List Bool), bs.length = l.length → Ng_df x 0 l bs = 0 → Ng_rm x l bs ≤ n → ∃ cs : List Bool, cs.length = l.length ∧ Ng_df x 0 l cs = 0 ∧ Ng_rm x l cs ≤ 6 := by
  intro n
  induction n with
  | zero => intro bs h1 h2 h3; exact ⟨bs, h1, h2, by omega⟩
  | succ n ih =>
    intro bs h1 h2 h3
    by_cases h7 : Ng_rm x l bs ≤ 6
    · exact ⟨bs, h1, h2, h7⟩
    · obtain ⟨S, T, hS, hT, ne, e⟩ := Cg_pig (fun S => Ng_df x 0 l (Ng_mk x l bs S)) fun S _ => Ng_df_lt O l _ x 0 g k (by decide)
      have R0 : S ^^^ T ≠ 0 := fun z => ne (by
        have : S ^^^ T ^^^ T = 0 ^^^ T := by rw [z]
        rw [Nat.xor_assoc, Nat.xor_self, Nat.xor_zero, Nat.zero_xor] at this; exact this)
      have Rl : S ^^^ T < 2 ^ Ng_rm x l bs := Nat.lt_of_lt_of_le (Nat.xor_lt_two_pow (n := 7) hS hT) (Nat.pow_le_pow_right (by decide) (by omega))
      have ml := fun U => Ng_mk_len l bs x U h1
      have D0 : Ng_df x 0 l (Ng_mk x l bs (S ^^^ T)) = 0 := by
        rw [← Ng_mk_xor l bs x S T h1]
        have := Ng_df_xor l (Ng_mk x l bs S) (Ng_mk x l bs T) x 0 0 (ml _) (ml _)
        rw [Nat.xor_self] at this
        rw [this]
        have e' : Ng_df x 0 l (Ng_mk x l bs S) = Ng_df x 0 l (Ng_mk x l bs T) := e
        rw [e', Nat.xor_self]
      obtain ⟨_, lt⟩ := Ng_rm_lt l bs x (S ^^^ T) h1 Rl
      have := lt R0
      refine ih (Cg_xl bs (Ng_mk x l bs (S ^^^ T))) (Ng_xl_len _ _ _ h1 (ml _)) ?_ (by omega)
      have := Ng_df_xor l bs (Ng_mk x l bs (S ^^^ T)) x 0 0 h1 (ml _)
      rw [Nat.xor_self, h2, D0] at this
      exact this
/-- letters that are not to and fro -/
def Ng_mv : NgS → List Nat → Nat
  | _, [] => 0
  | x, a :: l => (if a % 10 = Ng_t x - 1 then 0 else 1) + Ng_mv (Ng_go x a) l
theorem Ng_om_len : ∀ (l : List Nat) (bs : List Bool) (x y : NgS), (Ng_om x y l bs).length ≤ l.length + Ng_mv x l := by
  intro l
  induction l with
  | nil => intro bs x y; cases bs <;> exact Nat.zero_le _
  | cons a l ih =>
    intro bs x y
    cases bs with
    | nil => exact Nat.zero_le _
    | cons b bs =>
      by_cases cond : a % 10 = Ng_t x - 1 ∨ (Ng_s x ^^^ Ng_s y).testBit (Ng_t x - 1) = ((Ng_s x ^^^ Ng_s y).testBit (a % 10) ^^ (b && decide (Ng_lf x a = 1)))
      · have e1 : Ng_om x y (a :: l) (b :: bs) = a :: Ng_om (Ng_go x a) (Ng_go y a) l bs := by
          show (if _ then _ else _) = _; rw [if_pos cond]
        rw [e1]
        have := ih bs (Ng_go x a) (Ng_go y a)
        show (Ng_om (Ng_go x a) (Ng_go y a) l bs).length + 1 ≤ (l.length + 1) + ((if _ then 0 else 1) + Ng_mv (Ng_go x a) l)
        omega
      · have e1 : Ng_om x y (a :: l) (b :: bs) = Ng_sf y :: a :: Ng_om (Ng_go x a) (Ng_go (Ng_go y (Ng_sf y)) a) l bs := by
          show (if _ then _ else _) = _; rw [if_neg cond]
        rw [e1]
        have := ih bs (Ng_go x a) (Ng_go (Ng_go y (Ng_sf y)) a)
        show (Ng_om (Ng_go x a) (Ng_go (Ng_go y (Ng_sf y)) a) l bs).length + 1 + 1 ≤ (l.length + 1) + ((if _ then 0 else 1) + Ng_mv (Ng_go x a) l)
        rw [if_neg (fun h => cond (Or.inl h))]
        omega
theorem Ng_rm_n {φ : Nat → Nat → Nat} (O : yOk φ) : ∀ (l : List Nat) (bs : List Bool) (x : NgS), bs.length = l.length → Ng_g φ x → Ng_ok φ x l → Ng_lo x l = Ng_om_n x l bs + Ng_rm x l bs := by
  intro l
  induction l with
  | nil => intro bs x h _ _; rw [List.length_eq_zero_iff.mp h]; rfl
  | cons a l ih =>
    intro bs x h g k
    cases bs with
    | nil => cases h
    | cons b bs =>
      have h' : bs.length = l.length := by have : bs.length + 1 = l.length + 1 := h; omega
      have i := ih bs (Ng_go x a) h' (Ng_g_go O (fun h => absurd h g.1) k.1) k.2
      show Ng_lf x a + Ng_lo (Ng_go x a) l = ((if a % 10 ≠ Ng_t x - 1 ∧ (b && decide (Ng_lf x a = 1)) = true then 1 else 0) + Ng_om_n (Ng_go x a) l bs) + ((if Ng_lf x a = 1 ∧ b = false then 1 else 0) + Ng_rm (Ng_go x a) l bs)
      rw [i]
      have f : Ng_lf x a = 0 ∨ Ng_lf x a = 1 := by unfold Ng_lf; split <;> simp
      rcases f with f | f
      · rw [f, if_neg (by simp), if_neg (by simp)]; omega
      · have ne : a % 10 ≠ Ng_t x - 1 := by
          intro e
          have : Ng_lf x a = 0 := by
            unfold Ng_lf
            rw [e, g.2.1, if_pos]
            unfold Ng_ar; rw [if_neg g.1]
          omega
        rw [f]
        cases b <;> simp [ne] <;> omega
/-- a way without children: one to the same end with at most six loafs, and not much longer -/
theorem Ng_few {φ : Nat → Nat → Nat} (O : yOk φ) {x : NgS} {l : List Nat} (g : Ng_g φ x) (k : Ng_ok φ x l) (kd : Cg_kid l) : ∃ m, Ng_ok φ x m ∧ Ng_s (Ng_end x m) = Ng_s (Ng_end x l) ∧ Ng_lo x m ≤ 6 ∧ m.length ≤ l.length + Ng_mv x l ∧ Cg_kid m := by
  have r0 : ∀ (l : List Nat) (x : NgS) (D : Nat), Ng_df x D l (l.map fun _ => false) = Ng_df x D l (l.map fun _ => false) := fun _ _ _ => rfl
  have d0 : ∀ (l : List Nat) (x : NgS), Ng_df x 0 l (l.map fun _ => false) = 0 := by
    intro l
    induction l with
    | nil => intro x; rfl
    | cons a l ih =>
      intro x
      show Ng_df (Ng_go x a) (if a % 10 = Ng_t x - 1 ∨ (0 : Nat).testBit (Ng_t x - 1) = ((0 : Nat).testBit (a % 10) ^^ (false && decide (Ng_lf x a = 1))) then 0 else _) l (l.map fun _ => false) = 0
      rw [if_pos (Or.inr (by simp))]
      exact ih _
  obtain ⟨cs, c1, c2, c3⟩ := Ng_six O g k _ (l.map fun _ => false) (by simp) (d0 l x) (Nat.le_refl _)
  obtain ⟨i1, i2, i3, i4, i5, i6, i7, i8⟩ := Ng_om_ok O l cs x x c1 g g rfl ⟨rfl, rfl⟩ (Nat.le_refl _) k kd
  rw [Nat.xor_self, c2] at i6
  have rn := Ng_rm_n O l cs x c1 g k
  refine ⟨_, i1, ?_, by omega, Ng_om_len l cs x x, i8⟩
  have : Ng_s (Ng_end x l) ^^^ Ng_s (Ng_end x (Ng_om x x l cs)) ^^^ Ng_s (Ng_end x (Ng_om x x l cs)) = 0 ^^^ Ng_s (Ng_end x (Ng_om x x l cs)) := by rw [i6]
  rw [Nat.xor_assoc, Nat.xor_self, Nat.xor_zero, Nat.zero_xor] at this
  exact this.symm
