set_option maxRecDepth 100000
/-! loafs left out: the way of the last crosser is kept, crossings against the boat become crossings with it, and one crosses to and fro where the sides do not fit -/
/-- behind a crossing -/
def Cg_g (φ : Nat → Nat → Nat) (x : CgS) : Prop := Cg_t x ≠ 0 ∧ Cg_d x = Cg_ar x ∧ yAd φ (Cg_t x - 1) ∧ Cg_r x ≤ 3
theorem Cg_g_go {φ : Nat → Nat → Nat} {x : CgS} {a : Nat} (h : Cg_can φ x a = true) : Cg_g φ (Cg_go x a) := by
  have := Cg_ar_go h
  obtain ⟨h1, h2, h3, h4⟩ := Cg_can_iff.mp h
  refine ⟨by show a % 10 + 1 ≠ 0; omega, this.symm, ?_, ?_⟩
  · show yAd φ (a % 10 + 1 - 1); rw [show a % 10 + 1 - 1 = a % 10 by omega]; exact h3
  · show (if _ then min 3 (Cg_r x + 1) else 1) ≤ 3
    split
    · exact Nat.min_le_left _ _
    · decide
def Cg_kid (l : List Nat) : Prop := ∀ a, a ∈ l → a % 100 / 10 = 0
theorem Cg_fl0 {a : Nat} (h : a % 100 / 10 = 0) : Cg_fl a = 2 ^ (a % 10) := by
  unfold Cg_fl; rw [if_pos h, Nat.or_zero]
/-- to and fro by the post A -/
def Cg_sf (A : Nat) (x : CgS) : Nat := 100 * A + (Cg_t x - 1)
theorem Cg_sf_can {φ : Nat → Nat → Nat} (O : yOk φ) {A : Nat} (hA : A < φ 0 3) (h0 : φ 5 A = 0) {x : CgS} (g : Cg_g φ x) :
    Cg_can φ x (Cg_sf A x) = true ∧ Cg_sf A x % 10 = Cg_t x - 1 ∧ Cg_sf A x % 100 / 10 = 0 ∧ Cg_lf x (Cg_sf A x) = 0 ∧ Cg_t (Cg_go x (Cg_sf A x)) = Cg_t x ∧ Cg_s (Cg_go x (Cg_sf A x)) = Cg_s x ^^^ 2 ^ (Cg_t x - 1) ∧
    Cg_r (Cg_go x (Cg_sf A x)) = min 3 (Cg_r x + 1) ∧ Cg_ar (Cg_go x (Cg_sf A x)) = 1 - Cg_ar x := by
  obtain ⟨g1, g2, g3, g4⟩ := g
  have p6 := O.persons
  have p2 := O.posts
  have p7 := g3.1
  have e1 : Cg_sf A x % 10 = Cg_t x - 1 := by unfold Cg_sf; omega
  have e2 : Cg_sf A x / 100 = A := by unfold Cg_sf; omega
  have e3 : Cg_sf A x % 100 / 10 = 0 := by unfold Cg_sf; omega
  have ar : Cg_ar x = yBit (Cg_s x) (Cg_t x - 1) := by unfold Cg_ar; rw [if_neg g1]
  have cn : Cg_can φ x (Cg_sf A x) = true := by
    refine Cg_can_iff.mpr ⟨by unfold Cg_sf; omega, by rw [e2]; exact hA, by rw [e1]; exact g3, by rw [e3]; exact Nat.zero_le _, Or.inl e3, ?_, Or.inl (by rw [e2]; exact h0)⟩
    rw [e1, e2]
    unfold yBeh
    have : Cg_t x = Cg_t x - 1 + 1 := by omega
    simp [← this]
  refine ⟨cn, e1, e3, ?_, ?_, ?_, ?_, ?_⟩
  · unfold Cg_lf; rw [e1, g2, ar, if_pos rfl]
  · show Cg_sf A x % 10 + 1 = _; rw [e1]; omega
  · show Cg_s x ^^^ Cg_fl _ = _; rw [Cg_fl0 e3, e1]
  · show (if Cg_t x = 0 ∨ yBit (Cg_s x) (Cg_sf A x % 10) = Cg_ar x then _ else _) = _
    rw [e1, ar, if_pos (Or.inr rfl)]
  · rw [Cg_ar_go cn]; show 1 - yBit (Cg_s x) (Cg_sf A x % 10) = _; rw [e1, ar]
/-- the way with loafs left out: x the way's state, y the new way's, b says which loafs -/
def Cg_om (A : Nat) : CgS → CgS → List Nat → List Bool → List Nat
  | x, y, a :: l, b :: bs =>
    if a % 10 = Cg_t x - 1 ∨ (Cg_s x ^^^ Cg_s y).testBit (Cg_t x - 1) = ((Cg_s x ^^^ Cg_s y).testBit (a % 10) ^^ (b && decide (Cg_lf x a = 1))) then a :: Cg_om A (Cg_go x a) (Cg_go y a) l bs
    else Cg_sf A y :: a :: Cg_om A (Cg_go x a) (Cg_go (Cg_go y (Cg_sf A y)) a) l bs
  | _, _, _, _ => []
/-- where the sides differ behind it -/
def Cg_df : CgS → Nat → List Nat → List Bool → Nat
  | x, D, a :: l, b :: bs =>
    Cg_df (Cg_go x a) (if a % 10 = Cg_t x - 1 ∨ D.testBit (Cg_t x - 1) = (D.testBit (a % 10) ^^ (b && decide (Cg_lf x a = 1))) then D else D ^^^ 2 ^ (Cg_t x - 1)) l bs
  | _, D, _, _ => D
/-- how many loafs are left out -/
def Cg_om_n : CgS → List Nat → List Bool → Nat
  | x, a :: l, b :: bs => (if a % 10 ≠ Cg_t x - 1 ∧ (b && decide (Cg_lf x a = 1)) = true then 1 else 0) + Cg_om_n (Cg_go x a) l bs
  | _, _, _ => 0
theorem Cg_bit_xor (s s' p : Nat) : yBit s p = yBit s' p ↔ (s ^^^ s').testBit p = false := by
  rw [bBit, bBit, Nat.testBit_xor]
  cases s.testBit p <;> cases s'.testBit p <;> simp
theorem Cg_xor4 (a b c : Nat) : (a ^^^ c) ^^^ (b ^^^ c) = a ^^^ b := by
  apply Nat.eq_of_testBit_eq
  intro i
  simp only [Nat.testBit_xor]
  cases a.testBit i <;> cases b.testBit i <;> cases c.testBit i <;> rfl
theorem Cg_xor5 (a b c : Nat) : a ^^^ (b ^^^ c) = (a ^^^ b) ^^^ c := (Nat.xor_assoc a b c).symm
theorem Cg_om_ok {φ : Nat → Nat → Nat} (O : yOk φ) {A : Nat} (hA : A < φ 0 3) (h0 : φ 5 A = 0) : ∀ (l : List Nat) (bs : List Bool) (x y : CgS), bs.length = l.length → Cg_g φ x → Cg_g φ y → Cg_t x = Cg_t y → Cg_r x ≤ Cg_r y → Cg_ok φ x l → Cg_kid l →
    Cg_ok φ y (Cg_om A x y l bs) ∧ Cg_t (Cg_end x l) = Cg_t (Cg_end y (Cg_om A x y l bs)) ∧ Cg_r (Cg_end x l) ≤ Cg_r (Cg_end y (Cg_om A x y l bs)) ∧ Cg_g φ (Cg_end x l) ∧ Cg_g φ (Cg_end y (Cg_om A x y l bs)) ∧
    Cg_s (Cg_end x l) ^^^ Cg_s (Cg_end y (Cg_om A x y l bs)) = Cg_df x (Cg_s x ^^^ Cg_s y) l bs ∧ Cg_lo y (Cg_om A x y l bs) + Cg_om_n x l bs = Cg_lo x l ∧ (∀ a, a ∈ Cg_om A x y l bs → a % 100 / 10 = 0) := by
  intro l
  induction l with
  | nil =>
    intro bs x y hb gx gy ht hr _ _
    have : bs = [] := List.length_eq_zero_iff.mp hb
    subst this
    exact ⟨trivial, ht, hr, gx, gy, rfl, rfl, fun a h => nomatch h⟩
  | cons a l ih =>
    intro bs x y hb gx gy ht hr ok kd
    cases bs with
    | nil => cases hb
    | cons b bs =>
      have hb' : bs.length = l.length := by have : bs.length + 1 = l.length + 1 := hb; omega
      have kd' : Cg_kid l := fun c hc => kd c (List.mem_cons_of_mem _ hc)
      have ka := kd a List.mem_cons_self
      obtain ⟨cx, ok'⟩ := ok
      obtain ⟨h1, h2, h3, h4, h5, h6, h7⟩ := Cg_can_iff.mp cx
      have gx' := Cg_g_go cx
      have b2 := yBit_lt (Cg_s x) (a % 10)
      have b3 := yBit_lt (Cg_s x) (Cg_t x - 1)
      have arx : Cg_ar x = yBit (Cg_s x) (Cg_t x - 1) := by unfold Cg_ar; rw [if_neg gx.1]
      -- one step of the new way, from z
      have step : ∀ z : CgS, Cg_g φ z → Cg_t x = Cg_t z → Cg_r x ≤ Cg_r z → ((Cg_s x ^^^ Cg_s z).testBit (Cg_t x - 1) = ((Cg_s x ^^^ Cg_s z).testBit (a % 10) ^^ (decide (a % 10 ≠ Cg_t x - 1) && (b && decide (Cg_lf x a = 1))))) →
          Cg_can φ z a = true ∧ Cg_t (Cg_go x a) = Cg_t (Cg_go z a) ∧ Cg_r (Cg_go x a) ≤ Cg_r (Cg_go z a) ∧ Cg_s (Cg_go x a) ^^^ Cg_s (Cg_go z a) = Cg_s x ^^^ Cg_s z ∧
          Cg_lf z a + (if a % 10 ≠ Cg_t x - 1 ∧ (b && decide (Cg_lf x a = 1)) = true then 1 else 0) = Cg_lf x a := by
        intro z gz tz rz ez
        have arz : Cg_ar z = yBit (Cg_s z) (Cg_t x - 1) := by unfold Cg_ar; rw [← tz, if_neg gx.1]
        have b4 := yBit_lt (Cg_s z) (a % 10)
        have b5 := yBit_lt (Cg_s z) (Cg_t x - 1)
        -- with the boat or not, in both
        have key : (yBit (Cg_s z) (a % 10) = Cg_ar z) ↔ (yBit (Cg_s x) (a % 10) = Cg_ar x ∨ (a % 10 ≠ Cg_t x - 1 ∧ (b && decide (Cg_lf x a = 1)) = true)) := by
          rw [arx, arz]
          rw [Nat.testBit_xor, Nat.testBit_xor] at ez
          have lfx : Cg_lf x a = 1 ↔ yBit (Cg_s x) (a % 10) ≠ yBit (Cg_s x) (Cg_t x - 1) := by
            unfold Cg_lf; rw [gx.2.1, arx]; split <;> simp_all
          by_cases pu : a % 10 = Cg_t x - 1
          · rw [pu]; simp
          · by_cases cr : Cg_lf x a = 1
            · have nx := lfx.mp cr
              rw [bBit, bBit] at nx
              rw [bBit, bBit, bBit, bBit]
              revert ez nx
              cases b <;> simp [pu, cr] <;> cases (Cg_s x).testBit (a % 10) <;> cases (Cg_s x).testBit (Cg_t x - 1) <;> cases (Cg_s z).testBit (a % 10) <;> cases (Cg_s z).testBit (Cg_t x - 1) <;> simp
            · have nx : yBit (Cg_s x) (a % 10) = yBit (Cg_s x) (Cg_t x - 1) := by
                by_cases w : yBit (Cg_s x) (a % 10) = yBit (Cg_s x) (Cg_t x - 1)
                · exact w
                · exact absurd (lfx.mpr w) cr
              rw [bBit, bBit] at nx
              rw [bBit, bBit, bBit, bBit]
              revert ez nx
              simp [cr]
              cases (Cg_s x).testBit (a % 10) <;> cases (Cg_s x).testBit (Cg_t x - 1) <;> cases (Cg_s z).testBit (a % 10) <;> cases (Cg_s z).testBit (Cg_t x - 1) <;> simp
        have cz : Cg_can φ z a = true := by
          refine Cg_can_iff.mpr ⟨h1, h2, h3, h4, Or.inl ka, by rw [← tz]; exact h6, ?_⟩
          rcases h7 with h | h | h
          · exact Or.inl h
          · exact absurd h gx.1
          · exact Or.inr (Or.inr ⟨key.mpr (Or.inl h.1), Nat.le_trans h.2 rz⟩)
        refine ⟨cz, rfl, ?_, ?_, ?_⟩
        · show (if Cg_t x = 0 ∨ yBit (Cg_s x) (a % 10) = Cg_ar x then min 3 (Cg_r x + 1) else 1) ≤ (if Cg_t z = 0 ∨ yBit (Cg_s z) (a % 10) = Cg_ar z then min 3 (Cg_r z + 1) else 1)
          by_cases w : yBit (Cg_s x) (a % 10) = Cg_ar x
          · rw [if_pos (Or.inr w), if_pos (Or.inr (key.mpr (Or.inl w)))]
            exact Nat.le_min.mpr ⟨Nat.min_le_left _ _, Nat.le_trans (Nat.min_le_right _ _) (by omega)⟩
          · rw [if_neg (fun v => v.elim gx.1 w)]
            split
            · exact Nat.le_min.mpr ⟨by decide, by omega⟩
            · exact Nat.le_refl _
        · show (Cg_s x ^^^ Cg_fl a) ^^^ (Cg_s z ^^^ Cg_fl a) = _
          exact Cg_xor4 _ _ _
        · unfold Cg_lf
          rw [gx.2.1, gz.2.1]
          by_cases w : yBit (Cg_s x) (a % 10) = Cg_ar x
          · rw [if_pos w, if_pos (key.mpr (Or.inl w))]
            simp
          · by_cases v : (a % 10 ≠ Cg_t x - 1 ∧ (b && decide (Cg_lf x a = 1)) = true)
            · rw [if_pos (key.mpr (Or.inr v))]
              unfold Cg_lf at v
              rw [gx.2.1] at v
              rw [if_pos v, if_neg w]
            · rw [if_neg (fun q => (key.mp q).elim w v)]
              unfold Cg_lf at v
              rw [gx.2.1] at v
              rw [if_neg v, if_neg w]
      by_cases cond : a % 10 = Cg_t x - 1 ∨ (Cg_s x ^^^ Cg_s y).testBit (Cg_t x - 1) = ((Cg_s x ^^^ Cg_s y).testBit (a % 10) ^^ (b && decide (Cg_lf x a = 1)))
      · have e1 : Cg_om A x y (a :: l) (b :: bs) = a :: Cg_om A (Cg_go x a) (Cg_go y a) l bs := by
          show (if _ then _ else _) = _; rw [if_pos cond]
        have e2 : Cg_df x (Cg_s x ^^^ Cg_s y) (a :: l) (b :: bs) = Cg_df (Cg_go x a) (Cg_s x ^^^ Cg_s y) l bs := by
          show Cg_df _ (if _ then _ else _) l bs = _; rw [if_pos cond]
        obtain ⟨s1, s2, s3, s4, s5⟩ := step y gy ht hr (by
          by_cases pu : a % 10 = Cg_t x - 1
          · rw [pu]; simp
          · rw [cond.resolve_left pu]; simp [pu])
        obtain ⟨i1, i2, i3, i4, i5, i6, i7, i8⟩ := ih bs (Cg_go x a) (Cg_go y a) hb' gx' (Cg_g_go s1) s2 s3 ok' kd'
        rw [e1, e2]
        refine ⟨⟨s1, i1⟩, i2, i3, i4, i5, by rw [s4] at i6; exact i6, ?_, ?_⟩
        · show (Cg_lf y a + Cg_lo (Cg_go y a) _) + ((if _ then 1 else 0) + Cg_om_n (Cg_go x a) l bs) = Cg_lf x a + Cg_lo (Cg_go x a) l
          omega
        · intro c hc
          rcases List.mem_cons.mp hc with e | e
          · rw [e]; exact ka
          · exact i8 c e
      · have pu : a % 10 ≠ Cg_t x - 1 := fun e => cond (Or.inl e)
        have ne : (Cg_s x ^^^ Cg_s y).testBit (Cg_t x - 1) ≠ ((Cg_s x ^^^ Cg_s y).testBit (a % 10) ^^ (b && decide (Cg_lf x a = 1))) := fun e => cond (Or.inr e)
        have e1 : Cg_om A x y (a :: l) (b :: bs) = Cg_sf A y :: a :: Cg_om A (Cg_go x a) (Cg_go (Cg_go y (Cg_sf A y)) a) l bs := by
          show (if _ then _ else _) = _; rw [if_neg cond]
        have e2 : Cg_df x (Cg_s x ^^^ Cg_s y) (a :: l) (b :: bs) = Cg_df (Cg_go x a) ((Cg_s x ^^^ Cg_s y) ^^^ 2 ^ (Cg_t x - 1)) l bs := by
          show Cg_df _ (if _ then _ else _) l bs = _; rw [if_neg cond]
        obtain ⟨f1, f2, f3, f4, f5, f6, f7, f8⟩ := Cg_sf_can O hA h0 gy
        have sz : Cg_s x ^^^ Cg_s (Cg_go y (Cg_sf A y)) = (Cg_s x ^^^ Cg_s y) ^^^ 2 ^ (Cg_t x - 1) := by rw [f6, ← ht]; exact Cg_xor5 _ _ _
        obtain ⟨s1, s2, s3, s4, s5⟩ := step (Cg_go y (Cg_sf A y)) (Cg_g_go f1) (by rw [f5]; exact ht) (by
            rw [f7]; exact Nat.le_min.mpr ⟨gx.2.2.2, by omega⟩) (by
          rw [sz]
          have t1 : ((Cg_s x ^^^ Cg_s y) ^^^ 2 ^ (Cg_t x - 1)).testBit (Cg_t x - 1) = !(Cg_s x ^^^ Cg_s y).testBit (Cg_t x - 1) := by rw [cBit_xor, if_pos rfl]
          have t2 : ((Cg_s x ^^^ Cg_s y) ^^^ 2 ^ (Cg_t x - 1)).testBit (a % 10) = (Cg_s x ^^^ Cg_s y).testBit (a % 10) := by rw [cBit_xor, if_neg pu]
          rw [t1, t2]
          revert ne
          cases (Cg_s x ^^^ Cg_s y).testBit (Cg_t x - 1) <;> cases (Cg_s x ^^^ Cg_s y).testBit (a % 10) <;> cases (b && decide (Cg_lf x a = 1)) <;> simp [pu])
        obtain ⟨i1, i2, i3, i4, i5, i6, i7, i8⟩ := ih bs (Cg_go x a) (Cg_go (Cg_go y (Cg_sf A y)) a) hb' gx' (Cg_g_go s1) s2 s3 ok' kd'
        rw [e1, e2]
        refine ⟨⟨f1, s1, i1⟩, i2, i3, i4, i5, by rw [s4, sz] at i6; exact i6, ?_, ?_⟩
        · show (Cg_lf y (Cg_sf A y) + (Cg_lf (Cg_go y (Cg_sf A y)) a + Cg_lo (Cg_go (Cg_go y (Cg_sf A y)) a) _)) + ((if _ then 1 else 0) + Cg_om_n (Cg_go x a) l bs) = Cg_lf x a + Cg_lo (Cg_go x a) l
          omega
        · intro c hc
          rcases List.mem_cons.mp hc with e | e
          · rw [e]; exact f3
          · rcases List.mem_cons.mp e with e | e
            · rw [e]; exact ka
            · exact i8 c e
