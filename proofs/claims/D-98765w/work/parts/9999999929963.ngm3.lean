set_option maxRecDepth 100000
/-! loafs left out: the way of the last crosser is kept, crossings against the boat become crossings with it, and one crosses to and fro where the sides do not fit -/
/-- behind a crossing -/
def Ng_g (φ : Nat → Nat → Nat) (x : NgS) : Prop := Ng_t x ≠ 0 ∧ Ng_d x = Ng_ar x ∧ yAd φ (Ng_t x - 1) ∧ Ng_r x ≤ 3 ∧ Ng_k x < φ 0 3 ∧ Ng_z x (Ng_k x) = Ng_t x ∧ φ 5 (Ng_k x) ≤ Ng_r x
theorem Ng_g_go {φ : Nat → Nat → Nat} (O : yOk φ) {x : NgS} {a : Nat} (T : Ng_t x = 0 → 3 ≤ Ng_r x) (h : Ng_can φ x a = true) : Ng_g φ (Ng_go x a) := by
  have := Ng_ar_go h
  obtain ⟨h1, h2, h3, h4, h5, h6, h7⟩ := Ng_can_iff.mp h
  have lk := O.looks _ h2
  refine ⟨by show a % 10 + 1 ≠ 0; omega, this.symm, ?_, ?_, h2, ?_, ?_⟩
  · show yAd φ (a % 10 + 1 - 1); rw [show a % 10 + 1 - 1 = a % 10 by omega]; exact h3
  · show (if _ then min 3 (Ng_r x + 1) else 1) ≤ 3
    split
    · exact Nat.min_le_left _ _
    · decide
  · show (if a / 100 = 0 then (if a / 100 = 0 then a % 10 + 1 else Ng_z x 0) else (if a / 100 = 0 then Ng_z x 1 else a % 10 + 1)) = a % 10 + 1
    by_cases g : a / 100 = 0
    · rw [if_pos g, if_pos g]
    · rw [if_neg g, if_neg g]
  · show φ 5 (a / 100) ≤ (if Ng_t x = 0 ∨ yBit (Ng_s x) (a % 10) = Ng_ar x then min 3 (Ng_r x + 1) else 1)
    rcases h7 with h | h | h
    · rw [h]; exact Nat.zero_le _
    · rw [if_pos (Or.inl h)]; have := T h; exact Nat.le_min.mpr ⟨by omega, by omega⟩
    · rw [if_pos (Or.inr h.1)]; exact Nat.le_min.mpr ⟨by omega, by omega⟩
/-- to and fro by the post of the last crossing -/
def Ng_sf (x : NgS) : Nat := 100 * Ng_k x + (Ng_t x - 1)
theorem Ng_sf_can {φ : Nat → Nat → Nat} (O : yOk φ) {x : NgS} (g : Ng_g φ x) :
    Ng_can φ x (Ng_sf x) = true ∧ Ng_sf x % 10 = Ng_t x - 1 ∧ Ng_sf x % 100 / 10 = 0 ∧ Ng_lf x (Ng_sf x) = 0 ∧ Ng_t (Ng_go x (Ng_sf x)) = Ng_t x ∧ Ng_s (Ng_go x (Ng_sf x)) = Ng_s x ^^^ 2 ^ (Ng_t x - 1) ∧
    Ng_r (Ng_go x (Ng_sf x)) = min 3 (Ng_r x + 1) ∧ Ng_ar (Ng_go x (Ng_sf x)) = 1 - Ng_ar x ∧ Ng_z (Ng_go x (Ng_sf x)) 0 = Ng_z x 0 ∧ Ng_z (Ng_go x (Ng_sf x)) 1 = Ng_z x 1 ∧ Ng_k (Ng_go x (Ng_sf x)) = Ng_k x := by
  obtain ⟨g1, g2, g3, g4, g5, g6, g7⟩ := g
  have p6 := O.persons
  have p2 := O.posts
  have p7 := g3.1
  have e1 : Ng_sf x % 10 = Ng_t x - 1 := by unfold Ng_sf; omega
  have e2 : Ng_sf x / 100 = Ng_k x := by unfold Ng_sf; omega
  have e3 : Ng_sf x % 100 / 10 = 0 := by unfold Ng_sf; omega
  have ar : Ng_ar x = yBit (Ng_s x) (Ng_t x - 1) := by unfold Ng_ar; rw [if_neg g1]
  have cn : Ng_can φ x (Ng_sf x) = true := by
    refine Ng_can_iff.mpr ⟨by unfold Ng_sf; omega, by rw [e2]; exact g5, by rw [e1]; exact g3, by rw [e3]; exact Nat.zero_le _, Or.inl e3, ?_, Or.inr (Or.inr ⟨by rw [e1, ar], by rw [e2]; exact g7⟩)⟩
    rw [e1, e2, g6]
    unfold yBeh
    have : Ng_t x = Ng_t x - 1 + 1 := by omega
    simp [← this]
  refine ⟨cn, e1, e3, ?_, ?_, ?_, ?_, ?_, ?_, ?_, e2⟩
  · unfold Ng_lf; rw [e1, g2, ar, if_pos rfl]
  · show Ng_sf x % 10 + 1 = _; rw [e1]; omega
  · show Ng_s x ^^^ Cg_fl _ = _; rw [Cg_fl0 e3, e1]
  · show (if Ng_t x = 0 ∨ yBit (Ng_s x) (Ng_sf x % 10) = Ng_ar x then _ else _) = _
    rw [e1, ar, if_pos (Or.inr rfl)]
  · rw [Ng_ar_go cn]; show 1 - yBit (Ng_s x) (Ng_sf x % 10) = _; rw [e1, ar]
  · show (if Ng_sf x / 100 = 0 then Ng_sf x % 10 + 1 else Ng_z x 0) = Ng_z x 0
    rw [e1, e2]
    by_cases g : Ng_k x = 0
    · rw [if_pos g]; rw [g] at g6; omega
    · rw [if_neg g]
  · show (if Ng_sf x / 100 = 0 then Ng_z x 1 else Ng_sf x % 10 + 1) = Ng_z x 1
    rw [e1, e2]
    by_cases g : Ng_k x = 0
    · rw [if_pos g]
    · rw [if_neg g]
      have : Ng_k x = 1 := by omega
      rw [this] at g6; omega
/-- the way with loafs left out: x the way's state, y the new way's, b says which loafs -/
def Ng_om : NgS → NgS → List Nat → List Bool → List Nat
  | x, y, a :: l, b :: bs =>
    if a % 10 = Ng_t x - 1 ∨ (Ng_s x ^^^ Ng_s y).testBit (Ng_t x - 1) = ((Ng_s x ^^^ Ng_s y).testBit (a % 10) ^^ (b && decide (Ng_lf x a = 1))) then a :: Ng_om (Ng_go x a) (Ng_go y a) l bs
    else Ng_sf y :: a :: Ng_om (Ng_go x a) (Ng_go (Ng_go y (Ng_sf y)) a) l bs
  | _, _, _, _ => []
/-- where the sides differ behind it -/
def Ng_df : NgS → Nat → List Nat → List Bool → Nat
  | x, D, a :: l, b :: bs =>
    Ng_df (Ng_go x a) (if a % 10 = Ng_t x - 1 ∨ D.testBit (Ng_t x - 1) = (D.testBit (a % 10) ^^ (b && decide (Ng_lf x a = 1))) then D else D ^^^ 2 ^ (Ng_t x - 1)) l bs
  | _, D, _, _ => D
/-- how many loafs are left out -/
def Ng_om_n : NgS → List Nat → List Bool → Nat
  | x, a :: l, b :: bs => (if a % 10 ≠ Ng_t x - 1 ∧ (b && decide (Ng_lf x a = 1)) = true then 1 else 0) + Ng_om_n (Ng_go x a) l bs
  | _, _, _ => 0
theorem Ng_om_ok {φ : Nat → Nat → Nat} (O : yOk φ) : ∀ (l : List Nat) (bs : List Bool) (x y : NgS), bs.length = l.length → Ng_g φ x → Ng_g φ y → Ng_t x = Ng_t y → (Ng_z x 0 = Ng_z y 0 ∧ Ng_z x 1 = Ng_z y 1) → Ng_r x ≤ Ng_r y → Ng_ok φ x l → Cg_kid l →
    Ng_ok φ y (Ng_om x y l bs) ∧ Ng_t (Ng_end x l) = Ng_t (Ng_end y (Ng_om x y l bs)) ∧ Ng_r (Ng_end x l) ≤ Ng_r (Ng_end y (Ng_om x y l bs)) ∧ Ng_g φ (Ng_end x l) ∧ Ng_g φ (Ng_end y (Ng_om x y l bs)) ∧
    Ng_s (Ng_end x l) ^^^ Ng_s (Ng_end y (Ng_om x y l bs)) = Ng_df x (Ng_s x ^^^ Ng_s y) l bs ∧ Ng_lo y (Ng_om x y l bs) + Ng_om_n x l bs = Ng_lo x l ∧ (∀ a, a ∈ Ng_om x y l bs → a % 100 / 10 = 0) := by
  intro l
  induction l with
  | nil =>
    intro bs x y hb gx gy ht _ hr _ _
    have : bs = [] := List.length_eq_zero_iff.mp hb
    subst this
    exact ⟨trivial, ht, hr, gx, gy, rfl, rfl, fun a h => nomatch h⟩
  | cons a l ih =>
    intro bs x y hb gx gy ht hz hr ok kd
    cases bs with
    | nil => cases hb
    | cons b bs =>
      have hb' : bs.length = l.length := by have : bs.length + 1 = l.length + 1 := hb; omega
      have kd' : Cg_kid l := fun c hc => kd c (List.mem_cons_of_mem _ hc)
      have ka := kd a List.mem_cons_self
      obtain ⟨cx, ok'⟩ := ok
      obtain ⟨h1, h2, h3, h4, h5, h6, h7⟩ := Ng_can_iff.mp cx
      have gx' := Ng_g_go O (fun h => absurd h gx.1) cx
      have b2 := yBit_lt (Ng_s x) (a % 10)
      have b3 := yBit_lt (Ng_s x) (Ng_t x - 1)
      have arx : Ng_ar x = yBit (Ng_s x) (Ng_t x - 1) := by unfold Ng_ar; rw [if_neg gx.1]
      -- one step of the new way, from z
      have step : ∀ z : NgS, Ng_g φ z → Ng_t x = Ng_t z → (Ng_z x 0 = Ng_z z 0 ∧ Ng_z x 1 = Ng_z z 1) → Ng_r x ≤ Ng_r z → ((Ng_s x ^^^ Ng_s z).testBit (Ng_t x - 1) = ((Ng_s x ^^^ Ng_s z).testBit (a % 10) ^^ (decide (a % 10 ≠ Ng_t x - 1) && (b && decide (Ng_lf x a = 1))))) →
          Ng_can φ z a = true ∧ Ng_t (Ng_go x a) = Ng_t (Ng_go z a) ∧ (Ng_z (Ng_go x a) 0 = Ng_z (Ng_go z a) 0 ∧ Ng_z (Ng_go x a) 1 = Ng_z (Ng_go z a) 1) ∧ Ng_r (Ng_go x a) ≤ Ng_r (Ng_go z a) ∧ Ng_s (Ng_go x a) ^^^ Ng_s (Ng_go z a) = Ng_s x ^^^ Ng_s z ∧
          Ng_lf z a + (if a % 10 ≠ Ng_t x - 1 ∧ (b && decide (Ng_lf x a = 1)) = true then 1 else 0) = Ng_lf x a := by
        intro z gz tz zz rz ez
        have arz : Ng_ar z = yBit (Ng_s z) (Ng_t x - 1) := by unfold Ng_ar; rw [← tz, if_neg gx.1]
        have b4 := yBit_lt (Ng_s z) (a % 10)
        have b5 := yBit_lt (Ng_s z) (Ng_t x - 1)
        -- with the boat or not, in both
        have key : (yBit (Ng_s z) (a % 10) = Ng_ar z) ↔ (yBit (Ng_s x) (a % 10) = Ng_ar x ∨ (a % 10 ≠ Ng_t x - 1 ∧ (b && decide (Ng_lf x a = 1)) = true)) := by
          rw [arx, arz]
          rw [Nat.testBit_xor, Nat.testBit_xor] at ez
          have lfx : Ng_lf x a = 1 ↔ yBit (Ng_s x) (a % 10) ≠ yBit (Ng_s x) (Ng_t x - 1) := by
            unfold Ng_lf; rw [gx.2.1, arx]; split <;> simp_all
          by_cases pu : a % 10 = Ng_t x - 1
          · rw [pu]; simp
          · by_cases cr : Ng_lf x a = 1
            · have nx := lfx.mp cr
              rw [bBit, bBit] at nx
              rw [bBit, bBit, bBit, bBit]
              revert ez nx
              cases b <;> simp [pu, cr] <;> cases (Ng_s x).testBit (a % 10) <;> cases (Ng_s x).testBit (Ng_t x - 1) <;> cases (Ng_s z).testBit (a % 10) <;> cases (Ng_s z).testBit (Ng_t x - 1) <;> simp
            · have nx : yBit (Ng_s x) (a % 10) = yBit (Ng_s x) (Ng_t x - 1) := by
                by_cases w : yBit (Ng_s x) (a % 10) = yBit (Ng_s x) (Ng_t x - 1)
                · exact w
                · exact absurd (lfx.mpr w) cr
              rw [bBit, bBit] at nx
              rw [bBit, bBit, bBit, bBit]
              revert ez nx
              simp [cr]
              cases (Ng_s x).testBit (a % 10) <;> cases (Ng_s x).testBit (Ng_t x - 1) <;> cases (Ng_s z).testBit (a % 10) <;> cases (Ng_s z).testBit (Ng_t x - 1) <;> simp
        have cz : Ng_can φ z a = true := by
          have hzz : Ng_z z (a / 100) = Ng_z x (a / 100) := by
            have := O.posts
            by_cases g : a / 100 = 0
            · rw [g]; exact zz.1.symm
            · rw [show a / 100 = 1 by omega]; exact zz.2.symm
          refine Ng_can_iff.mpr ⟨h1, h2, h3, h4, Or.inl ka, by rw [hzz]; exact h6, ?_⟩
          rcases h7 with h | h | h
          · exact Or.inl h
          · exact absurd h gx.1
          · exact Or.inr (Or.inr ⟨key.mpr (Or.inl h.1), Nat.le_trans h.2 rz⟩)
        refine ⟨cz, rfl, ⟨?_, ?_⟩, ?_, ?_, ?_⟩
        · show (if a / 100 = 0 then _ else Ng_z x 0) = (if a / 100 = 0 then _ else Ng_z z 0); rw [zz.1]
        · show (if a / 100 = 0 then Ng_z x 1 else _) = (if a / 100 = 0 then Ng_z z 1 else _); rw [zz.2]
        · show (if Ng_t x = 0 ∨ yBit (Ng_s x) (a % 10) = Ng_ar x then min 3 (Ng_r x + 1) else 1) ≤ (if Ng_t z = 0 ∨ yBit (Ng_s z) (a % 10) = Ng_ar z then min 3 (Ng_r z + 1) else 1)
          by_cases w : yBit (Ng_s x) (a % 10) = Ng_ar x
          · rw [if_pos (Or.inr w), if_pos (Or.inr (key.mpr (Or.inl w)))]
            exact Nat.le_min.mpr ⟨Nat.min_le_left _ _, Nat.le_trans (Nat.min_le_right _ _) (by omega)⟩
          · rw [if_neg (fun v => v.elim gx.1 w)]
            split
            · exact Nat.le_min.mpr ⟨by decide, by omega⟩
            · exact Nat.le_refl _
        · show (Ng_s x ^^^ Cg_fl a) ^^^ (Ng_s z ^^^ Cg_fl a) = _
          exact Cg_xor4 _ _ _
        · unfold Ng_lf
          rw [gx.2.1, gz.2.1]
          by_cases w : yBit (Ng_s x) (a % 10) = Ng_ar x
          · rw [if_pos w, if_pos (key.mpr (Or.inl w))]
            simp
          · by_cases v : (a % 10 ≠ Ng_t x - 1 ∧ (b && decide (Ng_lf x a = 1)) = true)
            · rw [if_pos (key.mpr (Or.inr v))]
              unfold Ng_lf at v
              rw [gx.2.1] at v
              rw [if_pos v, if_neg w]
            · rw [if_neg (fun q => (key.mp q).elim w v)]
              unfold Ng_lf at v
              rw [gx.2.1] at v
              rw [if_neg v, if_neg w]
      by_cases cond : a % 10 = Ng_t x - 1 ∨ (Ng_s x ^^^ Ng_s y).testBit (Ng_t x - 1) = ((Ng_s x ^^^ Ng_s y).testBit (a % 10) ^^ (b && decide (Ng_lf x a = 1)))
      · have e1 : Ng_om x y (a :: l) (b :: bs) = a :: Ng_om (Ng_go x a) (Ng_go y a) l bs := by
          show (if _ then _ else _) = _; rw [if_pos cond]
        have e2 : Ng_df x (Ng_s x ^^^ Ng_s y) (a :: l) (b :: bs) = Ng_df (Ng_go x a) (Ng_s x ^^^ Ng_s y) l bs := by
          show Ng_df _ (if _ then _ else _) l bs = _; rw [if_pos cond]
        obtain ⟨s1, s2, sz2, s3, s4, s5⟩ := step y gy ht hz hr (by
          by_cases pu : a % 10 = Ng_t x - 1
          · rw [pu]; simp
          · rw [cond.resolve_left pu]; simp [pu])
        obtain ⟨i1, i2, i3, i4, i5, i6, i7, i8⟩ := ih bs (Ng_go x a) (Ng_go y a) hb' gx' (Ng_g_go O (fun h => absurd h gy.1) s1) s2 sz2 s3 ok' kd'
        rw [e1, e2]
        refine ⟨⟨s1, i1⟩, i2, i3, i4, i5, by rw [s4] at i6; exact i6, ?_, ?_⟩
        · show (Ng_lf y a + Ng_lo (Ng_go y a) _) + ((if _ then 1 else 0) + Ng_om_n (Ng_go x a) l bs) = Ng_lf x a + Ng_lo (Ng_go x a) l
          omega
        · intro c hc
          rcases List.mem_cons.mp hc with e | e
          · rw [e]; exact ka
          · exact i8 c e
      · have pu : a % 10 ≠ Ng_t x - 1 := fun e => cond (Or.inl e)
        have ne : (Ng_s x ^^^ Ng_s y).testBit (Ng_t x - 1) ≠ ((Ng_s x ^^^ Ng_s y).testBit (a % 10) ^^ (b && decide (Ng_lf x a = 1))) := fun e => cond (Or.inr e)
        have e1 : Ng_om x y (a :: l) (b :: bs) = Ng_sf y :: a :: Ng_om (Ng_go x a) (Ng_go (Ng_go y (Ng_sf y)) a) l bs := by
          show (if _ then _ else _) = _; rw [if_neg cond]
        have e2 : Ng_df x (Ng_s x ^^^ Ng_s y) (a :: l) (b :: bs) = Ng_df (Ng_go x a) ((Ng_s x ^^^ Ng_s y) ^^^ 2 ^ (Ng_t x - 1)) l bs := by
          show Ng_df _ (if _ then _ else _) l bs = _; rw [if_neg cond]
        obtain ⟨f1, f2, f3, f4, f5, f6, f7, f8, f9, f10, f11⟩ := Ng_sf_can O gy
        have sz : Ng_s x ^^^ Ng_s (Ng_go y (Ng_sf y)) = (Ng_s x ^^^ Ng_s y) ^^^ 2 ^ (Ng_t x - 1) := by rw [f6, ← ht]; exact Cg_xor5 _ _ _
        obtain ⟨s1, s2, sz2, s3, s4, s5⟩ := step (Ng_go y (Ng_sf y)) (Ng_g_go O (fun h => absurd h gy.1) f1) (by rw [f5]; exact ht) ⟨by rw [f9]; exact hz.1, by rw [f10]; exact hz.2⟩ (by
            rw [f7]; exact Nat.le_min.mpr ⟨gx.2.2.2.1, by omega⟩) (by
          rw [sz]
          have t1 : ((Ng_s x ^^^ Ng_s y) ^^^ 2 ^ (Ng_t x - 1)).testBit (Ng_t x - 1) = !(Ng_s x ^^^ Ng_s y).testBit (Ng_t x - 1) := by rw [cBit_xor, if_pos rfl]
          have t2 : ((Ng_s x ^^^ Ng_s y) ^^^ 2 ^ (Ng_t x - 1)).testBit (a % 10) = (Ng_s x ^^^ Ng_s y).testBit (a % 10) := by rw [cBit_xor, if_neg pu]
          rw [t1, t2]
          revert ne
          cases (Ng_s x ^^^ Ng_s y).testBit (Ng_t x - 1) <;> cases (Ng_s x ^^^ Ng_s y).testBit (a % 10) <;> cases (b && decide (Ng_lf x a = 1)) <;> simp [pu])
        obtain ⟨i1, i2, i3, i4, i5, i6, i7, i8⟩ := ih bs (Ng_go x a) (Ng_go (Ng_go y (Ng_sf y)) a) hb' gx' (Ng_g_go O (fun h => absurd h (by rw [f5]; exact gy.1)) s1) s2 sz2 s3 ok' kd'
        rw [e1, e2]
        refine ⟨⟨f1, s1, i1⟩, i2, i3, i4, i5, by rw [s4, sz] at i6; exact i6, ?_, ?_⟩
        · show (Ng_lf y (Ng_sf y) + (Ng_lf (Ng_go y (Ng_sf y)) a + Ng_lo (Ng_go (Ng_go y (Ng_sf y)) a) _)) + ((if _ then 1 else 0) + Ng_om_n (Ng_go x a) l bs) = Ng_lf x a + Ng_lo (Ng_go x a) l
          omega
        · intro c hc
          rcases List.mem_cons.mp hc with e | e
          · rw [e]; exact f3
          · rcases List.mem_cons.mp e with e | e
            · rw [e]; exact ka
            · exact i8 c e
