set_option maxRecDepth 100000
/-! the game where the posts compare, without loafs: a loaf is what a crossing against the boat costs.
A state: the last crosser + 1 (0: none), who is over, the boat's side, the charge (how many crossings to and fro stand behind, at most 3) -/
abbrev CgS := Nat × Nat × Nat × Nat
def Cg_t (x : CgS) : Nat := x.1
def Cg_s (x : CgS) : Nat := x.2.1
def Cg_d (x : CgS) : Nat := x.2.2.1
def Cg_r (x : CgS) : Nat := x.2.2.2
def Cg_ar (x : CgS) : Nat := if Cg_t x = 0 then Cg_d x else yBit (Cg_s x) (Cg_t x - 1)
/-- may the act a (no loaf) be done, a loaf ahead of it where need be -/
def Cg_can (φ : Nat → Nat → Nat) (x : CgS) (a : Nat) : Bool :=
  decide (a < 200) && decide (a / 100 < φ 0 3) && decide (a % 10 < φ 0 2) && decide (yBit (φ 0 4) (a % 10) = 0) && decide (a % 100 / 10 ≤ φ 0 2) &&
  (decide (a % 100 / 10 = 0) || (decide (yBit (φ 0 4) (a % 100 / 10 - 1) = 1) && decide (yBit (Cg_s x) (a % 100 / 10 - 1) = yBit (Cg_s x) (a % 10)))) &&
  yBeh φ (Cg_t x) (a % 10) (a / 100) &&
  (decide (φ 5 (a / 100) = 0) || decide (Cg_t x = 0) || (decide (yBit (Cg_s x) (a % 10) = Cg_ar x) && decide (φ 5 (a / 100) ≤ Cg_r x)))
def Cg_fl (a : Nat) : Nat := 2 ^ (a % 10) ||| (if a % 100 / 10 = 0 then 0 else 2 ^ (a % 100 / 10 - 1))
def Cg_go (x : CgS) (a : Nat) : CgS :=
  (a % 10 + 1, Cg_s x ^^^ Cg_fl a, 1 - yBit (Cg_s x) (a % 10), if Cg_t x = 0 ∨ yBit (Cg_s x) (a % 10) = Cg_ar x then min 3 (Cg_r x + 1) else 1)
def Cg_lf (x : CgS) (a : Nat) : Nat := if yBit (Cg_s x) (a % 10) = Cg_d x then 0 else 1
def Cg_run (φ : Nat → Nat → Nat) : CgS → List Nat → Option CgS
  | x, [] => some x
  | x, a :: l => if Cg_can φ x a = true then Cg_run φ (Cg_go x a) l else none
/-- loafs -/
def Cg_lo : CgS → List Nat → Nat
  | _, [] => 0
  | x, a :: l => Cg_lf x a + Cg_lo (Cg_go x a) l
/-- the acts, loafs and all -/
def Cg_raw : CgS → List Nat → List Nat
  | _, [] => []
  | x, a :: l => (if Cg_lf x a = 0 then [a] else [200, a]) ++ Cg_raw (Cg_go x a) l
/-- the raw state s is x, but for the boat -/
def Cg_rel (σ : ySt) (x : CgS) : Prop :=
  σ.z0 = Cg_t x ∧ σ.z1 = Cg_t x ∧ σ.ov = Cg_s x ∧ Cg_d x < 2 ∧ (∀ j, j ≤ 3 → (yFit j (Cg_ar x) σ.mk = true ↔ j ≤ Cg_r x)) ∧ (Cg_t x = 0 → σ.mk = 1 ∧ Cg_r x = 3) ∧ (Cg_t x ≠ 0 → 2 ≤ σ.mk ∧ σ.mk % 2 = 1 - Cg_ar x) ∧ Cg_r x ≤ 3
theorem Cg_fit_all : ((List.range 16).all fun m => (List.range 2).all fun s => (List.range 4).all fun r => (List.range 4).all fun j =>
    decide (m < 2) || decide (m % 2 ≠ 1 - s) || !((List.range 4).all fun i => yFit i s m == decide (i ≤ r)) ||
    ((yFit j (1 - s) (yMk m s) == decide (j ≤ min 3 (r + 1))) && (yFit j s (yMk m (1 - s)) == decide (j ≤ 1)))) = true := by decide +kernel
theorem Cg_fit {m s r : Nat} (hm : m < 16) (hs : s < 2) (hr : r ≤ 3) (m2 : 2 ≤ m) (e : m % 2 = 1 - s) (h : ∀ j, j ≤ 3 → (yFit j s m = true ↔ j ≤ r)) {j : Nat} (hj : j ≤ 3) :
    (yFit j (1 - s) (yMk m s) = true ↔ j ≤ min 3 (r + 1)) ∧ (yFit j s (yMk m (1 - s)) = true ↔ j ≤ 1) := by
  have := List.all_eq_true.mp (List.all_eq_true.mp (List.all_eq_true.mp (List.all_eq_true.mp Cg_fit_all m (List.mem_range.mpr hm)) s (List.mem_range.mpr hs)) r (List.mem_range.mpr (by omega))) j (List.mem_range.mpr (by omega))
  have q : ((List.range 4).all fun i => yFit i s m == decide (i ≤ r)) = true := by
    rw [List.all_eq_true]
    intro i hi
    have := h i (by have := List.mem_range.mp hi; omega)
    rw [beq_iff_eq]
    by_cases g : i ≤ r
    · rw [this.mpr g]; simp [g]
    · have : yFit i s m = false := by
        cases z : yFit i s m
        · rfl
        · exact absurd (this.mp z) g
      rw [this]; simp [g]
  rw [q] at this
  simp only [Bool.or_eq_true, Bool.and_eq_true, decide_eq_true_eq, beq_iff_eq, Bool.not_true, Bool.false_eq_true, or_false] at this
  rcases this with (z | z) | z
  · omega
  · omega
  · constructor
    · rw [z.1]; simp
    · rw [z.2]; simp
theorem Cg_fit0 : ∀ s, s < 2 → ∀ j, j < 4 → yFit j (1 - s) (yMk 1 s) = true := by decide +kernel
theorem Cg_bit_fl {s a : Nat} (p : Nat) (hp : a % 100 / 10 = 0 ∨ a % 100 / 10 - 1 ≠ p) : yBit (s ^^^ Cg_fl a) p = if p = a % 10 then 1 - yBit s p else yBit s p := by
  rw [bBit, bBit, Nat.testBit_xor]
  unfold Cg_fl
  rw [Nat.testBit_or, Nat.testBit_two_pow]
  have e : (if a % 100 / 10 = 0 then 0 else 2 ^ (a % 100 / 10 - 1)).testBit p = false := by
    by_cases g : a % 100 / 10 = 0
    · rw [if_pos g]; exact Nat.zero_testBit p
    · rw [if_neg g, Nat.testBit_two_pow]
      have := hp.resolve_left g
      simp [this]
  rw [e, Bool.or_false]
  by_cases g : p = a % 10
  · subst g
    simp
    cases s.testBit (a % 10) <;> rfl
  · have : ¬ a % 10 = p := fun e => g e.symm
    simp [this, g]
theorem Cg_can_iff {φ : Nat → Nat → Nat} {x : CgS} {a : Nat} : Cg_can φ x a = true ↔ a < 200 ∧ a / 100 < φ 0 3 ∧ yAd φ (a % 10) ∧ a % 100 / 10 ≤ φ 0 2 ∧
    (a % 100 / 10 = 0 ∨ (yBit (φ 0 4) (a % 100 / 10 - 1) = 1 ∧ yBit (Cg_s x) (a % 100 / 10 - 1) = yBit (Cg_s x) (a % 10))) ∧ yBeh φ (Cg_t x) (a % 10) (a / 100) = true ∧
    (φ 5 (a / 100) = 0 ∨ Cg_t x = 0 ∨ (yBit (Cg_s x) (a % 10) = Cg_ar x ∧ φ 5 (a / 100) ≤ Cg_r x)) := by
  unfold Cg_can yAd
  simp only [Bool.and_eq_true, Bool.or_eq_true, decide_eq_true_eq]
  constructor
  · rintro ⟨⟨⟨⟨⟨⟨⟨h1, h2⟩, h3⟩, h4⟩, h5⟩, h6⟩, h7⟩, h8⟩
    exact ⟨h1, h2, ⟨h3, h4⟩, h5, h6, h7, h8.elim (fun g => g.elim Or.inl fun h => Or.inr (Or.inl h)) fun h => Or.inr (Or.inr h)⟩
  · rintro ⟨h1, h2, ⟨h3, h4⟩, h5, h6, h7, h8⟩
    exact ⟨⟨⟨⟨⟨⟨⟨h1, h2⟩, h3⟩, h4⟩, h5⟩, h6⟩, h7⟩, h8.elim (fun h => Or.inl (Or.inl h)) fun g => g.elim (fun h => Or.inl (Or.inr h)) Or.inr⟩
theorem Cg_ar_go {φ : Nat → Nat → Nat} {x : CgS} {a : Nat} (h : Cg_can φ x a = true) : Cg_ar (Cg_go x a) = Cg_d (Cg_go x a) := by
  obtain ⟨h1, h2, h3, h4, h5, h6, h7⟩ := Cg_can_iff.mp h
  unfold Cg_ar Cg_go Cg_t Cg_d Cg_s
  rw [if_neg (by show a % 10 + 1 ≠ 0; omega)]
  show yBit (x.2.1 ^^^ Cg_fl a) (a % 10 + 1 - 1) = 1 - yBit x.2.1 (a % 10)
  rw [show a % 10 + 1 - 1 = a % 10 by omega, Cg_bit_fl (a % 10) ?_, if_pos rfl]
  rcases h5 with h | h
  · exact Or.inl h
  · right; intro e; rw [e, h3.2] at h; exact absurd h.1 (by decide)
theorem Cg_ar_lt {x : CgS} (hd : Cg_d x < 2) : Cg_ar x < 2 := by
  unfold Cg_ar
  split
  · exact hd
  · exact yBit_lt _ _
/-- the raw way does what the way without loafs does -/
theorem Cg_rel_go {φ : Nat → Nat → Nat} (hc : φ 0 7 ≠ 0) {σ : ySt} {x : CgS} {a : Nat} (S : ySok φ σ) (R : Cg_rel σ x) (sd : σ.sd = yBit (Cg_s x) (a % 10)) (e : Cg_can φ x a = true) : Cg_rel (yDo φ σ a) (Cg_go x a) := by
  obtain ⟨h1, h2, h3, h4, h5, h6, h7⟩ := Cg_can_iff.mp e
  obtain ⟨r1, r2, r3, r4, r5, r6, r7, r8⟩ := R
  have ag := Cg_ar_go e
  have b2 := yBit_lt (Cg_s x) (a % 10)
  have al := Cg_ar_lt r4
  have dg : Cg_d (Cg_go x a) = 1 - yBit (Cg_s x) (a % 10) := rfl
  rw [bDo (by omega)]
  refine ⟨?_, ?_, ?_, ?_, ?_, ?_, ?_, ?_⟩
  · show (if _ then _ else _) = _; rw [if_pos (Or.inr hc)]; rfl
  · show (if _ then _ else _) = _; rw [if_pos (Or.inr hc)]; rfl
  · show σ.ov ^^^ _ = _; rw [r3]; rfl
  · rw [dg]; omega
  · intro j hj
    rw [ag, dg]
    show yFit j (1 - yBit (Cg_s x) (a % 10)) (yMk σ.mk σ.sd) = true ↔ j ≤ (if Cg_t x = 0 ∨ yBit (Cg_s x) (a % 10) = Cg_ar x then min 3 (Cg_r x + 1) else 1)
    rw [sd]
    by_cases z : Cg_t x = 0
    · obtain ⟨m1, m2⟩ := r6 z
      rw [if_pos (Or.inl z), m1, m2]
      constructor
      · intro _; exact hj
      · intro _; exact Cg_fit0 _ b2 _ (by omega)
    · obtain ⟨m1, m2⟩ := r7 z
      obtain ⟨f1, f2⟩ := Cg_fit S.mk1 al r8 m1 m2 r5 hj
      by_cases g : yBit (Cg_s x) (a % 10) = Cg_ar x
      · rw [if_pos (Or.inr g), g]; exact f1
      · rw [if_neg (fun w => w.elim z g)]
        have : yBit (Cg_s x) (a % 10) = 1 - Cg_ar x := by omega
        rw [this, show 1 - (1 - Cg_ar x) = Cg_ar x by omega]; exact f2
  · intro z; exact absurd z (by show a % 10 + 1 ≠ 0; omega)
  · intro _
    rw [ag, dg]
    show 2 ≤ yMk σ.mk σ.sd ∧ yMk σ.mk σ.sd % 2 = 1 - (1 - yBit (Cg_s x) (a % 10))
    obtain ⟨m1, m2⟩ := bMk _ S.mk1 _ S.sd S.mk0
    rw [sd] at m1 m2 ⊢
    exact ⟨m2, by omega⟩
  · show (if _ then min 3 (Cg_r x + 1) else 1) ≤ 3
    split
    · exact Nat.min_le_left _ _
    · decide
theorem Cg_eb_of {φ : Nat → Nat → Nat} (O : yOk φ) {σ : ySt} {x : CgS} {a : Nat} (R : Cg_rel σ x) (sd : σ.sd = yBit (Cg_s x) (a % 10)) (e : Cg_can φ x a = true) : yEb φ σ a = true := by
  obtain ⟨h1, h2, h3, h4, h5, h6, h7⟩ := Cg_can_iff.mp e
  obtain ⟨r1, r2, r3, r4, r5, r6, r7, r8⟩ := R
  have hz : σ.z (a / 100) = Cg_t x := by unfold ySt.z; split <;> assumption
  refine cEb_of h1 h2 h3.1 h4 (by rw [r3, sd]) (by rw [h3.2]; decide) (fun g => ?_) (by rw [hz]; exact h6) ?_
  · have := h5.resolve_left g
    rw [r3, sd]
    exact ⟨this.1, this.2⟩
  · rcases h7 with h | h | h
    · rw [h]; rfl
    · rw [(r6 h).1]
      have := O.looks _ h2
      have b2 := yBit_lt (Cg_s x) (a % 10)
      have : ∀ j, j < 4 → ∀ s, s < 2 → yFit j s 1 = true := by decide +kernel
      exact this _ (by omega) _ (by omega)
    · rw [sd, h.1]
      have := O.looks _ h2
      exact (r5 _ (by omega)).mpr h.2
theorem Cg_eb_can {φ : Nat → Nat → Nat} (O : yOk φ) {σ : ySt} {x : CgS} {a : Nat} (S : ySok φ σ) (R : Cg_rel σ x) (ha : a ≠ 200) (e : yEb φ σ a = true) : Cg_can φ x a = true ∧ σ.sd = yBit (Cg_s x) (a % 10) := by
  obtain ⟨c1, c2, c3, c5, c4, c6, c7⟩ := bCross e ha
  have act := (yEb_act e).1.resolve_left ha
  obtain ⟨r1, r2, r3, r4, r5, r6, r7, r8⟩ := R
  have hz : σ.z (a / 100) = Cg_t x := by unfold ySt.z; split <;> assumption
  rw [hz] at c6
  rw [r3] at c5
  refine ⟨Cg_can_iff.mpr ⟨c1, c2, c3, act.2.2.1, ?_, c6, ?_⟩, c5.symm⟩
  · by_cases g : a % 100 / 10 = 0
    · exact Or.inl g
    · right
      have := c4 g
      rw [r3] at this
      exact ⟨this.1, by rw [this.2, c5]⟩
  · by_cases g : φ 5 (a / 100) = 0
    · exact Or.inl g
    · right
      by_cases z : Cg_t x = 0
      · exact Or.inl z
      · right
        have L := O.looks _ c2
        obtain ⟨m1, m2⟩ := r7 z
        have := bFit (by omega) c7 m1
        have s2 := S.sd
        have al := Cg_ar_lt r4
        have e1 : σ.sd = Cg_ar x := by omega
        refine ⟨by rw [c5, e1], ?_⟩
        rw [e1] at c7
        exact (r5 _ (by omega)).mp c7
/-- a way without loafs is a raw way -/
theorem Cg_raw_run {φ : Nat → Nat → Nat} (O : yOk φ) (hc : φ 0 7 ≠ 0) : ∀ (l : List Nat) (σ : ySt) (x y : CgS), ySok φ σ → Cg_rel σ x → σ.sd = Cg_d x → Cg_run φ x l = some y →
    ∃ τ, yRun φ σ (Cg_raw x l) = some τ ∧ Cg_rel τ y ∧ ySok φ τ := by
  intro l
  induction l with
  | nil => intro σ x y S R _ r; cases r; exact ⟨σ, rfl, R, S⟩
  | cons a l ih =>
    intro σ x y S R sd r
    replace r : (if Cg_can φ x a = true then Cg_run φ (Cg_go x a) l else none) = some y := r
    by_cases g : Cg_can φ x a = true
    · rw [if_pos g] at r
      obtain ⟨h1, h2, h3, h4, h5, h6, h7⟩ := Cg_can_iff.mp g
      have b2 := yBit_lt (Cg_s x) (a % 10)
      have s2 := S.sd
      unfold Cg_raw
      by_cases f : yBit (Cg_s x) (a % 10) = Cg_d x
      · have fl : Cg_lf x a = 0 := by unfold Cg_lf; rw [if_pos f]
        rw [if_pos fl]
        have e := Cg_eb_of O R (by rw [sd, f]) g
        have R' := Cg_rel_go hc S R (by rw [sd, f]) g
        have S' := yDo_ok O S (yEb_act e).1
        obtain ⟨τ, t1, t2, t3⟩ := ih (yDo φ σ a) (Cg_go x a) y S' R' (by
          rw [bDo (by omega)]; show 1 - σ.sd = 1 - yBit (Cg_s x) (a % 10); rw [sd, f]) r
        refine ⟨τ, ?_, t2, t3⟩
        show (if yEb φ σ a = true then yRun φ (yDo φ σ a) (Cg_raw (Cg_go x a) l) else none) = _
        rw [if_pos e]; exact t1
      · have fl : Cg_lf x a ≠ 0 := by unfold Cg_lf; rw [if_neg f]; decide
        rw [if_neg fl]
        have S1 := yDo_ok O S (yEb_act (yEb_200 φ σ)).1
        have R1 : Cg_rel (yDo φ σ 200) x := by rw [bDo_200]; exact R
        have d2 := R.2.2.2.1
        have sd1 : (yDo φ σ 200).sd = yBit (Cg_s x) (a % 10) := by
          rw [bDo_200]; show 1 - σ.sd = _; omega
        have e := Cg_eb_of O R1 sd1 g
        have R' := Cg_rel_go hc S1 R1 sd1 g
        have S' := yDo_ok O S1 (yEb_act e).1
        obtain ⟨τ, t1, t2, t3⟩ := ih (yDo φ (yDo φ σ 200) a) (Cg_go x a) y S' R' (by
          rw [bDo (by omega)]; show 1 - (yDo φ σ 200).sd = 1 - yBit (Cg_s x) (a % 10); rw [sd1]) r
        refine ⟨τ, ?_, t2, t3⟩
        show (if yEb φ σ 200 = true then (if yEb φ (yDo φ σ 200) a = true then yRun φ (yDo φ (yDo φ σ 200) a) (Cg_raw (Cg_go x a) l) else none) else none) = _
        rw [if_pos (yEb_200 φ σ), if_pos e]; exact t1
    · rw [if_neg g] at r; cases r
/-- a raw way without its loafs -/
theorem Cg_of_run {φ : Nat → Nat → Nat} (O : yOk φ) (hc : φ 0 7 ≠ 0) : ∀ (l : List Nat) (σ τ : ySt) (x : CgS), ySok φ σ → Cg_rel σ x → yRun φ σ l = some τ →
    ∃ y, Cg_run φ x (l.filter (· ≠ 200)) = some y ∧ Cg_rel τ y ∧ Cg_lo x (l.filter (· ≠ 200)) ≤ lo l + (if σ.sd = Cg_d x then 0 else 1) := by
  intro l
  induction l with
  | nil => intro σ τ x S R r; cases r; exact ⟨x, rfl, R, Nat.zero_le _⟩
  | cons a l ih =>
    intro σ τ x S R r
    replace r : (if yEb φ σ a = true then yRun φ (yDo φ σ a) l else none) = some τ := r
    by_cases g : yEb φ σ a = true
    · rw [if_pos g] at r
      have S' := yDo_ok O S (yEb_act g).1
      by_cases ha : a = 200
      · subst ha
        obtain ⟨y, y1, y2, y3⟩ := ih _ τ x S' (by rw [bDo_200]; exact R) r
        have e : (200 :: l).filter (· ≠ 200) = l.filter (· ≠ 200) := by simp
        rw [e]
        refine ⟨y, y1, y2, ?_⟩
        show _ ≤ 1 + lo l + _
        have s2 := S.sd
        have d2 := R.2.2.2.1
        have : (yDo φ σ 200).sd = 1 - σ.sd := by rw [bDo_200]; rfl
        rw [this] at y3
        revert y3
        split <;> split <;> omega
      · obtain ⟨cc, sd⟩ := Cg_eb_can O S R ha g
        have R' := Cg_rel_go hc S R sd cc
        obtain ⟨y, y1, y2, y3⟩ := ih _ τ _ S' R' r
        have e : (a :: l).filter (· ≠ 200) = a :: l.filter (· ≠ 200) := by simp [ha]
        rw [e]
        refine ⟨y, ?_, y2, ?_⟩
        · show (if Cg_can φ x a = true then _ else none) = _
          rw [if_pos cc]; exact y1
        · have sg : (yDo φ σ a).sd = Cg_d (Cg_go x a) := by
            rw [bDo ha]; show 1 - σ.sd = 1 - yBit (Cg_s x) (a % 10); rw [sd]
          rw [if_pos sg] at y3
          show Cg_lf x a + _ ≤ (if a = 200 then 1 else 0) + lo l + _
          rw [if_neg ha]
          unfold Cg_lf
          rw [← sd]
          have : Cg_lo (Cg_go x a) (l.filter (· ≠ 200)) ≤ lo l := by omega
          omega
    · rw [if_neg g] at r; cases r
