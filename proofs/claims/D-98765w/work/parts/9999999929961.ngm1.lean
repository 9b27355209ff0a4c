set_option maxRecDepth 100000
/-! the same, where the posts need not compare: the state knows also both posts' last crossers and the post of the last crossing -/
abbrev NgS := Nat × Nat × Nat × Nat × Nat × Nat × Nat
def Ng_t (x : NgS) : Nat := x.1
def Ng_s (x : NgS) : Nat := x.2.1
def Ng_d (x : NgS) : Nat := x.2.2.1
def Ng_r (x : NgS) : Nat := x.2.2.2.1
def Ng_k (x : NgS) : Nat := x.2.2.2.2.2.2
def Ng_z (x : NgS) (k : Nat) : Nat := if k = 0 then x.2.2.2.2.1 else x.2.2.2.2.2.1
def Ng_ar (x : NgS) : Nat := if Ng_t x = 0 then Ng_d x else yBit (Ng_s x) (Ng_t x - 1)
/-- may the act a (no loaf) be done, a loaf ahead of it where need be -/
def Ng_can (φ : Nat → Nat → Nat) (x : NgS) (a : Nat) : Bool :=
  decide (a < 200) && decide (a / 100 < φ 0 3) && decide (a % 10 < φ 0 2) && decide (yBit (φ 0 4) (a % 10) = 0) && decide (a % 100 / 10 ≤ φ 0 2) &&
  (decide (a % 100 / 10 = 0) || (decide (yBit (φ 0 4) (a % 100 / 10 - 1) = 1) && decide (yBit (Ng_s x) (a % 100 / 10 - 1) = yBit (Ng_s x) (a % 10)))) &&
  yBeh φ (Ng_z x (a / 100)) (a % 10) (a / 100) &&
  (decide (φ 5 (a / 100) = 0) || decide (Ng_t x = 0) || (decide (yBit (Ng_s x) (a % 10) = Ng_ar x) && decide (φ 5 (a / 100) ≤ Ng_r x)))
def Ng_go (x : NgS) (a : Nat) : NgS :=
  (a % 10 + 1, Ng_s x ^^^ Cg_fl a, 1 - yBit (Ng_s x) (a % 10), if Ng_t x = 0 ∨ yBit (Ng_s x) (a % 10) = Ng_ar x then min 3 (Ng_r x + 1) else 1,
    if a / 100 = 0 then a % 10 + 1 else Ng_z x 0, if a / 100 = 0 then Ng_z x 1 else a % 10 + 1, a / 100)
def Ng_lf (x : NgS) (a : Nat) : Nat := if yBit (Ng_s x) (a % 10) = Ng_d x then 0 else 1
def Ng_run (φ : Nat → Nat → Nat) : NgS → List Nat → Option NgS
  | x, [] => some x
  | x, a :: l => if Ng_can φ x a = true then Ng_run φ (Ng_go x a) l else none
/-- loafs -/
def Ng_lo : NgS → List Nat → Nat
  | _, [] => 0
  | x, a :: l => Ng_lf x a + Ng_lo (Ng_go x a) l
/-- the acts, loafs and all -/
def Ng_raw : NgS → List Nat → List Nat
  | _, [] => []
  | x, a :: l => (if Ng_lf x a = 0 then [a] else [200, a]) ++ Ng_raw (Ng_go x a) l
/-- the raw state s is x, but for the boat -/
def Ng_rel (σ : ySt) (x : NgS) : Prop :=
  σ.z0 = Ng_z x 0 ∧ σ.z1 = Ng_z x 1 ∧ σ.ov = Ng_s x ∧ Ng_d x < 2 ∧ (∀ j, j ≤ 3 → (yFit j (Ng_ar x) σ.mk = true ↔ j ≤ Ng_r x)) ∧ (Ng_t x = 0 → σ.mk = 1 ∧ Ng_r x = 3) ∧ (Ng_t x ≠ 0 → 2 ≤ σ.mk ∧ σ.mk % 2 = 1 - Ng_ar x) ∧ Ng_r x ≤ 3
theorem Ng_can_iff {φ : Nat → Nat → Nat} {x : NgS} {a : Nat} : Ng_can φ x a = true ↔ a < 200 ∧ a / 100 < φ 0 3 ∧ yAd φ (a % 10) ∧ a % 100 / 10 ≤ φ 0 2 ∧
    (a % 100 / 10 = 0 ∨ (yBit (φ 0 4) (a % 100 / 10 - 1) = 1 ∧ yBit (Ng_s x) (a % 100 / 10 - 1) = yBit (Ng_s x) (a % 10))) ∧ yBeh φ (Ng_z x (a / 100)) (a % 10) (a / 100) = true ∧
    (φ 5 (a / 100) = 0 ∨ Ng_t x = 0 ∨ (yBit (Ng_s x) (a % 10) = Ng_ar x ∧ φ 5 (a / 100) ≤ Ng_r x)) := by
  unfold Ng_can yAd
  simp only [Bool.and_eq_true, Bool.or_eq_true, decide_eq_true_eq]
  constructor
  · rintro ⟨⟨⟨⟨⟨⟨⟨h1, h2⟩, h3⟩, h4⟩, h5⟩, h6⟩, h7⟩, h8⟩
    exact ⟨h1, h2, ⟨h3, h4⟩, h5, h6, h7, h8.elim (fun g => g.elim Or.inl fun h => Or.inr (Or.inl h)) fun h => Or.inr (Or.inr h)⟩
  · rintro ⟨h1, h2, ⟨h3, h4⟩, h5, h6, h7, h8⟩
    exact ⟨⟨⟨⟨⟨⟨⟨h1, h2⟩, h3⟩, h4⟩, h5⟩, h6⟩, h7⟩, h8.elim (fun h => Or.inl (Or.inl h)) fun g => g.elim (fun h => Or.inl (Or.inr h)) Or.inr⟩
theorem Ng_ar_go {φ : Nat → Nat → Nat} {x : NgS} {a : Nat} (h : Ng_can φ x a = true) : Ng_ar (Ng_go x a) = Ng_d (Ng_go x a) := by
  obtain ⟨h1, h2, h3, h4, h5, h6, h7⟩ := Ng_can_iff.mp h
  unfold Ng_ar Ng_go Ng_t Ng_d Ng_s
  rw [if_neg (by show a % 10 + 1 ≠ 0; omega)]
  show yBit (x.2.1 ^^^ Cg_fl a) (a % 10 + 1 - 1) = 1 - yBit x.2.1 (a % 10)
  rw [show a % 10 + 1 - 1 = a % 10 by omega, Cg_bit_fl (a % 10) ?_, if_pos rfl]
  rcases h5 with h | h
  · exact Or.inl h
  · right; intro e; rw [e, h3.2] at h; exact absurd h.1 (by decide)
theorem Ng_ar_lt {x : NgS} (hd : Ng_d x < 2) : Ng_ar x < 2 := by
  unfold Ng_ar
  split
  · exact hd
  · exact yBit_lt _ _
/-- the raw way does what the way without loafs does -/
theorem Ng_rel_go {φ : Nat → Nat → Nat} (O : yOk φ) (hc : φ 0 7 = 0) {σ : ySt} {x : NgS} {a : Nat} (S : ySok φ σ) (R : Ng_rel σ x) (sd : σ.sd = yBit (Ng_s x) (a % 10)) (e : Ng_can φ x a = true) : Ng_rel (yDo φ σ a) (Ng_go x a) := by
  obtain ⟨h1, h2, h3, h4, h5, h6, h7⟩ := Ng_can_iff.mp e
  obtain ⟨r1, r2, r3, r4, r5, r6, r7, r8⟩ := R
  have ag := Ng_ar_go e
  have b2 := yBit_lt (Ng_s x) (a % 10)
  have al := Ng_ar_lt r4
  have dg : Ng_d (Ng_go x a) = 1 - yBit (Ng_s x) (a % 10) := rfl
  rw [bDo (by omega)]
  refine ⟨?_, ?_, ?_, ?_, ?_, ?_, ?_, ?_⟩
  · show (if a / 100 = 0 ∨ φ 0 7 ≠ 0 then a % 10 + 1 else σ.z0) = if a / 100 = 0 then a % 10 + 1 else Ng_z x 0
    by_cases g : a / 100 = 0
    · rw [if_pos (Or.inl g), if_pos g]
    · rw [if_neg (fun w => w.elim g (fun v => v hc)), if_neg g]; exact r1
  · show (if a / 100 = 1 ∨ φ 0 7 ≠ 0 then a % 10 + 1 else σ.z1) = if a / 100 = 0 then Ng_z x 1 else a % 10 + 1
    have := O.posts
    by_cases g : a / 100 = 0
    · rw [if_neg (fun w => w.elim (by omega) (fun v => v hc)), if_pos g]; exact r2
    · rw [if_pos (Or.inl (by omega)), if_neg g]
  · show σ.ov ^^^ _ = _; rw [r3]; rfl
  · rw [dg]; omega
  · intro j hj
    rw [ag, dg]
    show yFit j (1 - yBit (Ng_s x) (a % 10)) (yMk σ.mk σ.sd) = true ↔ j ≤ (if Ng_t x = 0 ∨ yBit (Ng_s x) (a % 10) = Ng_ar x then min 3 (Ng_r x + 1) else 1)
    rw [sd]
    by_cases z : Ng_t x = 0
    · obtain ⟨m1, m2⟩ := r6 z
      rw [if_pos (Or.inl z), m1, m2]
      constructor
      · intro _; exact hj
      · intro _; exact Cg_fit0 _ b2 _ (by omega)
    · obtain ⟨m1, m2⟩ := r7 z
      obtain ⟨f1, f2⟩ := Cg_fit S.mk1 al r8 m1 m2 r5 hj
      by_cases g : yBit (Ng_s x) (a % 10) = Ng_ar x
      · rw [if_pos (Or.inr g), g]; exact f1
      · rw [if_neg (fun w => w.elim z g)]
        have : yBit (Ng_s x) (a % 10) = 1 - Ng_ar x := by omega
        rw [this, show 1 - (1 - Ng_ar x) = Ng_ar x by omega]; exact f2
  · intro z; exact absurd z (by show a % 10 + 1 ≠ 0; omega)
  · intro _
    rw [ag, dg]
    show 2 ≤ yMk σ.mk σ.sd ∧ yMk σ.mk σ.sd % 2 = 1 - (1 - yBit (Ng_s x) (a % 10))
    obtain ⟨m1, m2⟩ := bMk _ S.mk1 _ S.sd S.mk0
    rw [sd] at m1 m2 ⊢
    exact ⟨m2, by omega⟩
  · show (if _ then min 3 (Ng_r x + 1) else 1) ≤ 3
    split
    · exact Nat.min_le_left _ _
    · decide
theorem Ng_eb_of {φ : Nat → Nat → Nat} (O : yOk φ) {σ : ySt} {x : NgS} {a : Nat} (R : Ng_rel σ x) (sd : σ.sd = yBit (Ng_s x) (a % 10)) (e : Ng_can φ x a = true) : yEb φ σ a = true := by
  obtain ⟨h1, h2, h3, h4, h5, h6, h7⟩ := Ng_can_iff.mp e
  obtain ⟨r1, r2, r3, r4, r5, r6, r7, r8⟩ := R
  have hz : σ.z (a / 100) = Ng_z x (a / 100) := by
    unfold ySt.z
    by_cases g : a / 100 = 0
    · rw [if_pos g, g]; exact r1
    · rw [if_neg g, r2]; unfold Ng_z; rw [if_neg g, if_neg (by decide)]
  refine cEb_of h1 h2 h3.1 h4 (by rw [r3, sd]) (by rw [h3.2]; decide) (fun g => ?_) (by rw [hz]; exact h6) ?_
  · have := h5.resolve_left g
    rw [r3, sd]
    exact ⟨this.1, this.2⟩
  · rcases h7 with h | h | h
    · rw [h]; rfl
    · rw [(r6 h).1]
      have := O.looks _ h2
      have b2 := yBit_lt (Ng_s x) (a % 10)
      have : ∀ j, j < 4 → ∀ s, s < 2 → yFit j s 1 = true := by decide +kernel
      exact this _ (by omega) _ (by omega)
    · rw [sd, h.1]
      have := O.looks _ h2
      exact (r5 _ (by omega)).mpr h.2
theorem Ng_eb_can {φ : Nat → Nat → Nat} (O : yOk φ) {σ : ySt} {x : NgS} {a : Nat} (S : ySok φ σ) (R : Ng_rel σ x) (ha : a ≠ 200) (e : yEb φ σ a = true) : Ng_can φ x a = true ∧ σ.sd = yBit (Ng_s x) (a % 10) := by
  obtain ⟨c1, c2, c3, c5, c4, c6, c7⟩ := bCross e ha
  have act := (yEb_act e).1.resolve_left ha
  obtain ⟨r1, r2, r3, r4, r5, r6, r7, r8⟩ := R
  have hz : σ.z (a / 100) = Ng_z x (a / 100) := by
    unfold ySt.z
    by_cases g : a / 100 = 0
    · rw [if_pos g, g]; exact r1
    · rw [if_neg g, r2]; unfold Ng_z; rw [if_neg g, if_neg (by decide)]
  rw [hz] at c6
  rw [r3] at c5
  refine ⟨Ng_can_iff.mpr ⟨c1, c2, c3, act.2.2.1, ?_, c6, ?_⟩, c5.symm⟩
  · by_cases g : a % 100 / 10 = 0
    · exact Or.inl g
    · right
      have := c4 g
      rw [r3] at this
      exact ⟨this.1, by rw [this.2, c5]⟩
  · by_cases g : φ 5 (a / 100) = 0
    · exact Or.inl g
    · right
      by_cases z : Ng_t x = 0
      · exact Or.inl z
      · right
        have L := O.looks _ c2
        obtain ⟨m1, m2⟩ := r7 z
        have := bFit (by omega) c7 m1
        have s2 := S.sd
        have al := Ng_ar_lt r4
        have e1 : σ.sd = Ng_ar x := by omega
        refine ⟨by rw [c5, e1], ?_⟩
        rw [e1] at c7
        exact (r5 _ (by omega)).mp c7
/-- a way without loafs is a raw way -/
theorem Ng_raw_run {φ : Nat → Nat → Nat} (O : yOk φ) (hc : φ 0 7 = 0) : ∀ (l : List Nat) (σ : ySt) (x y : NgS), ySok φ σ → Ng_rel σ x → σ.sd = Ng_d x → Ng_run φ x l = some y →
    ∃ τ, yRun φ σ (Ng_raw x l) = some τ ∧ Ng_rel τ y ∧ ySok φ τ := by
  intro l
  induction l with
  | nil => intro σ x y S R _ r; cases r; exact ⟨σ, rfl, R, S⟩
  | cons a l ih =>
    intro σ x y S R sd r
    replace r : (if Ng_can φ x a = true then Ng_run φ (Ng_go x a) l else none) = some y := r
    by_cases g : Ng_can φ x a = true
    · rw [if_pos g] at r
      obtain ⟨h1, h2, h3, h4, h5, h6, h7⟩ := Ng_can_iff.mp g
      have b2 := yBit_lt (Ng_s x) (a % 10)
      have s2 := S.sd
      unfold Ng_raw
      by_cases f : yBit (Ng_s x) (a % 10) = Ng_d x
      · have fl : Ng_lf x a = 0 := by unfold Ng_lf; rw [if_pos f]
        rw [if_pos fl]
        have e := Ng_eb_of O R (by rw [sd, f]) g
        have R' := Ng_rel_go O hc S R (by rw [sd, f]) g
        have S' := yDo_ok O S (yEb_act e).1
        obtain ⟨τ, t1, t2, t3⟩ := ih (yDo φ σ a) (Ng_go x a) y S' R' (by
          rw [bDo (by omega)]; show 1 - σ.sd = 1 - yBit (Ng_s x) (a % 10); rw [sd, f]) r
        refine ⟨τ, ?_, t2, t3⟩
        show (if yEb φ σ a = true then yRun φ (yDo φ σ a) (Ng_raw (Ng_go x a) l) else none) = _
        rw [if_pos e]; exact t1
      · have fl : Ng_lf x a ≠ 0 := by unfold Ng_lf; rw [if_neg f]; decide
        rw [if_neg fl]
        have S1 := yDo_ok O S (yEb_act (yEb_200 φ σ)).1
        have R1 : Ng_rel (yDo φ σ 200) x := by rw [bDo_200]; exact R
        have d2 := R.2.2.2.1
        have sd1 : (yDo φ σ 200).sd = yBit (Ng_s x) (a % 10) := by
          rw [bDo_200]; show 1 - σ.sd = _; omega
        have e := Ng_eb_of O R1 sd1 g
        have R' := Ng_rel_go O hc S1 R1 sd1 g
        have S' := yDo_ok O S1 (yEb_act e).1
        obtain ⟨τ, t1, t2, t3⟩ := ih (yDo φ (yDo φ σ 200) a) (Ng_go x a) y S' R' (by
          rw [bDo (by omega)]; show 1 - (yDo φ σ 200).sd = 1 - yBit (Ng_s x) (a % 10); rw [sd1]) r
        refine ⟨τ, ?_, t2, t3⟩
        show (if yEb φ σ 200 = true then (if yEb φ (yDo φ σ 200) a = true then yRun φ (yDo φ (yDo φ σ 200) a) (Ng_raw (Ng_go x a) l) else none) else none) = _
        rw [if_pos (yEb_200 φ σ), if_pos e]; exact t1
    · rw [if_neg g] at r; cases r
/-- a raw way without its loafs -/
theorem Ng_of_run {φ : Nat → Nat → Nat} (O : yOk φ) (hc : φ 0 7 = 0) : ∀ (l : List Nat) (σ τ : ySt) (x : NgS), ySok φ σ → Ng_rel σ x → yRun φ σ l = some τ →
    ∃ y, Ng_run φ x (l.filter (· ≠ 200)) = some y ∧ Ng_rel τ y ∧ Ng_lo x (l.filter (· ≠ 200)) ≤ lo l + (if σ.sd = Ng_d x then 0 else 1) := by
  intro l
  induction l with
  | nil => intro σ τ x S R r; cases r; exact ⟨x, rfl, R, Nat.zero_le _⟩
  | cons a l ih =>
    intro σ τ x S R r
    replace r : (if yEb φ σ a = true then yRun φ (yDo φ σ a) l else none) = some τ := r
    by_cases g : yEb φ σ a = true
    · rw [if_pos g] at r
      have S' := yDo_ok O S (yEb_act g).1
      by_cases ha : a = 200
      · subst ha
        obtain ⟨y, y1, y2, y3⟩ := ih _ τ x S' (by rw [bDo_200]; exact R) r
        have e : (200 :: l).filter (· ≠ 200) = l.filter (· ≠ 200) := by simp
        rw [e]
        refine ⟨y, y1, y2, ?_⟩
        show _ ≤ 1 + lo l + _
        have s2 := S.sd
        have d2 := R.2.2.2.1
        have : (yDo φ σ 200).sd = 1 - σ.sd := by rw [bDo_200]; rfl
        rw [this] at y3
        revert y3
        split <;> split <;> omega
      · obtain ⟨cc, sd⟩ := Ng_eb_can O S R ha g
        have R' := Ng_rel_go O hc S R sd cc
        obtain ⟨y, y1, y2, y3⟩ := ih _ τ _ S' R' r
        have e : (a :: l).filter (· ≠ 200) = a :: l.filter (· ≠ 200) := by simp [ha]
        rw [e]
        refine ⟨y, ?_, y2, ?_⟩
        · show (if Ng_can φ x a = true then _ else none) = _
          rw [if_pos cc]; exact y1
        · have sg : (yDo φ σ a).sd = Ng_d (Ng_go x a) := by
            rw [bDo ha]; show 1 - σ.sd = 1 - yBit (Ng_s x) (a % 10); rw [sd]
          rw [if_pos sg] at y3
          show Ng_lf x a + _ ≤ (if a = 200 then 1 else 0) + lo l + _
          rw [if_neg ha]
          unfold Ng_lf
          rw [← sd]
          have : Ng_lo (Ng_go x a) (l.filter (· ≠ 200)) ≤ lo l := by omega
          omega
    · rw [if_neg g] at r; cases r
