set_option maxRecDepth 100000
/-! ways, costs, least ways, windows -/
def Cg_ok (φ : Nat → Nat → Nat) : CgS → List Nat → Prop
  | _, [] => True
  | x, a :: l => Cg_can φ x a = true ∧ Cg_ok φ (Cg_go x a) l
def Cg_end : CgS → List Nat → CgS
  | x, [] => x
  | x, a :: l => Cg_end (Cg_go x a) l
/-- what a way costs, one act at a time: c says it of an act with or without a loaf ahead -/
def Cg_S (c : Nat → Nat → Nat) : CgS → List Nat → Nat
  | _, [] => 0
  | x, a :: l => c (Cg_lf x a) a + Cg_S c (Cg_go x a) l
theorem Cg_run_iff {φ : Nat → Nat → Nat} : ∀ (l : List Nat) (x y : CgS), Cg_run φ x l = some y ↔ Cg_ok φ x l ∧ y = Cg_end x l := by
  intro l
  induction l with
  | nil =>
    intro x y
    constructor
    · intro h; cases h; exact ⟨trivial, rfl⟩
    · intro h; rw [h.2]; rfl
  | cons a l ih =>
    intro x y
    show (if Cg_can φ x a = true then Cg_run φ (Cg_go x a) l else none) = some y ↔ (Cg_can φ x a = true ∧ Cg_ok φ (Cg_go x a) l) ∧ y = Cg_end (Cg_go x a) l
    by_cases g : Cg_can φ x a = true
    · rw [if_pos g, ih]
      exact ⟨fun h => ⟨⟨g, h.1⟩, h.2⟩, fun h => ⟨h.1.2, h.2⟩⟩
    · rw [if_neg g]
      constructor
      · intro h; cases h
      · intro h; exact absurd h.1.1 g
theorem Cg_ok_app {φ : Nat → Nat → Nat} : ∀ (l m : List Nat) (x : CgS), Cg_ok φ x (l ++ m) ↔ Cg_ok φ x l ∧ Cg_ok φ (Cg_end x l) m := by
  intro l
  induction l with
  | nil => intro m x; exact ⟨fun h => ⟨trivial, h⟩, fun h => h.2⟩
  | cons a l ih =>
    intro m x
    show Cg_can φ x a = true ∧ Cg_ok φ (Cg_go x a) (l ++ m) ↔ (Cg_can φ x a = true ∧ Cg_ok φ (Cg_go x a) l) ∧ Cg_ok φ (Cg_end (Cg_go x a) l) m
    rw [ih, and_assoc]
theorem Cg_end_app : ∀ (l m : List Nat) (x : CgS), Cg_end x (l ++ m) = Cg_end (Cg_end x l) m := by
  intro l
  induction l with
  | nil => intro m x; rfl
  | cons a l ih => intro m x; exact ih m _
theorem Cg_S_app (c : Nat → Nat → Nat) : ∀ (l m : List Nat) (x : CgS), Cg_S c x (l ++ m) = Cg_S c x l + Cg_S c (Cg_end x l) m := by
  intro l
  induction l with
  | nil => intro m x; show _ = 0 + _; rw [Nat.zero_add]; rfl
  | cons a l ih => intro m x; show c _ a + Cg_S c _ (l ++ m) = c _ a + Cg_S c _ l + _; rw [ih]; show _ + (_ + Cg_S c (Cg_end (Cg_go x a) l) m) = _; rw [Nat.add_assoc]; rfl
theorem Cg_lo_S : ∀ (l : List Nat) (x : CgS), Cg_lo x l = Cg_S (fun f _ => f) x l := by
  intro l
  induction l with
  | nil => intro x; rfl
  | cons a l ih => intro x; show _ + Cg_lo _ l = _ + Cg_S _ _ l; rw [ih]
theorem Cg_len_S : ∀ (l : List Nat) (x : CgS), l.length = Cg_S (fun _ _ => 1) x l := by
  intro l
  induction l with
  | nil => intro x; rfl
  | cons a l ih => intro x; show l.length + 1 = 1 + Cg_S _ _ l; rw [← ih]; omega
/-- y is as good as x -/
def Cg_le (x y : CgS) : Prop := Cg_t x = Cg_t y ∧ Cg_s x = Cg_s y ∧ Cg_d x = Cg_d y ∧ Cg_r x ≤ Cg_r y
theorem Cg_le_refl (x : CgS) : Cg_le x x := ⟨rfl, rfl, rfl, Nat.le_refl _⟩
theorem Cg_le_ar {x y : CgS} (h : Cg_le x y) : Cg_ar x = Cg_ar y := by
  unfold Cg_ar; rw [h.1, h.2.1, h.2.2.1]
theorem Cg_le_go {φ : Nat → Nat → Nat} {x y : CgS} (h : Cg_le x y) {a : Nat} (e : Cg_can φ x a = true) : Cg_can φ y a = true ∧ Cg_le (Cg_go x a) (Cg_go y a) ∧ Cg_lf x a = Cg_lf y a := by
  have ha := Cg_le_ar h
  obtain ⟨h1, h2, h3, h4⟩ := h
  obtain ⟨e1, e2, e3, e4, e5, e6, e7⟩ := Cg_can_iff.mp e
  refine ⟨Cg_can_iff.mpr ⟨e1, e2, e3, e4, by rw [← h2]; exact e5, by rw [← h1]; exact e6, ?_⟩, ⟨rfl, ?_, ?_, ?_⟩, ?_⟩
  · rcases e7 with g | g | g
    · exact Or.inl g
    · exact Or.inr (Or.inl (by rw [← h1]; exact g))
    · exact Or.inr (Or.inr ⟨by rw [← h2, ← ha]; exact g.1, Nat.le_trans g.2 h4⟩)
  · show Cg_s x ^^^ _ = Cg_s y ^^^ _; rw [h2]
  · show 1 - yBit (Cg_s x) _ = 1 - yBit (Cg_s y) _; rw [h2]
  · show (if Cg_t x = 0 ∨ yBit (Cg_s x) (a % 10) = Cg_ar x then min 3 (Cg_r x + 1) else 1) ≤ (if Cg_t y = 0 ∨ yBit (Cg_s y) (a % 10) = Cg_ar y then min 3 (Cg_r y + 1) else 1)
    rw [h1, h2, ha]
    split
    · exact Nat.le_min.mpr ⟨Nat.min_le_left _ _, Nat.le_trans (Nat.min_le_right _ _) (by omega)⟩
    · exact Nat.le_refl _
  · unfold Cg_lf; rw [h2, h3]
theorem Cg_le_run {φ : Nat → Nat → Nat} : ∀ (l : List Nat) (x y : CgS), Cg_le x y → Cg_ok φ x l → Cg_ok φ y l ∧ Cg_le (Cg_end x l) (Cg_end y l) ∧ ∀ c, Cg_S c x l = Cg_S c y l := by
  intro l
  induction l with
  | nil => intro x y h _; exact ⟨trivial, h, fun _ => rfl⟩
  | cons a l ih =>
    intro x y h e
    obtain ⟨g1, g2, g3⟩ := Cg_le_go h e.1
    obtain ⟨i1, i2, i3⟩ := ih _ _ g2 e.2
    exact ⟨⟨g1, i1⟩, i2, fun c => by show c _ a + _ = c _ a + _; rw [g3, i3 c]⟩
/-- lexicographic order of three figures -/
def Cg_lx (a b c a' b' c' : Nat) : Prop := a < a' ∨ (a = a' ∧ (b < b' ∨ (b = b' ∧ c ≤ c')))
/-- l is a least way from x to the over-set T, by three figures -/
def Cg_W (φ : Nat → Nat → Nat) (c1 c2 c3 : Nat → Nat → Nat) (x : CgS) (T : Nat) (l : List Nat) : Prop :=
  (Cg_ok φ x l ∧ Cg_s (Cg_end x l) = T) ∧ ∀ m, Cg_ok φ x m → Cg_s (Cg_end x m) = T → Cg_lx (Cg_S c1 x l) (Cg_S c2 x l) (Cg_S c3 x l) (Cg_S c1 x m) (Cg_S c2 x m) (Cg_S c3 x m)
theorem Cg_W_ex {φ : Nat → Nat → Nat} (c1 c2 c3 : Nat → Nat → Nat) {x : CgS} {T : Nat} {m : List Nat} (h1 : Cg_ok φ x m) (h2 : Cg_s (Cg_end x m) = T) : ∃ l, Cg_W φ c1 c2 c3 x T l := by
  obtain ⟨p, ⟨l1, a1, a2, a3⟩, mp⟩ := yLeastN (Q := fun p => ∃ l, Cg_ok φ x l ∧ Cg_s (Cg_end x l) = T ∧ Cg_S c1 x l = p) _ ⟨m, h1, h2, rfl⟩
  obtain ⟨q, ⟨l2, b1, b2, b3, b4⟩, mq⟩ := yLeastN (Q := fun q => ∃ l, Cg_ok φ x l ∧ Cg_s (Cg_end x l) = T ∧ Cg_S c1 x l = p ∧ Cg_S c2 x l = q) _ ⟨l1, a1, a2, a3, rfl⟩
  obtain ⟨r, ⟨l3, d1, d2, d3, d4, d5⟩, mr⟩ := yLeastN (Q := fun r => ∃ l, Cg_ok φ x l ∧ Cg_s (Cg_end x l) = T ∧ Cg_S c1 x l = p ∧ Cg_S c2 x l = q ∧ Cg_S c3 x l = r) _ ⟨l2, b1, b2, b3, b4, rfl⟩
  refine ⟨l3, ⟨d1, d2⟩, fun m e1 e2 => ?_⟩
  unfold Cg_lx
  rw [d3, d4, d5]
  have u1 := mp _ ⟨m, e1, e2, rfl⟩
  by_cases g1 : Cg_S c1 x m = p
  · right
    refine ⟨g1.symm, ?_⟩
    have u2 := mq _ ⟨m, e1, e2, g1, rfl⟩
    by_cases g2 : Cg_S c2 x m = q
    · right; exact ⟨g2.symm, mr _ ⟨m, e1, e2, g1, g2, rfl⟩⟩
    · left; omega
  · left; omega
/-- what lies between two places of a least way is no dearer than any other way between them -/
theorem Cg_win {φ : Nat → Nat → Nat} {c1 c2 c3 : Nat → Nat → Nat} {x : CgS} {T : Nat} {p q u : List Nat} (W : Cg_W φ c1 c2 c3 x T (p ++ (q ++ u))) {m : List Nat} (hm : Cg_ok φ (Cg_end x p) m)
    (hl : Cg_le (Cg_end (Cg_end x p) q) (Cg_end (Cg_end x p) m)) :
    Cg_lx (Cg_S c1 (Cg_end x p) q) (Cg_S c2 (Cg_end x p) q) (Cg_S c3 (Cg_end x p) q) (Cg_S c1 (Cg_end x p) m) (Cg_S c2 (Cg_end x p) m) (Cg_S c3 (Cg_end x p) m) := by
  obtain ⟨⟨k1, k2⟩, least⟩ := W
  obtain ⟨o1, o2⟩ := (Cg_ok_app _ _ _).mp k1
  obtain ⟨o3, o4⟩ := (Cg_ok_app _ _ _).mp o2
  obtain ⟨i1, i2, i3⟩ := Cg_le_run u _ _ hl o4
  have := least (p ++ (m ++ u)) ((Cg_ok_app _ _ _).mpr ⟨o1, (Cg_ok_app _ _ _).mpr ⟨hm, i1⟩⟩) (by
    rw [Cg_end_app, Cg_end_app, ← i2.2.1, ← Cg_end_app, ← Cg_end_app]; exact k2)
  have e : ∀ c, Cg_S c x (p ++ (q ++ u)) = Cg_S c x p + (Cg_S c (Cg_end x p) q + Cg_S c (Cg_end (Cg_end x p) q) u) := fun c => by rw [Cg_S_app, Cg_S_app]
  have e2 : ∀ c, Cg_S c x (p ++ (m ++ u)) = Cg_S c x p + (Cg_S c (Cg_end x p) m + Cg_S c (Cg_end (Cg_end x p) q) u) := fun c => by rw [Cg_S_app, Cg_S_app, i3 c]
  unfold Cg_lx at this ⊢
  rw [e c1, e c2, e c3, e2 c1, e2 c2, e2 c3] at this
  omega
/-- a window is itself a least way to its end -/
theorem Cg_lx_tr {a b c a' b' c' a'' b'' c'' : Nat} (h : Cg_lx a b c a' b' c') (h' : Cg_lx a' b' c' a'' b'' c'') : Cg_lx a b c a'' b'' c'' := by
  unfold Cg_lx at *; omega
/-- the raw ways' risk, loafs and days -/
theorem Cg_raw_pr (φ : Nat → Nat → Nat) (b : Nat) : ∀ (l : List Nat) (x : CgS), (∀ a, a ∈ l → a ≠ 200) → yPr φ b (Cg_raw x l) = Cg_S (fun _ a => yPr1 φ b a) x l ∧ lo (Cg_raw x l) = Cg_lo x l ∧ cr (Cg_raw x l) = l.length := by
  intro l
  induction l with
  | nil => intro x _; exact ⟨rfl, rfl, rfl⟩
  | cons a l ih =>
    intro x h
    obtain ⟨i1, i2, i3⟩ := ih (Cg_go x a) fun b hb => h b (List.mem_cons_of_mem _ hb)
    have ha := h a List.mem_cons_self
    unfold Cg_raw
    have f : Cg_lf x a = 0 ∨ Cg_lf x a = 1 := by unfold Cg_lf; split <;> simp
    have p200 : yPr1 φ b 200 = 0 := by unfold yPr1; split <;> simp
    rcases f with f | f
    · rw [if_pos f]
      refine ⟨?_, ?_, ?_⟩
      · show yPr1 φ b a + yPr φ b (Cg_raw (Cg_go x a) l) = yPr1 φ b a + _; rw [i1]
      · show (if a = 200 then 1 else 0) + lo (Cg_raw (Cg_go x a) l) = Cg_lf x a + _; rw [if_neg ha, f, i2]
      · show (if a = 200 then 0 else 1) + cr (Cg_raw (Cg_go x a) l) = l.length + 1; rw [if_neg ha, i3]; omega
    · rw [if_neg (by omega)]
      refine ⟨?_, ?_, ?_⟩
      · show yPr1 φ b 200 + (yPr1 φ b a + yPr φ b (Cg_raw (Cg_go x a) l)) = yPr1 φ b a + _; rw [i1, p200, Nat.zero_add]
      · show 1 + ((if a = 200 then 1 else 0) + lo (Cg_raw (Cg_go x a) l)) = Cg_lf x a + _; rw [if_neg ha, f, i2]; omega
      · show 0 + ((if a = 200 then 0 else 1) + cr (Cg_raw (Cg_go x a) l)) = l.length + 1; rw [if_neg ha, i3]; omega
theorem Cg_ok_lt {φ : Nat → Nat → Nat} : ∀ (l : List Nat) (x : CgS), Cg_ok φ x l → ∀ a, a ∈ l → a < 200 := by
  intro l
  induction l with
  | nil => intro x _ a h; cases h
  | cons b l ih =>
    intro x h a ha
    rcases List.mem_cons.mp ha with e | e
    · rw [e]; exact (Cg_can_iff.mp h.1).1
    · exact ih _ h.2 a e
theorem Cg_filter_pr (φ : Nat → Nat → Nat) (b : Nat) : ∀ (l : List Nat) (x : CgS), Cg_S (fun _ a => yPr1 φ b a) x (l.filter (· ≠ 200)) = yPr φ b l ∧ (l.filter (· ≠ 200)).length = cr l := by
  intro l
  induction l with
  | nil => intro x; exact ⟨rfl, rfl⟩
  | cons a l ih =>
    intro x
    by_cases ha : a = 200
    · subst ha
      have e : (200 :: l).filter (· ≠ 200) = l.filter (· ≠ 200) := by simp
      have p200 : yPr1 φ b 200 = 0 := by unfold yPr1; split <;> simp
      rw [e]
      refine ⟨?_, ?_⟩
      · rw [(ih x).1]; show _ = yPr1 φ b 200 + yPr φ b l; rw [p200, Nat.zero_add]
      · rw [(ih x).2]; show _ = 0 + cr l; rw [Nat.zero_add]
    · have e : (a :: l).filter (· ≠ 200) = a :: l.filter (· ≠ 200) := by simp [ha]
      rw [e]
      refine ⟨?_, ?_⟩
      · show yPr1 φ b a + Cg_S _ _ _ = yPr1 φ b a + _; rw [(ih _).1]
      · show (l.filter _).length + 1 = (if a = 200 then 0 else 1) + cr l; rw [(ih x).2, if_neg ha]; omega
theorem Cg_days (φ : Nat → Nat → Nat) {b : Nat} (hb : b < 2) : ∀ l, ySc φ b l = cr l + φ 0 0 * lo l := by
  intro l
  induction l with
  | nil => show 0 = 0 + _ * 0; rw [Nat.mul_zero]
  | cons a l ih =>
    show ySc1 φ b a + ySc φ b l = ((if a = 200 then 0 else 1) + cr l) + φ 0 0 * ((if a = 200 then 1 else 0) + lo l)
    rw [ih]
    unfold ySc1
    rw [if_pos hb]
    unfold yDay
    by_cases h : a = 200
    · rw [if_pos h, if_pos h, if_pos h, Nat.mul_add, Nat.mul_one]; omega
    · rw [if_neg h, if_neg h, if_neg h]; simp; omega
/-- the start as a state of the game without loafs -/
def Cg_of (σ : ySt) : CgS := (σ.z0, σ.ov, σ.sd, if σ.z0 = 0 then 3 else if yFit 3 (yBit σ.ov (σ.z0 - 1)) σ.mk = true then 3 else if yFit 2 (yBit σ.ov (σ.z0 - 1)) σ.mk = true then 2 else 1)
theorem Cg_of_fit : ((List.range 16).all fun m => (List.range 2).all fun s => (List.range 4).all fun j => decide (m < 2) || decide (m % 2 ≠ 1 - s) ||
    (yFit j s m == decide (j ≤ (if yFit 3 s m = true then 3 else if yFit 2 s m = true then 2 else 1)))) = true := by decide +kernel
/-- last crossers stand where the boat came to -/
def Cg_in (σ : ySt) : Prop := (σ.z0 = 0 → σ.mk = 1) ∧ (σ.z0 ≠ 0 → 2 ≤ σ.mk ∧ σ.mk % 2 = 1 - yBit σ.ov (σ.z0 - 1))
theorem Cg_in_do {φ : Nat → Nat → Nat} (hc : φ 0 7 ≠ 0) {σ : ySt} (S : ySok φ σ) (I : Cg_in σ) {a : Nat} (e : yEb φ σ a = true) : Cg_in (yDo φ σ a) := by
  by_cases ha : a = 200
  · rw [ha, bDo_200]; exact I
  · obtain ⟨c1, c2, c3, c5, c4, c6, c7⟩ := bCross e ha
    obtain ⟨m1, m2⟩ := bMk _ S.mk1 _ S.sd S.mk0
    have b := bOv e ha c3
    rw [if_pos rfl] at b
    have z : (yDo φ σ a).z0 = a % 10 + 1 := by rw [bDo ha]; show (if _ then _ else _) = _; rw [if_pos (Or.inr hc)]
    have mk : (yDo φ σ a).mk = yMk σ.mk σ.sd := by rw [bDo ha]; rfl
    have s2 := S.sd
    refine ⟨fun h => absurd h (by rw [z]; omega), fun _ => ?_⟩
    rw [mk, z, show a % 10 + 1 - 1 = a % 10 by omega, b, c5]
    exact ⟨m2, by omega⟩
theorem Cg_in_run {φ : Nat → Nat → Nat} (O : yOk φ) (hc : φ 0 7 ≠ 0) : ∀ (l : List Nat) (σ τ : ySt), ySok φ σ → Cg_in σ → yRun φ σ l = some τ → Cg_in τ := by
  intro l
  induction l with
  | nil => intro σ τ _ I r; cases r; exact I
  | cons a l ih =>
    intro σ τ S I r
    replace r : (if yEb φ σ a = true then yRun φ (yDo φ σ a) l else none) = some τ := r
    by_cases g : yEb φ σ a = true
    · rw [if_pos g] at r; exact ih _ _ (yDo_ok O S (yEb_act g).1) (Cg_in_do hc S I g) r
    · rw [if_neg g] at r; cases r
theorem Cg_of_rel {φ : Nat → Nat → Nat} {σ : ySt} (S : ySok φ σ) (I : Cg_in σ) (hz : σ.z0 = σ.z1) : Cg_rel σ (Cg_of σ) := by
  refine ⟨rfl, hz.symm, rfl, S.sd, ?_, ?_, ?_, ?_⟩
  · intro j hj
    by_cases z : σ.z0 = 0
    · have : Cg_r (Cg_of σ) = 3 := by show (if _ then _ else _) = _; rw [if_pos z]
      rw [this, (I.1 z)]
      have al : Cg_ar (Cg_of σ) < 2 := Cg_ar_lt S.sd
      have q : ∀ j, j < 4 → ∀ s, s < 2 → yFit j s 1 = true := by decide +kernel
      exact ⟨fun _ => hj, fun _ => q j (by omega) _ al⟩
    · obtain ⟨m1, m2⟩ := I.2 z
      have ar : Cg_ar (Cg_of σ) = yBit σ.ov (σ.z0 - 1) := by unfold Cg_ar; show (if σ.z0 = 0 then _ else _) = _; rw [if_neg z]; rfl
      have rr : Cg_r (Cg_of σ) = (if yFit 3 (yBit σ.ov (σ.z0 - 1)) σ.mk = true then 3 else if yFit 2 (yBit σ.ov (σ.z0 - 1)) σ.mk = true then 2 else 1) := by
        show (if _ then _ else _) = _; rw [if_neg z]
      rw [ar, rr]
      have b2 := yBit_lt σ.ov (σ.z0 - 1)
      have := List.all_eq_true.mp (List.all_eq_true.mp (List.all_eq_true.mp Cg_of_fit σ.mk (List.mem_range.mpr S.mk1)) (yBit σ.ov (σ.z0 - 1)) (List.mem_range.mpr b2)) j (List.mem_range.mpr (by omega))
      simp only [Bool.or_eq_true, decide_eq_true_eq, beq_iff_eq] at this
      rcases this with (h | h) | h
      · omega
      · omega
      · rw [h, decide_eq_true_eq]
  · intro z
    exact ⟨I.1 z, by show (if _ then _ else _) = _; rw [if_pos (show σ.z0 = 0 from z)]⟩
  · intro z
    replace z : σ.z0 ≠ 0 := z
    have ar : Cg_ar (Cg_of σ) = yBit σ.ov (σ.z0 - 1) := by unfold Cg_ar; show (if σ.z0 = 0 then _ else _) = _; rw [if_neg z]; rfl
    rw [ar]; exact I.2 z
  · show (if _ then _ else _) ≤ 3
    split
    · decide
    · split
      · decide
      · split <;> decide
/-- ONE ROW IS ENOUGH: where a row least by risk, then loafs, then length has at most 400 acts (and few loafs), every row least by risk, then days has -/
theorem Cg_bdE {φ : Nat → Nat → Nat} (O : yOk φ) (hl : 0 < φ 0 0) (hc : φ 0 7 ≠ 0) {l0 : List Nat} {σ : ySt} (r0 : yRun φ yFirst l0 = some σ) {b : Nat} (hb : b < 2)
    (H : (∃ m, Cg_ok φ (Cg_of σ) m ∧ Cg_s (Cg_end (Cg_of σ) m) = yEnd φ) → ∃ v, Cg_W φ (fun _ a => yPr1 φ b a) (fun f _ => f) (fun _ _ => 1) (Cg_of σ) (yEnd φ) v ∧ v.length + Cg_lo (Cg_of σ) v ≤ 400 ∧ v.length + 9 * Cg_lo (Cg_of σ) v < 1000) : yBd1 φ b σ := by
  have S := bRun_ok O _ _ _ (yFirst_ok φ) r0
  have I := Cg_in_run O hc _ _ _ (yFirst_ok φ) ⟨fun _ => rfl, fun h => absurd rfl h⟩ r0
  have hz := uZ_run _ _ _ (uZ_first φ) r0 hc
  have R := Cg_of_rel S I hz
  intro l τ r E least
  obtain ⟨y, y1, y2, y3⟩ := Cg_of_run O hc l σ τ _ S R r
  rw [if_pos (show σ.sd = Cg_d (Cg_of σ) from rfl)] at y3
  obtain ⟨k1, k2⟩ := (Cg_run_iff _ _ _).mp y1
  have ey : Cg_s (Cg_end (Cg_of σ) (l.filter (· ≠ 200))) = yEnd φ := by rw [← k2, ← y2.2.2.1]; exact E
  obtain ⟨v, V, b1, b2⟩ := H ⟨_, k1, ey⟩
  obtain ⟨⟨v1, v2⟩, vl⟩ := V
  obtain ⟨τ', t1, t2, t3⟩ := Cg_raw_run O hc v σ _ _ S R rfl ((Cg_run_iff _ _ _).mpr ⟨v1, rfl⟩)
  have lt := Cg_ok_lt v _ v1
  obtain ⟨p1, p2, p3⟩ := Cg_raw_pr φ b v (Cg_of σ) fun a ha e => by have := lt a ha; omega
  have L := least _ τ' t1 (by unfold yIsE; rw [t2.2.2.1]; exact v2)
  obtain ⟨f1, f2⟩ := Cg_filter_pr φ b l (Cg_of σ)
  have V2 := vl _ k1 ey
  unfold Cg_lx at V2
  rw [f1, ← Cg_lo_S, ← Cg_lo_S] at V2
  rw [Cg_days φ hb, Cg_days φ hb, p1, p2, p3] at L
  have cl := cr_lo l
  have lam := O.loaf
  have loV : Cg_S (fun _ a => yPr1 φ b a) (Cg_of σ) v = yPr φ b l ∧ Cg_lo (Cg_of σ) v ≤ lo l := by
    rcases L with L | L
    · rcases V2 with V2 | V2 <;> omega
    · rcases V2 with V2 | ⟨V2, V3⟩
      · omega
      · exact ⟨V2, by rcases V3 with V3 | V3 <;> omega⟩
  have D : cr l + φ 0 0 * lo l ≤ v.length + φ 0 0 * Cg_lo (Cg_of σ) v := by
    rcases L with L | L
    · omega
    · exact L.2
  obtain ⟨e, he⟩ := Nat.exists_eq_add_of_le loV.2
  rw [he, Nat.mul_add] at D
  have m1 : φ 0 0 * e ≥ e := Nat.le_mul_of_pos_left e hl
  have m2 : φ 0 0 * Cg_lo (Cg_of σ) v ≤ 9 * Cg_lo (Cg_of σ) v := Nat.mul_le_mul_right _ lam
  refine ⟨?_, fun _ => ?_⟩
  · rw [Cg_days φ hb, he, Nat.mul_add]; omega
  · omega
/-- ONE ROW IS ENOUGH: where a row least by risk, then loafs, then length has at most 400 acts (and few loafs), every row least by risk, then days has -/
theorem Cg_bd {φ : Nat → Nat → Nat} (O : yOk φ) (hl : 0 < φ 0 0) (hc : φ 0 7 ≠ 0) {l0 : List Nat} {σ : ySt} (r0 : yRun φ yFirst l0 = some σ) {b : Nat} (hb : b < 2)
    (H : ∀ v, Cg_W φ (fun _ a => yPr1 φ b a) (fun f _ => f) (fun _ _ => 1) (Cg_of σ) (yEnd φ) v → v.length + Cg_lo (Cg_of σ) v ≤ 400 ∧ v.length + 9 * Cg_lo (Cg_of σ) v < 1000) : yBd1 φ b σ :=
  Cg_bdE O hl hc r0 hb fun ⟨_, m1, m2⟩ => (Cg_W_ex (φ := φ) (fun _ a => yPr1 φ b a) (fun f _ => f) (fun _ _ => 1) m1 m2).elim fun v V => ⟨v, V, H v V⟩
