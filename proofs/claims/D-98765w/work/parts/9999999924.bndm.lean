set_option maxRecDepth 100000
/-! marks: as good as -/
/-- whatever fits the marks m fits the marks m2 -/
def mLe (m m2 : Nat) : Bool := (List.range 4).all fun j => (List.range 2).all fun s => !yFit j s m || yFit j s m2
theorem mLe_fit {m m2 : Nat} (h : mLe m m2 = true) {j s : Nat} (hj : j < 4) (hs : s < 2) (f : yFit j s m = true) : yFit j s m2 = true := by
  unfold mLe at h
  have := List.all_eq_true.mp (List.all_eq_true.mp h j (List.mem_range.mpr hj)) s (List.mem_range.mpr hs)
  rw [f] at this
  simpa using this
theorem mLe_all : ((List.range 16).all fun m => (List.range 16).all fun m2 => (List.range 2).all fun s => decide (m = 0) || decide (m2 = 0) || !mLe m m2 || mLe (yMk m s) (yMk m2 s)) = true := by decide +kernel
theorem mLe_do (m : Nat) (h1 : m < 16) (m2 : Nat) (h2 : m2 < 16) (s : Nat) (h3 : s < 2) (p1 : 0 < m) (p2 : 0 < m2) (h : mLe m m2 = true) : mLe (yMk m s) (yMk m2 s) = true := by
  have := List.all_eq_true.mp (List.all_eq_true.mp (List.all_eq_true.mp mLe_all m (List.mem_range.mpr h1)) m2 (List.mem_range.mpr h2)) s (List.mem_range.mpr h3)
  rw [h] at this
  simpa [show m ≠ 0 by omega, show m2 ≠ 0 by omega] using this
theorem mLe_refl (m : Nat) : mLe m m = true := by
  unfold mLe
  apply List.all_eq_true.mpr
  intro j _
  apply List.all_eq_true.mpr
  intro s _
  cases yFit j s m <;> rfl
/-- the second state is as good as the first -/
def mSim (x y : ySt) : Prop := x.ov = y.ov ∧ x.sd = y.sd ∧ x.z0 = y.z0 ∧ x.z1 = y.z1 ∧ mLe x.mk y.mk = true
theorem mSim_refl (x : ySt) : mSim x x := ⟨rfl, rfl, rfl, rfl, mLe_refl _⟩
theorem mSim_eb {φ : Nat → Nat → Nat} (O : yOk φ) {x y : ySt} (Sx : ySok φ x) (Sy : ySok φ y) (h : mSim x y) {a : Nat} (e : yEb φ x a = true) : yEb φ y a = true ∧ mSim (yDo φ x a) (yDo φ y a) := by
  obtain ⟨h1, h2, h3, h4, h5⟩ := h
  have hz : ∀ k, y.z k = x.z k := fun k => by unfold ySt.z; rw [h3, h4]
  by_cases ha : a = 200
  · subst ha
    refine ⟨yEb_200 φ y, ?_⟩
    rw [bDo_200, bDo_200]
    exact ⟨h1, by show 1 - x.sd = 1 - y.sd; rw [h2], h3, h4, h5⟩
  · obtain ⟨c1, c2, c3, c5, c4, c6, c7⟩ := bCross e ha
    have act := (yEb_act e).1.resolve_left ha
    refine ⟨cEb_of c1 c2 c3.1 act.2.2.1 (by rw [← h1, ← h2]; exact c5) (by rw [c3.2]; decide) (fun g => by rw [← h1, ← h2]; exact c4 g) (by rw [hz]; exact c6) ?_, ?_⟩
    · rw [← h2]
      have := O.looks _ c2
      exact mLe_fit h5 (by omega) Sx.sd c7
    · rw [bDo ha, bDo ha]
      refine ⟨by show x.ov ^^^ _ = y.ov ^^^ _; rw [h1], by show 1 - x.sd = 1 - y.sd; rw [h2], by show (if _ then _ else x.z0) = (if _ then _ else y.z0); rw [h3], by show (if _ then _ else x.z1) = (if _ then _ else y.z1); rw [h4], ?_⟩
      show mLe (yMk x.mk x.sd) (yMk y.mk y.sd) = true
      rw [← h2]
      exact mLe_do _ Sx.mk1 _ Sy.mk1 _ Sx.sd Sx.mk0 Sy.mk0 h5
theorem mSim_run {φ : Nat → Nat → Nat} (O : yOk φ) : ∀ (l : List Nat) (x y τ : ySt), ySok φ x → ySok φ y → mSim x y → yRun φ x l = some τ → ∃ τ', yRun φ y l = some τ' ∧ mSim τ τ' := by
  intro l
  induction l with
  | nil => intro x y τ _ _ h r; cases r; exact ⟨y, rfl, h⟩
  | cons a l ih =>
    intro x y τ Sx Sy h r
    replace r : (if yEb φ x a = true then yRun φ (yDo φ x a) l else none) = some τ := r
    by_cases g : yEb φ x a = true
    · rw [if_pos g] at r
      obtain ⟨e, h'⟩ := mSim_eb O Sx Sy h g
      obtain ⟨τ', t1, t2⟩ := ih _ _ τ (yDo_ok O Sx (yEb_act g).1) (yDo_ok O Sy (yEb_act e).1) h' r
      refine ⟨τ', ?_, t2⟩
      show (if yEb φ y a = true then yRun φ (yDo φ y a) l else none) = _
      rw [if_pos e]; exact t1
    · rw [if_neg g] at r; cases r
/-- WINDOWS: what lies between two places of a least row is no dearer than any way to a state as good as the second -/
theorem mWin {φ : Nat → Nat → Nat} (O : yOk φ) {b : Nat} {σ : ySt} (S : ySok φ σ) {l : List Nat} (W : bLe φ b σ l) {i j : Nat} (hij : i ≤ j) (hj : j ≤ l.length) {m : List Nat} {y : ySt}
    (rm : yRun φ (bAt φ σ l i) m = some y) (sim : mSim (bAt φ σ l j) y) :
    yPr φ b ((l.drop i).take (j - i)) < yPr φ b m ∨ (yPr φ b ((l.drop i).take (j - i)) = yPr φ b m ∧ ySc φ b ((l.drop i).take (j - i)) ≤ ySc φ b m) := by
  obtain ⟨⟨τ, r, E⟩, least⟩ := W
  have Si := bAt_ok O S r i
  have Sj := bAt_ok O S r j
  have Sy := bRun_ok O _ _ _ Si rm
  obtain ⟨ρ, r1, r2⟩ := yRun_take r j
  rw [bAt_run r j] at r1
  cases r1
  obtain ⟨τ', t1, t2⟩ := mSim_run O _ _ _ τ Sj Sy sim r2
  have := least (l.take i ++ (m ++ l.drop j)) τ' (by rw [yRun_append, bAt_run r i]; show yRun φ _ (m ++ l.drop j) = _; rw [yRun_append, rm]; exact t1) (by unfold yIsE; rw [← t2.1]; exact E)
  have e1 := bTd (l := l) (i := i) (j := j) hij
  have p : yPr φ b l = yPr φ b (l.take i) + (yPr φ b ((l.drop i).take (j - i)) + yPr φ b (l.drop j)) := by
    conv => lhs; rw [e1]
    rw [yPr_app, yPr_app]
  have s : ySc φ b l = ySc φ b (l.take i) + (ySc φ b ((l.drop i).take (j - i)) + ySc φ b (l.drop j)) := by
    conv => lhs; rw [e1]
    rw [ySc_app, ySc_app]
  rw [yPr_app, yPr_app, ySc_app, ySc_app] at this
  omega
