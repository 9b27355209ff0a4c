set_option maxRecDepth 100000
/-! comparing: a place that is hot (the cheap post with looks may be used at once) is come to once -/
/-- whatever fits the marks m, for at most L looks, fits the marks m2 -/
def nLe (L m m2 : Nat) : Bool := (List.range (L + 1)).all fun j => (List.range 2).all fun s => !yFit j s m || yFit j s m2
theorem nLe_fit {L m m2 : Nat} (h : nLe L m m2 = true) {j s : Nat} (hj : j ≤ L) (hs : s < 2) (f : yFit j s m = true) : yFit j s m2 = true := by
  unfold nLe at h
  have := List.all_eq_true.mp (List.all_eq_true.mp h j (List.mem_range.mpr (by omega))) s (List.mem_range.mpr hs)
  rw [f] at this
  simpa using this
theorem nLe_all : ((List.range 4).all fun L => (List.range 16).all fun m => (List.range 16).all fun m2 => (List.range 2).all fun s => decide (m = 0) || decide (m2 = 0) || !nLe L m m2 || nLe L (yMk m s) (yMk m2 s)) = true := by decide +kernel
theorem nLe_do {L : Nat} (hL : L < 4) (m : Nat) (h1 : m < 16) (m2 : Nat) (h2 : m2 < 16) (s : Nat) (h3 : s < 2) (p1 : 0 < m) (p2 : 0 < m2) (h : nLe L m m2 = true) : nLe L (yMk m s) (yMk m2 s) = true := by
  have := List.all_eq_true.mp (List.all_eq_true.mp (List.all_eq_true.mp (List.all_eq_true.mp nLe_all L (List.mem_range.mpr hL)) m (List.mem_range.mpr h1)) m2 (List.mem_range.mpr h2)) s (List.mem_range.mpr h3)
  rw [h] at this
  simpa [show m ≠ 0 by omega, show m2 ≠ 0 by omega] using this
/-- the second state is as good as the first, for at most L looks -/
def nSim (L : Nat) (x y : ySt) : Prop := x.ov = y.ov ∧ x.sd = y.sd ∧ x.z0 = y.z0 ∧ x.z1 = y.z1 ∧ nLe L x.mk y.mk = true
theorem nSim_eb {φ : Nat → Nat → Nat} {L : Nat} (hL : L < 4) (LL : ∀ k, k < φ 0 3 → φ 5 k ≤ L) {x y : ySt} (Sx : ySok φ x) (Sy : ySok φ y) (h : nSim L x y) {a : Nat} (e : yEb φ x a = true) : yEb φ y a = true ∧ nSim L (yDo φ x a) (yDo φ y a) := by
  obtain ⟨h1, h2, h3, h4, h5⟩ := h
  have hz : ∀ k, y.z k = x.z k := fun k => by unfold ySt.z; rw [h3, h4]
  by_cases ha : a = 200
  · subst ha
    refine ⟨yEb_200 φ y, ?_⟩
    rw [bDo_200, bDo_200]
    exact ⟨h1, by show 1 - x.sd = 1 - y.sd; rw [h2], h3, h4, h5⟩
  · obtain ⟨c1, c2, c3, c5, c4, c6, c7⟩ := bCross e ha
    have act := (yEb_act e).1.resolve_left ha
    refine ⟨cEb_of c1 c2 c3.1 act.2.2.1 (by rw [← h1, ← h2]; exact c5) (by rw [c3.2]; decide) (fun g => by rw [← h1, ← h2]; exact c4 g) (by rw [hz]; exact c6) ?_, ?_⟩
    · rw [← h2]
      exact nLe_fit h5 (LL _ c2) Sx.sd c7
    · rw [bDo ha, bDo ha]
      refine ⟨by show x.ov ^^^ _ = y.ov ^^^ _; rw [h1], by show 1 - x.sd = 1 - y.sd; rw [h2], by show (if _ then _ else x.z0) = (if _ then _ else y.z0); rw [h3], by show (if _ then _ else x.z1) = (if _ then _ else y.z1); rw [h4], ?_⟩
      show nLe L (yMk x.mk x.sd) (yMk y.mk y.sd) = true
      rw [← h2]
      exact nLe_do hL _ Sx.mk1 _ Sy.mk1 _ Sx.sd Sx.mk0 Sy.mk0 h5
theorem nSim_run {φ : Nat → Nat → Nat} (O : yOk φ) {L : Nat} (hL : L < 4) (LL : ∀ k, k < φ 0 3 → φ 5 k ≤ L) : ∀ (l : List Nat) (x y τ : ySt), ySok φ x → ySok φ y → nSim L x y → yRun φ x l = some τ → ∃ τ', yRun φ y l = some τ' ∧ nSim L τ τ' := by
  intro l
  induction l with
  | nil => intro x y τ _ _ h r; cases r; exact ⟨y, rfl, h⟩
  | cons a l ih =>
    intro x y τ Sx Sy h r
    replace r : (if yEb φ x a = true then yRun φ (yDo φ x a) l else none) = some τ := r
    by_cases g : yEb φ x a = true
    · rw [if_pos g] at r
      obtain ⟨e, h'⟩ := nSim_eb hL LL Sx Sy h g
      obtain ⟨τ', t1, t2⟩ := ih _ _ τ (yDo_ok O Sx (yEb_act g).1) (yDo_ok O Sy (yEb_act e).1) h' r
      refine ⟨τ', ?_, t2⟩
      show (if yEb φ y a = true then yRun φ (yDo φ y a) l else none) = _
      rw [if_pos e]; exact t1
    · rw [if_neg g] at r; cases r
/-- windows, for families of at most L looks -/
theorem nWin {φ : Nat → Nat → Nat} (O : yOk φ) {L : Nat} (hL : L < 4) (LL : ∀ k, k < φ 0 3 → φ 5 k ≤ L) {b : Nat} {σ : ySt} (S : ySok φ σ) {l : List Nat} (W : bLe φ b σ l) {i j : Nat} (hij : i ≤ j) {m : List Nat} {y : ySt}
    (rm : yRun φ (bAt φ σ l i) m = some y) (sim : nSim L (bAt φ σ l j) y) :
    yPr φ b ((l.drop i).take (j - i)) < yPr φ b m ∨ (yPr φ b ((l.drop i).take (j - i)) = yPr φ b m ∧ ySc φ b ((l.drop i).take (j - i)) ≤ ySc φ b m) := by
  obtain ⟨⟨τ, r, E⟩, least⟩ := W
  have Si := bAt_ok O S r i
  have Sj := bAt_ok O S r j
  have Sy := bRun_ok O _ _ _ Si rm
  obtain ⟨ρ, r1, r2⟩ := yRun_take r j
  rw [bAt_run r j] at r1
  cases r1
  obtain ⟨τ', t1, t2⟩ := nSim_run O hL LL _ _ _ τ Sj Sy sim r2
  have := least (l.take i ++ (m ++ l.drop j)) τ' (by rw [yRun_append, bAt_run r i]; show yRun φ _ (m ++ l.drop j) = _; rw [yRun_append, rm]; exact t1) (by unfold yIsE; rw [← t2.1]; exact E)
  have e1 := bTd (l := l) (i := i) (j := j) hij
  have p : yPr φ b l = yPr φ b (l.take i) + (yPr φ b ((l.drop i).take (j - i)) + yPr φ b (l.drop j)) := by
    conv => lhs; rw [e1]
    rw [yPr_app, yPr_app]
  have s : ySc φ b l = ySc φ b (l.take i) + (ySc φ b ((l.drop i).take (j - i)) + ySc φ b (l.drop j)) := by
    conv => lhs; rw [e1]
    rw [ySc_app, ySc_app]
  rw [yPr_app, yPr_app, ySc_app, ySc_app] at this
  omega
/-- right behind a crossing by p, and p may cross back by the post k -/
def nHot (φ : Nat → Nat → Nat) (k p : Nat) (x : ySt) : Prop := kAt φ p x ∧ yFit (φ 5 k) x.sd x.mk = true
theorem nHot_all : ((List.range 4).all fun L => (List.range 16).all fun m => (List.range 16).all fun m2 => (List.range 2).all fun s => decide (m < 2) || decide (m2 < 2) || decide (m % 2 ≠ 1 - s) || !yFit L s m || ((decide (m2 % 2 ≠ 1 - s) || nLe L m2 m) && (decide (m2 % 2 ≠ s) || nLe L m2 (yMk m s)))) = true := by decide +kernel
theorem nHot0 {L m m2 s : Nat} (hL : L < 4) (h1 : m < 16) (h2 : m2 < 16) (h3 : s < 2) (h4 : 2 ≤ m) (h5 : 2 ≤ m2) (h6 : m % 2 = 1 - s) (h7 : yFit L s m = true) :
    (m2 % 2 = 1 - s → nLe L m2 m = true) ∧ (m2 % 2 = s → nLe L m2 (yMk m s) = true) := by
  have := List.all_eq_true.mp (List.all_eq_true.mp (List.all_eq_true.mp (List.all_eq_true.mp nHot_all L (List.mem_range.mpr hL)) m (List.mem_range.mpr h1)) m2 (List.mem_range.mpr h2)) s (List.mem_range.mpr h3)
  rw [h7] at this
  simp only [Bool.or_eq_true, Bool.and_eq_true, decide_eq_true_eq] at this
  rcases this with ((((z | z) | z) | z) | z)
  · omega
  · omega
  · exact absurd h6 z
  · cases z
  · exact ⟨fun e => z.1.resolve_left (fun n => n e), fun e => z.2.resolve_left (fun n => n e)⟩
theorem nSelf {φ : Nat → Nat → Nat} (O : yOk φ) {k p : Nat} (hk : k < φ 0 3) {x : ySt} (h : nHot φ k p x) :
    yEb φ x (100 * k + p) = true ∧ (100 * k + p ≠ 200) ∧ (100 * k + p) % 10 = p ∧ (100 * k + p) / 100 = k ∧ cCh (100 * k + p) = 0 := by
  obtain ⟨⟨h1, h2, h3, h4, h5, h6⟩, h7⟩ := h
  have p6 := O.persons
  have p2 := O.posts
  have pn := h1.1
  have e1 : (100 * k + p) % 10 = p := by omega
  have e2 : (100 * k + p) / 100 = k := by omega
  have e3 : (100 * k + p) % 100 / 10 = 0 := by omega
  have e4 : 100 * k + p ≠ 200 := by omega
  refine ⟨cEb_of (by omega) (by rw [e2]; exact hk) (by rw [e1]; exact pn) (by rw [e3]; exact Nat.zero_le _) (by rw [e1]; exact h4.symm) (by rw [e1, h1.2]; decide) (fun g => absurd e3 g) ?_ ?_, e4, e1, e2, ?_⟩
  · rw [e1, e2]
    have : x.z k = p + 1 := by unfold ySt.z; split <;> assumption
    rw [this]
    unfold yBeh
    simp
  · rw [e2]; exact h7
  · unfold cCh; rw [if_neg e4]; exact e3
/-- who is not crossing in a window stays -/
theorem nStay {φ : Nat → Nat → Nat} {p : Nat} (hp : yAd φ p) : ∀ (l : List Nat) (x y : ySt), yRun φ x l = some y → (∀ a, a ∈ l → a ≠ 200 → a % 10 ≠ p) → yBit y.ov p = yBit x.ov p := by
  intro l
  induction l with
  | nil => intro x y r _; cases r; rfl
  | cons a l ih =>
    intro x y r h
    replace r : (if yEb φ x a = true then yRun φ (yDo φ x a) l else none) = some y := r
    by_cases g : yEb φ x a = true
    · rw [if_pos g] at r
      rw [ih _ _ r fun b hb => h b (List.mem_cons_of_mem _ hb)]
      by_cases ha : a = 200
      · subst ha; rw [bDo_200]; rfl
      · rw [bOv g ha hp, if_neg fun z => h a (List.mem_cons_self ..) ha z.symm]
    · rw [if_neg g] at r; cases r
theorem nPr_mem (φ : Nat → Nat → Nat) (b : Nat) : ∀ (l : List Nat) (a : Nat), a ∈ l → yPr1 φ b a ≤ yPr φ b l := by
  intro l
  induction l with
  | nil => intro a h; cases h
  | cons c l ih =>
    intro a h
    show yPr1 φ b a ≤ yPr1 φ b c + yPr φ b l
    rcases List.mem_cons.mp h with e | e
    · subst e; omega
    · have := ih a e; omega
theorem nPost {φ : Nat → Nat → Nat} : ∀ (l : List Nat) (x y : ySt), yRun φ x l = some y → ∀ a, a ∈ l → a ≠ 200 → a / 100 < φ 0 3 := by
  intro l
  induction l with
  | nil => intro x y _ a h; cases h
  | cons c l ih =>
    intro x y r a h ne
    replace r : (if yEb φ x c = true then yRun φ (yDo φ x c) l else none) = some y := r
    by_cases g : yEb φ x c = true
    · rw [if_pos g] at r
      rcases List.mem_cons.mp h with e | e
      · subst e; exact ((yEb_act g).1.resolve_left ne).2.1
      · exact ih _ _ r a e ne
    · rw [if_neg g] at r; cases r
/-- A HOT PLACE IS COME TO ONCE: behind a hot crossing by p, the same person comes to stand as last among the same others only at once, by crossing back -/
theorem nOnce {φ : Nat → Nat → Nat} (O : yOk φ) (hl : 0 < φ 0 0) (hc : φ 0 7 ≠ 0) {k : Nat} (hk : k < φ 0 3) (hs : ∀ k', k' < φ 0 3 → φ 3 k ≤ φ 3 k') (LL : ∀ k', k' < φ 0 3 → φ 5 k' ≤ φ 5 k)
    {σ : ySt} (S : ySok φ σ) {l : List Nat} (W : bLe φ 1 σ l) {i j p r : Nat} (hij : i < j) (hj : j ≤ l.length) (h : nHot φ k p (bAt φ σ l i)) (g : kAt φ r (bAt φ σ l j)) (e : kCode (bAt φ σ l i) = kCode (bAt φ σ l j)) : j = i + 1 := by
  obtain ⟨τ, rr, E⟩ := W.1
  have Si := bAt_ok O S rr i
  have Sj := bAt_ok O S rr j
  have hL : φ 5 k < 4 := by have := O.looks k hk; omega
  obtain ⟨rfl, off⟩ := kCode_eq O Si Sj h.1 g e
  have lw : ((l.drop i).take (j - i)).length = j - i := by rw [List.length_take, List.length_drop]; omega
  have dl := ySc_len hl 1 ((l.drop i).take (j - i))
  rw [lw] at dl
  have off' : ∀ z : ySt, yBit z.ov p = yBit (bAt φ σ l j).ov p → (∀ q, q ≠ p → yBit z.ov q = yBit (bAt φ σ l i).ov q) → (bAt φ σ l j).ov = z.ov := by
    intro z z1 z2
    apply Nat.eq_of_testBit_eq
    intro t
    have : yBit (bAt φ σ l j).ov t = yBit z.ov t := by
      by_cases tp : t = p
      · subst tp; exact z1.symm
      · rw [z2 t tp, off t tp]
    rw [bBit, bBit] at this
    cases h1 : (bAt φ σ l j).ov.testBit t <;> cases h2 : z.ov.testBit t <;> simp_all
  have bi := yBit_lt (bAt φ σ l i).ov p
  have bj := yBit_lt (bAt φ σ l j).ov p
  by_cases same : yBit (bAt φ σ l i).ov p = yBit (bAt φ σ l j).ov p
  · -- nothing needs to be done between
    have sd : (bAt φ σ l j).sd = (bAt φ σ l i).sd := by rw [g.2.2.2.1, h.1.2.2.2.1, same]
    have sim : nSim (φ 5 k) (bAt φ σ l j) (bAt φ σ l i) := by
      refine ⟨off' _ same fun _ _ => rfl, sd, by rw [g.2.1, h.1.2.1], by rw [g.2.2.1, h.1.2.2.1], ?_⟩
      exact (nHot0 hL Si.mk1 Sj.mk1 Si.sd h.1.2.2.2.2.1 g.2.2.2.2.1 h.1.2.2.2.2.2 h.2).1 (by rw [g.2.2.2.2.2, sd])
    have := nWin O hL LL S W (Nat.le_of_lt hij) (m := []) rfl sim
    have e1 : yPr φ 1 [] = 0 := rfl
    have e2 : ySc φ 1 [] = 0 := rfl
    rw [e1, e2] at this
    omega
  · obtain ⟨s1, s2, s3, s4, s5⟩ := nSelf O hk h
    have ky := kAt_of hc Si s1 s2
    rw [s3] at ky
    have bp := bOv s1 s2 h.1.1
    rw [s3, if_pos rfl] at bp
    have rm : yRun φ (bAt φ σ l i) [100 * k + p] = some (yDo φ (bAt φ σ l i) (100 * k + p)) := by
      show (if yEb φ (bAt φ σ l i) (100 * k + p) = true then yRun φ (yDo φ (bAt φ σ l i) (100 * k + p)) [] else none) = _
      rw [if_pos s1]; rfl
    have sim : nSim (φ 5 k) (bAt φ σ l j) (yDo φ (bAt φ σ l i) (100 * k + p)) := by
      have sd : (bAt φ σ l j).sd = 1 - (bAt φ σ l i).sd := by rw [g.2.2.2.1, h.1.2.2.2.1]; omega
      refine ⟨off' _ (by rw [bp]; omega) fun q hq => ?_, ?_, by rw [g.2.1, ky.2.1], by rw [g.2.2.1, ky.2.2.1], ?_⟩
      · rw [cBit_do s1 s2, s3, s5, if_neg (by intro z; rcases z with z | z <;> omega)]
      · rw [sd, bDo s2]; rfl
      · rw [bDo s2]
        show nLe (φ 5 k) (bAt φ σ l j).mk (yMk (bAt φ σ l i).mk (bAt φ σ l i).sd) = true
        have ls := Si.sd
        exact (nHot0 hL Si.mk1 Sj.mk1 Si.sd h.1.2.2.2.2.1 g.2.2.2.2.1 h.1.2.2.2.2.2 h.2).2 (by rw [g.2.2.2.2.2, sd]; omega)
    have w := nWin O hL LL S W (Nat.le_of_lt hij) rm sim
    -- the same person crosses in the window
    obtain ⟨ρ, r1, r2⟩ := yRun_take rr i
    rw [bAt_run rr i] at r1
    cases r1
    have rw' : yRun φ (bAt φ σ l i) ((l.drop i).take (j - i)) = some (bAt φ σ l j) := by
      have t := bAt_run rr j
      have e1 : l.take j = l.take i ++ (l.drop i).take (j - i) := by
        conv => lhs; rw [show j = i + (j - i) by omega]
        rw [List.take_add]
      rw [e1, yRun_append, bAt_run rr i] at t
      exact t
    obtain ⟨a, ha, h2, h3⟩ : ∃ a, a ∈ (l.drop i).take (j - i) ∧ a ≠ 200 ∧ a % 10 = p := by
      refine Classical.byContradiction fun n => same ?_
      exact (nStay h.1.1 _ _ _ rw' fun a ha h2 h3 => n ⟨a, ha, h2, h3⟩).symm
    have pm := nPr_mem φ 1 _ a ha
    have e1 : yPr1 φ 1 a = yRisk φ p (a / 100) := by
      unfold yPr1
      rw [if_neg (by decide), if_neg h2, if_pos rfl, h3]
    have e2 : yPr φ 1 [100 * k + p] = yRisk φ p k := by
      show yPr1 φ 1 (100 * k + p) + 0 = _
      unfold yPr1
      rw [if_neg (by decide), if_neg s2, if_pos rfl, s3, s4]; rfl
    have e3 : ySc φ 1 [100 * k + p] = 1 := by
      show ySc1 φ 1 (100 * k + p) + 0 = _
      unfold ySc1 yDay
      rw [if_pos (by decide), if_neg s2]
    have le : yRisk φ p k ≤ yRisk φ p (a / 100) := by
      unfold yRisk
      exact Nat.div_le_div_right (Nat.mul_le_mul_left _ (hs _ (nPost _ _ _ rw' a ha h2)))
    rw [e2, e3] at w
    omega
