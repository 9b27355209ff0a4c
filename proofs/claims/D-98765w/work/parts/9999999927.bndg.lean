set_option maxRecDepth 100000
/-! not comparing: few crossings suffice to come anywhere -/
theorem gMk3 : ((List.range 16).all fun m => (List.range 16).all fun m2 => (List.range 2).all fun a => (List.range 2).all fun b => (List.range 2).all fun c => decide (m = 0) || decide (m2 = 0) || decide (yMk (yMk (yMk m a) b) c = yMk (yMk (yMk m2 a) b) c)) = true := by decide +kernel
/-- as good at first: the very same once three have crossed -/
theorem gSame {φ : Nat → Nat → Nat} (O : yOk φ) : ∀ (l : List Nat) (x y τ : ySt) , ySok φ x → ySok φ y → mSim x y → yRun φ x l = some τ → ∃ τ', yRun φ y l = some τ' ∧ mSim τ τ' ∧
    (∀ m m2, 0 < m → m < 16 → 0 < m2 → m2 < 16 → True) ∧ (3 ≤ cr l → τ = τ') ∧
    (cr l = 2 → ∃ a b, a < 2 ∧ b < 2 ∧ τ.mk = yMk (yMk x.mk a) b ∧ τ'.mk = yMk (yMk y.mk a) b) ∧ (cr l = 1 → ∃ a, a < 2 ∧ τ.mk = yMk x.mk a ∧ τ'.mk = yMk y.mk a) ∧ (cr l = 0 → τ.mk = x.mk ∧ τ'.mk = y.mk) := by
  intro l
  induction l with
  | nil =>
    intro x y τ Sx Sy h r
    cases r
    exact ⟨y, rfl, h, fun _ _ _ _ _ _ => trivial, fun z => absurd z (by decide), fun z => absurd z (by decide), fun z => absurd z (by decide), fun _ => ⟨rfl, rfl⟩⟩
  | cons a l ih =>
    intro x y τ Sx Sy h r
    replace r : (if yEb φ x a = true then yRun φ (yDo φ x a) l else none) = some τ := r
    by_cases g : yEb φ x a = true
    · rw [if_pos g] at r
      obtain ⟨e, h'⟩ := mSim_eb O Sx Sy h g
      have Sx' := yDo_ok O Sx (yEb_act g).1
      have Sy' := yDo_ok O Sy (yEb_act e).1
      obtain ⟨τ', t1, t2, _, t4, t5, t6, t7⟩ := ih _ _ τ Sx' Sy' h' r
      have run : yRun φ y (a :: l) = some τ' := by
        show (if yEb φ y a = true then yRun φ (yDo φ y a) l else none) = _
        rw [if_pos e]; exact t1
      by_cases ha : a = 200
      · have ec : cr (a :: l) = cr l := by show (if a = 200 then 0 else 1) + cr l = _; rw [if_pos ha]; omega
        have mx : (yDo φ x a).mk = x.mk := by rw [ha, bDo_200]; rfl
        have my : (yDo φ y a).mk = y.mk := by rw [ha, bDo_200]; rfl
        rw [mx, my] at t5 t6 t7
        rw [ec]
        exact ⟨τ', run, t2, fun _ _ _ _ _ _ => trivial, t4, t5, t6, t7⟩
      · have ec : cr (a :: l) = cr l + 1 := by show (if a = 200 then 0 else 1) + cr l = _; rw [if_neg ha]; omega
        have mx : (yDo φ x a).mk = yMk x.mk x.sd := by rw [bDo ha]; rfl
        have my : (yDo φ y a).mk = yMk y.mk x.sd := by rw [bDo ha, h.2.1]; rfl
        rw [mx, my] at t5 t6 t7
        have sd := Sx.sd
        refine ⟨τ', run, t2, fun _ _ _ _ _ _ => trivial, fun z => ?_, fun z => ?_, fun z => ?_, fun z => by omega⟩
        · by_cases c3 : 3 ≤ cr l
          · exact t4 c3
          · obtain ⟨b, c, hb, hc, e1, e2⟩ := t5 (by omega)
            have key := List.all_eq_true.mp (List.all_eq_true.mp (List.all_eq_true.mp (List.all_eq_true.mp (List.all_eq_true.mp gMk3 x.mk (List.mem_range.mpr Sx.mk1)) y.mk (List.mem_range.mpr Sy.mk1)) x.sd (List.mem_range.mpr sd)) b (List.mem_range.mpr hb)) c (List.mem_range.mpr hc)
            have p1 := Sx.mk0
            have p2 := Sy.mk0
            have : yMk (yMk (yMk x.mk x.sd) b) c = yMk (yMk (yMk y.mk x.sd) b) c := by
              simpa [show x.mk ≠ 0 by omega, show y.mk ≠ 0 by omega] using key
            obtain ⟨q1, q2, q3, q4, _⟩ := t2
            show ((_, _, _, _, _) : ySt) = (_, _, _, _, _)
            exact Prod.ext q1 (Prod.ext q2 (Prod.ext q3 (Prod.ext q4 (by rw [show τ.2.2.2.2 = τ.mk from rfl, show τ'.2.2.2.2 = τ'.mk from rfl, e1, e2, this]))))
        · obtain ⟨b, hb, e1, e2⟩ := t6 (by omega)
          exact ⟨x.sd, b, sd, hb, e1, e2⟩
        · obtain ⟨e1, e2⟩ := t7 (by omega)
          exact ⟨x.sd, sd, e1, e2⟩
    · rw [if_neg g] at r; cases r
/-- a row of fewest crossings to a state -/
theorem gMin {φ : Nat → Nat → Nat} (O : yOk φ) {σ τ : ySt} (S : ySok φ σ) {l0 : List Nat} (r0 : yRun φ σ l0 = some τ) :
    ∃ l, yRun φ σ l = some τ ∧ (∀ t, t + 1 < l.length → ac l t = 200 → ac l (t + 1) ≠ 200) ∧
      ∀ i j, i ≤ j → j ≤ l.length → 3 ≤ cr (l.drop j) → ∀ m y, yRun φ (bAt φ σ l i) m = some y → mSim (bAt φ σ l j) y → cr ((l.drop i).take (j - i)) ≤ cr m := by
  obtain ⟨n, ⟨l1, r1, e1⟩, min1⟩ := yLeastN (Q := fun n => ∃ l, yRun φ σ l = some τ ∧ cr l = n) (cr l0) ⟨l0, r0, rfl⟩
  obtain ⟨k, ⟨l, r, e, ek⟩, min2⟩ := yLeastN (Q := fun k => ∃ l, yRun φ σ l = some τ ∧ cr l = n ∧ l.length = k) l1.length ⟨l1, r1, e1, rfl⟩
  have ne : ∀ i j, i < j → j ≤ l.length → bAt φ σ l i ≠ bAt φ σ l j := by
    intro i j hij hj h
    obtain ⟨ρ, a1, a2⟩ := yRun_take r j
    rw [bAt_run r j] at a1
    cases a1
    have rr : yRun φ σ (l.take i ++ l.drop j) = some τ := by rw [yRun_append, bAt_run r i, h]; exact a2
    have c1 := min1 _ ⟨_, rr, rfl⟩
    have w := cr_win l (i := i) (j := j) (by omega)
    have d : cr l = cr (l.take j) + cr (l.drop j) := by rw [← cr_app, List.take_append_drop]
    rw [cr_app] at c1
    have := min2 _ ⟨_, rr, by rw [cr_app]; omega, rfl⟩
    rw [List.length_append, List.length_take, List.length_drop] at this
    omega
  refine ⟨l, r, fun t ht h => fLoaf O S r ne ht h, fun i j hij hj c3 m y rm sim => ?_⟩
  obtain ⟨ρ, a1, a2⟩ := yRun_take r j
  rw [bAt_run r j] at a1
  cases a1
  have Si := bAt_ok O S r i
  obtain ⟨τ', t1, t2, _, t4, _⟩ := gSame O (l.drop j) _ _ τ (bAt_ok O S r j) (bRun_ok O _ _ _ Si rm) sim a2
  have := t4 c3
  subst this
  have c1 := min1 _ ⟨l.take i ++ (m ++ l.drop j), by rw [yRun_append, bAt_run r i]; show yRun φ _ (m ++ l.drop j) = _; rw [yRun_append, rm]; exact t1, rfl⟩
  have w := cr_win l hij
  have d : cr l = cr (l.take j) + cr (l.drop j) := by rw [← cr_app, List.take_append_drop]
  rw [cr_app, cr_app] at c1
  omega
/-- behind a crossing, one side of the river for the last at the post k -/
def gAt (φ : Nat → Nat → Nat) (k p : Nat) (x : ySt) : Prop := yAd φ p ∧ x.z k = p + 1 ∧ x.sd = yBit x.ov p ∧ 2 ≤ x.mk ∧ x.mk % 2 = 1 - x.sd
theorem gAt_of {φ : Nat → Nat → Nat} {σ : ySt} (S : ySok φ σ) {a : Nat} (hp : a / 100 < 2) (h : yEb φ σ a = true) (ha : a ≠ 200) : gAt φ (a / 100) (a % 10) (yDo φ σ a) := by
  obtain ⟨c1, c2, c3, c5, _⟩ := bCross h ha
  obtain ⟨m1, m2⟩ := bMk _ S.mk1 _ S.sd S.mk0
  have := S.sd
  have b := bOv h ha c3
  rw [if_pos rfl] at b
  refine ⟨c3, ?_, ?_, ?_, ?_⟩
  · rw [uTok ha hp hp]
    have : wk φ a = a / 100 ∨ φ 0 7 ≠ 0 := by
      unfold wk
      by_cases g : φ 0 7 ≠ 0
      · exact Or.inr g
      · left; rw [if_neg g]
    rw [if_pos this]
  · rw [b, c5, bDo ha]; rfl
  · rw [bDo ha]; exact m2
  · rw [bDo ha]; show yMk σ.mk σ.sd % 2 = 1 - (1 - σ.sd); omega
theorem gSelf {φ : Nat → Nat → Nat} (O : yOk φ) {k p : Nat} (hk : k < φ 0 3) (h0 : φ 5 k = 0) {x : ySt} (h : gAt φ k p x) :
    yEb φ x (100 * k + p) = true ∧ (100 * k + p ≠ 200) ∧ (100 * k + p) % 10 = p ∧ cCh (100 * k + p) = 0 ∧ (100 * k + p) / 100 = k := by
  obtain ⟨h1, h2, h4, h5, h6⟩ := h
  have p6 := O.persons
  have p2 := O.posts
  have pn := h1.1
  have e1 : (100 * k + p) % 10 = p := by omega
  have e2 : (100 * k + p) / 100 = k := by omega
  have e3 : (100 * k + p) % 100 / 10 = 0 := by omega
  have e4 : 100 * k + p ≠ 200 := by omega
  refine ⟨cEb_of (by omega) (by rw [e2]; exact hk) (by rw [e1]; exact pn) (by rw [e3]; exact Nat.zero_le _) (by rw [e1]; exact h4.symm) (by rw [e1, h1.2]; decide) (fun g => absurd e3 g) ?_ ?_, e4, e1, ?_, e2⟩
  · rw [e1, e2, h2]
    unfold yBeh
    simp
  · rw [e2, h0]; rfl
  · unfold cCh; rw [if_neg e4]; exact e3
theorem gBack {φ : Nat → Nat → Nat} (O : yOk φ) (hc : φ 0 7 = 0) {k p : Nat} (hk : k < φ 0 3) (h0 : φ 5 k = 0) : ∀ (q : Nat) (x : ySt), ySok φ x → gAt φ k p x →
    ∃ y, yRun φ x (List.replicate q (100 * k + p)) = some y ∧ gAt φ k p y ∧ y.z (1 - k) = x.z (1 - k) ∧ (∀ r, r ≠ p → yBit y.ov r = yBit x.ov r) ∧ yBit y.ov p = (yBit x.ov p + q) % 2 ∧ (2 ≤ q → y.mk = 10 + 3 * (y.mk % 2)) := by
  have p2 := O.posts
  intro q
  induction q with
  | zero =>
    intro x S h
    have := yBit_lt x.ov p
    exact ⟨x, rfl, h, rfl, fun _ _ => rfl, by omega, fun z => by omega⟩
  | succ q ih =>
    intro x S h
    obtain ⟨e1, e2, e3, e4, e5⟩ := gSelf O hk h0 h
    have S2 := yDo_ok O S (yEb_act e1).1
    have h2 := gAt_of S (by omega) e1 e2
    rw [e3, e5] at h2
    obtain ⟨y, r, ky, kz, kb, kp, km⟩ := ih _ S2 h2
    have bp := bOv e1 e2 h.1
    rw [e3, if_pos rfl] at bp
    have bb := yBit_lt x.ov p
    have oz : (yDo φ x (100 * k + p)).z (1 - k) = x.z (1 - k) := by
      rw [uTok e2 (by omega) (by omega)]
      have : ¬ (wk φ (100 * k + p) = 1 - k ∨ φ 0 7 ≠ 0) := by
        unfold wk
        rw [hc]
        simp
        omega
      rw [if_neg this]
    refine ⟨y, ?_, ky, by rw [kz, oz], fun r hr => ?_, ?_, fun hq => ?_⟩
    · show (if yEb φ x (100 * k + p) = true then yRun φ (yDo φ x (100 * k + p)) (List.replicate q (100 * k + p)) else none) = _
      rw [if_pos e1]; exact r
    · rw [kb r hr, cBit_do e1 e2, e3, e4, if_neg (by intro z; rcases z with z | z <;> omega)]
    · rw [kp, bp]; omega
    · by_cases q2 : 2 ≤ q
      · exact km q2
      · have q1 : q = 1 := by omega
        subst q1
        obtain ⟨f1, f2, f3, f4, _⟩ := gSelf O hk h0 h2
        have r' : yRun φ (yDo φ x (100 * k + p)) [100 * k + p] = some y := r
        have : y = yDo φ (yDo φ x (100 * k + p)) (100 * k + p) := by
          have : (if yEb φ (yDo φ x (100 * k + p)) (100 * k + p) = true then yRun φ (yDo φ (yDo φ x (100 * k + p)) (100 * k + p)) [] else none) = some y := r'
          rw [if_pos f1] at this
          exact (Option.some.inj this).symm
        have hm := h.2.2.2.2
        have hm2 := h.2.2.2.1
        have sd := S.sd
        have ey : y.mk = yMk (yMk x.mk x.sd) (1 - x.sd) := by rw [this, bDo f2, bDo e2]; rfl
        have key : ∀ m, m < 16 → 2 ≤ m → ∀ s, s < 2 → m % 2 = 1 - s → yMk (yMk m s) (1 - s) = 10 + 3 * (yMk (yMk m s) (1 - s) % 2) := by decide +kernel
        rw [ey]
        exact key _ S.mk1 hm2 _ sd hm
def gR (m : Nat) : Nat := if yFit 3 (1 - m % 2) m = true then 2 else if yFit 2 (1 - m % 2) m = true then 1 else 0
theorem gR_lt (m : Nat) : gR m < 3 := by unfold gR; split <;> (try split) <;> omega
theorem gR_all : ((List.range 16).all fun m => (List.range 16).all fun m2 => decide (m < 2) || decide (m2 < 2) || decide (m % 2 ≠ m2 % 2) || decide (gR m ≠ gR m2) || mLe m m2) = true := by decide +kernel
theorem gR_le {m m2 : Nat} (h1 : m < 16) (h2 : m2 < 16) (g1 : 2 ≤ m) (g2 : 2 ≤ m2) (p : m % 2 = m2 % 2) (e : gR m = gR m2) : mLe m m2 = true := by
  have := List.all_eq_true.mp (List.all_eq_true.mp gR_all m (List.mem_range.mpr h1)) m2 (List.mem_range.mpr h2)
  simpa [show ¬ m < 2 by omega, show ¬ m2 < 2 by omega, p, e] using this
theorem yCn_or {p q r : Nat → Bool} (h : ∀ i, p i = true → q i = true ∨ r i = true) : ∀ n, yCn p n ≤ yCn q n + yCn r n := by
  intro n
  induction n with
  | zero => exact Nat.le_refl _
  | succ n ih =>
    show yCn p n + (if p n = true then 1 else 0) ≤ yCn q n + (if q n = true then 1 else 0) + (yCn r n + (if r n = true then 1 else 0))
    by_cases g : p n = true
    · rw [if_pos g]
      rcases h n g with z | z
      · rw [if_pos z]; omega
      · rw [if_pos z]; omega
    · rw [if_neg g]; omega
/-- two states whose parts agree -/
theorem gEq {x y : ySt} (h : ∀ r, yBit x.ov r = yBit y.ov r) : x.ov = y.ov := by
  apply Nat.eq_of_testBit_eq
  intro t
  have := h t
  rw [bBit, bBit] at this
  cases h1 : x.ov.testBit t <;> cases h2 : y.ov.testBit t <;> simp_all
theorem gZ {x y : ySt} {k : Nat} (hk : k < 2) (h1 : x.z k = y.z k) (h2 : x.z (1 - k) = y.z (1 - k)) : x.z0 = y.z0 ∧ x.z1 = y.z1 := by
  have : k = 0 ∨ k = 1 := by omega
  unfold ySt.z at h1 h2
  rcases this with h | h <;> subst h <;> simp at h1 h2 <;> exact ⟨by assumption, by assumption⟩
/-- numbers for the states behind crossings -/
def gN1 (a p q r : Nat) : Nat := 4 * ((a * 6 + p) * 6 + q) + r
def gN2 (a p r : Nat) : Nat := 8064 + (4 * (a * 6 + p) + r)
def gN3 (a p q g : Nat) : Nat := 4608 + (3 * ((a * 6 + p) * 6 + q) + g)
def gN4 (v q g : Nat) : Nat := 8064 + (3 * (v * 6 + q) + g)
theorem gN1_lt {a p q r : Nat} (h1 : a < 32) (h2 : p < 6) (h3 : q < 6) (h4 : r < 4) : gN1 a p q r < 4608 := by unfold gN1; omega
theorem gN2_lt {a p r : Nat} (h1 : a < 32) (h2 : p < 6) (h4 : r < 4) : gN2 a p r < 9216 ∧ 8064 ≤ gN2 a p r := by unfold gN2; omega
theorem gN3_lt {a p q g : Nat} (h1 : a < 32) (h2 : p < 6) (h3 : q < 6) (h4 : g < 3) : gN3 a p q g < 8064 ∧ 4608 ≤ gN3 a p q g := by unfold gN3; omega
theorem gN4_lt {v q g : Nat} (h1 : v < 64) (h3 : q < 6) (h4 : g < 3) : gN4 v q g < 9216 ∧ 8064 ≤ gN4 v q g := by unfold gN4; omega
theorem gN1_inj {a p q r a' p' q' r' : Nat} (h2 : p < 6) (h3 : q < 6) (h4 : r < 4) (g2 : p' < 6) (g3 : q' < 6) (g4 : r' < 4) (e : gN1 a p q r = gN1 a' p' q' r') : a = a' ∧ p = p' ∧ q = q' ∧ r = r' := by unfold gN1 at e; omega
theorem gN2_inj {a p r a' p' r' : Nat} (h2 : p < 6) (h4 : r < 4) (g2 : p' < 6) (g4 : r' < 4) (e : gN2 a p r = gN2 a' p' r') : a = a' ∧ p = p' ∧ r = r' := by unfold gN2 at e; omega
theorem gN3_inj {a p q r a' p' q' r' : Nat} (h2 : p < 6) (h3 : q < 6) (h4 : r < 3) (g2 : p' < 6) (g3 : q' < 6) (g4 : r' < 3) (e : gN3 a p q r = gN3 a' p' q' r') : a = a' ∧ p = p' ∧ q = q' ∧ r = r' := by unfold gN3 at e; omega
theorem gN4_inj {v q r v' q' r' : Nat} (h3 : q < 6) (h4 : r < 3) (g3 : q' < 6) (g4 : r' < 3) (e : gN4 v q r = gN4 v' q' r') : v = v' ∧ q = q' ∧ r = r' := by unfold gN4 at e; omega
theorem gLt1 {a b c : Nat} (h1 : a < c) (h2 : c ≤ b) (e : a = b) : False := by omega
theorem gPm {a b : Nat} (ha : a ≠ 0) (hb : b ≠ 0) (e : a - 1 = b - 1) : a = b := by omega
theorem gP6 {a : Nat} (h : a ≤ 6) (h0 : a ≠ 0) : a - 1 < 6 := by omega
def gC (k : Nat) (x : ySt) (c : Nat) : Nat :=
  if x.z k ≠ 0 ∧ yBit x.ov (x.z k - 1) = x.sd then
    (if x.z (1 - k) ≠ 0 then gN1 (kOff x.ov (x.z k - 1)) (x.z k - 1) (x.z (1 - k) - 1) (c % 4) else gN2 (kOff x.ov (x.z k - 1)) (x.z k - 1) (c % 4))
  else if x.z k ≠ 0 then gN3 (kOff x.ov (x.z k - 1)) (x.z k - 1) (x.z (1 - k) - 1) (gR x.mk)
  else gN4 x.ov (x.z (1 - k) - 1) (gR x.mk)
theorem gC_lt {k : Nat} {x : ySt} {c : Nat} (ov : x.ov < 64) (z1 : x.z k ≤ 6) (z2 : x.z (1 - k) ≤ 6) (b : ¬ (x.z k ≠ 0 ∧ yBit x.ov (x.z k - 1) = x.sd) → x.z (1 - k) ≠ 0) : gC k x c < 9216 := by
  have c4 : c % 4 < 4 := Nat.mod_lt _ (by decide)
  have gr := gR_lt x.mk
  unfold gC
  by_cases g : x.z k ≠ 0 ∧ yBit x.ov (x.z k - 1) = x.sd
  · rw [if_pos g]
    have o := (kOff_spec ov (gP6 z1 g.1)).1
    by_cases u : x.z (1 - k) ≠ 0
    · rw [if_pos u]; exact Nat.lt_trans (gN1_lt o (gP6 z1 g.1) (gP6 z2 u) c4) (by decide)
    · rw [if_neg u]; exact (gN2_lt o (gP6 z1 g.1) c4).1
  · rw [if_neg g]
    by_cases x0 : x.z k ≠ 0
    · rw [if_pos x0]; exact Nat.lt_trans (gN3_lt (kOff_spec ov (gP6 z1 x0)).1 (gP6 z1 x0) (gP6 z2 (b g)) gr).1 (by decide)
    · rw [if_neg x0]; exact (gN4_lt ov (gP6 z2 (b g)) gr).1
/-- what equal numbers say -/
theorem gC_eq {k : Nat} {x y : ySt} {c d : Nat} (ovx : x.ov < 64) (x1 : x.z k ≤ 6) (x2 : x.z (1 - k) ≤ 6) (bx : ¬ (x.z k ≠ 0 ∧ yBit x.ov (x.z k - 1) = x.sd) → x.z (1 - k) ≠ 0)
    (ovy : y.ov < 64) (y1 : y.z k ≤ 6) (y2 : y.z (1 - k) ≤ 6) (byy : ¬ (y.z k ≠ 0 ∧ yBit y.ov (y.z k - 1) = y.sd) → y.z (1 - k) ≠ 0) (s1 : x.z k ≠ 0 → y.z k ≠ 0) (s2 : x.z (1 - k) ≠ 0 → y.z (1 - k) ≠ 0) (e : gC k x c = gC k y d) :
    ((x.z k ≠ 0 ∧ yBit x.ov (x.z k - 1) = x.sd) ∧ (y.z k ≠ 0 ∧ yBit y.ov (y.z k - 1) = y.sd) ∧ x.z k = y.z k ∧ x.z (1 - k) = y.z (1 - k) ∧ kOff x.ov (x.z k - 1) = kOff y.ov (x.z k - 1) ∧ c % 4 = d % 4) ∨
    (¬ (x.z k ≠ 0 ∧ yBit x.ov (x.z k - 1) = x.sd) ∧ ¬ (y.z k ≠ 0 ∧ yBit y.ov (y.z k - 1) = y.sd) ∧ x.z k ≠ 0 ∧ x.z k = y.z k ∧ x.z (1 - k) = y.z (1 - k) ∧ kOff x.ov (x.z k - 1) = kOff y.ov (x.z k - 1) ∧ gR x.mk = gR y.mk) ∨
    (¬ (x.z k ≠ 0 ∧ yBit x.ov (x.z k - 1) = x.sd) ∧ ¬ (y.z k ≠ 0 ∧ yBit y.ov (y.z k - 1) = y.sd) ∧ x.z k = y.z k ∧ x.z (1 - k) = y.z (1 - k) ∧ x.ov = y.ov ∧ gR x.mk = gR y.mk) := by
  have c4 : c % 4 < 4 := Nat.mod_lt _ (by decide)
  have d4 : d % 4 < 4 := Nat.mod_lt _ (by decide)
  have grx := gR_lt x.mk
  have gry := gR_lt y.mk
  unfold gC at e
  by_cases gx : x.z k ≠ 0 ∧ yBit x.ov (x.z k - 1) = x.sd
  · have px := gP6 x1 gx.1
    have ox := (kOff_spec ovx px).1
    rw [if_pos gx] at e
    by_cases gy : y.z k ≠ 0 ∧ yBit y.ov (y.z k - 1) = y.sd
    · have py := gP6 y1 gy.1
      have oy := (kOff_spec ovy py).1
      rw [if_pos gy] at e
      by_cases ux : x.z (1 - k) ≠ 0
      · rw [if_pos ux] at e
        have uy := s2 ux
        rw [if_pos uy] at e
        obtain ⟨i1, i2, i3, i4⟩ := gN1_inj px (gP6 x2 ux) c4 py (gP6 y2 uy) d4 e
        have ez := gPm gx.1 gy.1 i2
        exact Or.inl ⟨gx, gy, ez, gPm ux uy i3, by rw [i1, ez], i4⟩
      · rw [if_neg ux] at e
        by_cases uy : y.z (1 - k) ≠ 0
        · rw [if_pos uy] at e
          exact (gLt1 (gN1_lt oy py (gP6 y2 uy) d4) (Nat.le_trans (by decide) (gN2_lt ox px c4).2) e.symm).elim
        · rw [if_neg uy] at e
          obtain ⟨i1, i2, i4⟩ := gN2_inj px c4 py d4 e
          have ez := gPm gx.1 gy.1 i2
          have e0 : x.z (1 - k) = y.z (1 - k) := by rw [Classical.not_not.mp ux, Classical.not_not.mp uy]
          exact Or.inl ⟨gx, gy, ez, e0, by rw [i1, ez], i4⟩
    · have y0 := s1 gx.1
      have py := gP6 y1 y0
      have oy := (kOff_spec ovy py).1
      have uy := byy gy
      rw [if_neg gy, if_pos y0] at e
      have r3 := gN3_lt oy py (gP6 y2 uy) gry
      by_cases ux : x.z (1 - k) ≠ 0
      · rw [if_pos ux] at e
        exact (gLt1 (gN1_lt ox px (gP6 x2 ux) c4) r3.2 e).elim
      · rw [if_neg ux] at e
        exact (gLt1 r3.1 (gN2_lt ox px c4).2 e.symm).elim
  · have ux := bx gx
    have uy := s2 ux
    rw [if_neg gx] at e
    by_cases gy : y.z k ≠ 0 ∧ yBit y.ov (y.z k - 1) = y.sd
    · have py := gP6 y1 gy.1
      have oy := (kOff_spec ovy py).1
      rw [if_pos gy, if_pos uy] at e
      have r1 := gN1_lt oy py (gP6 y2 uy) d4
      by_cases x0 : x.z k ≠ 0
      · rw [if_pos x0] at e
        exact (gLt1 r1 (gN3_lt (kOff_spec ovx (gP6 x1 x0)).1 (gP6 x1 x0) (gP6 x2 ux) grx).2 e.symm).elim
      · rw [if_neg x0] at e
        exact (gLt1 r1 (Nat.le_trans (by decide) (gN4_lt ovx (gP6 x2 ux) grx).2) e.symm).elim
    · rw [if_neg gy] at e
      by_cases x0 : x.z k ≠ 0
      · have y0 := s1 x0
        have px := gP6 x1 x0
        have py := gP6 y1 y0
        rw [if_pos x0, if_pos y0] at e
        obtain ⟨i1, i2, i3, i4⟩ := gN3_inj px (gP6 x2 ux) grx py (gP6 y2 uy) gry e
        have ez := gPm x0 y0 i2
        exact Or.inr (Or.inl ⟨gx, gy, x0, ez, gPm ux uy i3, by rw [i1, ez], i4⟩)
      · rw [if_neg x0] at e
        by_cases y0 : y.z k ≠ 0
        · rw [if_pos y0] at e
          exact (gLt1 (gN3_lt (kOff_spec ovy (gP6 y1 y0)).1 (gP6 y1 y0) (gP6 y2 uy) gry).1 (gN4_lt ovx (gP6 x2 ux) grx).2 e.symm).elim
        · rw [if_neg y0] at e
          obtain ⟨i1, i3, i4⟩ := gN4_inj (gP6 x2 ux) grx (gP6 y2 uy) gry e
          have e0 : x.z k = y.z k := by rw [Classical.not_not.mp x0, Classical.not_not.mp y0]
          exact Or.inr (Or.inr ⟨gx, gy, e0, gPm ux uy i3, i1, i4⟩)
/-- two places of one number in a row of fewest crossings: impossible -/
theorem gClash {φ : Nat → Nat → Nat} (O : yOk φ) (hc : φ 0 7 = 0) {k : Nat} (hk : k < φ 0 3) (h0 : φ 5 k = 0) {x y : ySt} (Sx : ySok φ x) (Sy : ySok φ y)
    (ta : x.z k ≠ 0 ∧ yBit x.ov (x.z k - 1) = x.sd → gAt φ k (x.z k - 1) x) (tb : ¬ (x.z k ≠ 0 ∧ yBit x.ov (x.z k - 1) = x.sd) → gAt φ (1 - k) (x.z (1 - k) - 1) x ∧ x.z (1 - k) ≠ 0)
    (sa : y.z k ≠ 0 ∧ yBit y.ov (y.z k - 1) = y.sd → gAt φ k (y.z k - 1) y) (sb : ¬ (y.z k ≠ 0 ∧ yBit y.ov (y.z k - 1) = y.sd) → gAt φ (1 - k) (y.z (1 - k) - 1) y ∧ y.z (1 - k) ≠ 0)
    (z6 : x.z k ≤ 6) {C c d : Nat} (win : ∀ m z, yRun φ x m = some z → mSim y z → C ≤ cr m) (w1 : 1 ≤ C) (w2 : d = c + C)
    (e : ((x.z k ≠ 0 ∧ yBit x.ov (x.z k - 1) = x.sd) ∧ (y.z k ≠ 0 ∧ yBit y.ov (y.z k - 1) = y.sd) ∧ x.z k = y.z k ∧ x.z (1 - k) = y.z (1 - k) ∧ kOff x.ov (x.z k - 1) = kOff y.ov (x.z k - 1) ∧ c % 4 = d % 4) ∨
      (¬ (x.z k ≠ 0 ∧ yBit x.ov (x.z k - 1) = x.sd) ∧ ¬ (y.z k ≠ 0 ∧ yBit y.ov (y.z k - 1) = y.sd) ∧ x.z k ≠ 0 ∧ x.z k = y.z k ∧ x.z (1 - k) = y.z (1 - k) ∧ kOff x.ov (x.z k - 1) = kOff y.ov (x.z k - 1) ∧ gR x.mk = gR y.mk) ∨
      (¬ (x.z k ≠ 0 ∧ yBit x.ov (x.z k - 1) = x.sd) ∧ ¬ (y.z k ≠ 0 ∧ yBit y.ov (y.z k - 1) = y.sd) ∧ x.z k = y.z k ∧ x.z (1 - k) = y.z (1 - k) ∧ x.ov = y.ov ∧ gR x.mk = gR y.mk)) : False := by
  have p2 := O.posts
  have k2 : k < 2 := by omega
  have ovx := yOv64 O Sx
  have ovy := yOv64 O Sy
  have none : x.ov = y.ov → x.sd = y.sd → x.z k = y.z k → x.z (1 - k) = y.z (1 - k) → 2 ≤ x.mk → 2 ≤ y.mk → x.mk % 2 = y.mk % 2 → gR x.mk = gR y.mk → False := by
    intro i1 i2 i3 i4 i5 i6 i7 i8
    obtain ⟨j1, j2⟩ := gZ k2 i3 i4
    have := win [] x rfl ⟨i1.symm, i2.symm, j1.symm, j2.symm, gR_le Sy.mk1 Sx.mk1 i6 i5 i7.symm i8.symm⟩
    have z0 : cr ([] : List Nat) = 0 := rfl
    omega
  rcases e with ⟨g1, g2, i1, i2, i3, i4⟩ | ⟨gx, gy, x0, ez, ez2, eo, er⟩ | ⟨gx, gy, ez, ez2, eo, er⟩
  · have ax := ta g1
    have ay := sa g2
    rw [← i1] at ay
    have bits := kOff_bits ovx ovy (gP6 z6 g1.1) i3
    have b1 := yBit_lt x.ov (x.z k - 1)
    have b2 := yBit_lt y.ov (x.z k - 1)
    obtain ⟨q, hq, q2, q3⟩ : ∃ q, q % 2 = (yBit x.ov (x.z k - 1) + yBit y.ov (x.z k - 1)) % 2 ∧ 2 ≤ q ∧ q ≤ 3 := ⟨2 + (yBit x.ov (x.z k - 1) + yBit y.ov (x.z k - 1)) % 2, by omega, by omega, by omega⟩
    obtain ⟨z, rz, kz, kzz, kb, kp, km⟩ := gBack O hc hk h0 q x Sx ax
    have Sz := bRun_ok O _ _ _ Sx rz
    have bz : ∀ q, yBit y.ov q = yBit z.ov q := by
      intro t
      by_cases e : t = x.z k - 1
      · rw [e, kp]; omega
      · rw [kb t e, bits t e]
    have sdz : y.sd = z.sd := by rw [ay.2.2.1, kz.2.2.1, bz]
    have par : z.mk % 2 = y.mk % 2 := by rw [kz.2.2.2.2, ay.2.2.2.2, sdz]
    obtain ⟨j1, j2⟩ := gZ (x := y) (y := z) k2 (by rw [kz.2.1, ay.2.1]) (by rw [kzz, i2])
    have ml : mLe y.mk z.mk = true := by
      have := List.all_eq_true.mp kMarks y.mk (List.mem_range.mpr Sy.mk1)
      rw [km q2, par]
      have m2 := ay.2.2.2.1
      simpa [show ¬ y.mk < 2 by omega] using this
    have := win _ z rz ⟨gEq bz, sdz, j1, j2, ml⟩
    have cz := cr_lo (List.replicate q (100 * k + (x.z k - 1)))
    rw [List.length_replicate] at cz
    omega
  · obtain ⟨bx, bx0⟩ := tb gx
    obtain ⟨by', by0⟩ := sb gy
    have bits := kOff_bits ovx ovy (gP6 z6 x0) eo
    have y0 : y.z k ≠ 0 := by rw [← ez]; exact x0
    have nx : ¬ yBit x.ov (x.z k - 1) = x.sd := fun z => gx ⟨x0, z⟩
    have ny : ¬ yBit y.ov (y.z k - 1) = y.sd := fun z => gy ⟨y0, z⟩
    have sx := bx.2.2.1
    have sy := by'.2.2.1
    rw [← ez2] at sy
    have ne : x.z (1 - k) - 1 ≠ x.z k - 1 := fun z => nx (by rw [← z]; exact sx.symm)
    have sd : x.sd = y.sd := by rw [sx, sy, bits _ ne]
    have b1 := yBit_lt x.ov (x.z k - 1)
    have b2 := yBit_lt y.ov (x.z k - 1)
    have s1 := Sx.sd
    rw [← ez, ← sd] at ny
    have ov : x.ov = y.ov := gEq fun q => by
      by_cases eq : q = x.z k - 1
      · rw [eq]; omega
      · exact bits q eq
    exact none ov sd ez ez2 bx.2.2.2.1 by'.2.2.2.1 (by rw [bx.2.2.2.2, by'.2.2.2.2, sd]) er
  · obtain ⟨bx, bx0⟩ := tb gx
    obtain ⟨by', by0⟩ := sb gy
    have sx := bx.2.2.1
    have sy := by'.2.2.1
    rw [← ez2, ← eo, ← sx] at sy
    exact none eo sy.symm ez ez2 bx.2.2.2.1 by'.2.2.2.1 (by rw [bx.2.2.2.2, by'.2.2.2.2, sy]) er
/-- not comparing, a post without looks: whatever can be come to can be come to cheaply enough -/
theorem fNo {φ : Nat → Nat → Nat} (O : yOk φ) (hc : φ 0 7 = 0) {k : Nat} (hk : k < φ 0 3) (h0 : φ 5 k = 0) {σ : ySt} (S : ySok φ σ) (hz : ∀ w, w < 2 → uTk φ (σ.z w)) : yFew φ 1 σ := by
  intro τ c w
  obtain ⟨l0, r0, _⟩ := w
  obtain ⟨l, r, dl, min⟩ := gMin O S r0
  have p6 := O.persons
  have p2 := O.posts
  refine ⟨yCs φ 1000 1 l, ⟨l, r, rfl⟩, fCost O r ?_ (fLo dl)⟩
  -- behind a crossing
  have at' : ∀ t, t < l.length → ac l t ≠ 200 → gAt φ (ac l t / 100) (ac l t % 10) (bAt φ σ l (t + 1)) ∧ ac l t / 100 < 2 := by
    intro t ht h
    obtain ⟨e1, e2⟩ := bAt_step r ht
    rw [← ac_get ht] at e1 e2
    have q2 := (bCross e1 h).2.1
    rw [e2]
    exact ⟨gAt_of (bAt_ok O S r t) (by omega) e1 h, by omega⟩
  have tok : ∀ i w, w < 2 → uTk φ ((bAt φ σ l i).z w) := fun i => uTk_run O _ _ _ hz (bAt_run r i)
  have zle : ∀ i w, (bAt φ σ l i).z w ≤ 6 := fun i w => by have := ySz (bAt_ok O S r i) (k := w); omega
  -- either side of the last at the post k, or behind a crossing at the other post
  have typ : ∀ t, t < l.length → ac l t ≠ 200 → ((bAt φ σ l (t + 1)).z k ≠ 0 ∧ yBit (bAt φ σ l (t + 1)).ov ((bAt φ σ l (t + 1)).z k - 1) = (bAt φ σ l (t + 1)).sd → gAt φ k ((bAt φ σ l (t + 1)).z k - 1) (bAt φ σ l (t + 1))) ∧
      (¬ ((bAt φ σ l (t + 1)).z k ≠ 0 ∧ yBit (bAt φ σ l (t + 1)).ov ((bAt φ σ l (t + 1)).z k - 1) = (bAt φ σ l (t + 1)).sd) → gAt φ (1 - k) ((bAt φ σ l (t + 1)).z (1 - k) - 1) (bAt φ σ l (t + 1)) ∧ (bAt φ σ l (t + 1)).z (1 - k) ≠ 0) := by
    intro t ht h
    obtain ⟨⟨g1, g2, g3, g4, g5⟩, lt⟩ := at' t ht h
    refine ⟨fun ⟨z1, z2⟩ => ⟨(tok (t + 1) k (by omega)).resolve_left z1, by omega, z2.symm, g4, g5⟩, fun n => ?_⟩
    by_cases e : ac l t / 100 = k
    · exfalso
      rw [e] at g2
      exact n ⟨by omega, by rw [g2, show ac l t % 10 + 1 - 1 = ac l t % 10 by omega, g3]⟩
    · have e2 : ac l t / 100 = 1 - k := by omega
      rw [e2] at g2
      rw [g2, show ac l t % 10 + 1 - 1 = ac l t % 10 by omega]
      exact ⟨⟨g1, g2, g3, g4, g5⟩, by omega⟩
  -- tokens stay
  have stay : ∀ i w, w < 2 → ∀ j, i ≤ j → j ≤ l.length → (bAt φ σ l i).z w ≠ 0 → (bAt φ σ l j).z w ≠ 0 := by
    intro i w hw j hij
    induction hij with
    | refl => intro _ h; exact h
    | @step m h ih =>
      intro hm hne
      have hm' : m < l.length := hm
      have i0 := ih (by omega) hne
      obtain ⟨e1, e2⟩ := bAt_step r hm'
      rw [← ac_get hm'] at e1 e2
      show (bAt φ σ l (m + 1)).z w ≠ 0
      rw [e2]
      by_cases ha : ac l m = 200
      · rw [ha, uTok_200]; exact i0
      · have q2 := (bCross e1 ha).2.1
        rw [uTok ha (by omega) hw]
        split
        · omega
        · exact i0
  have crd : ∀ t, t < l.length → ac l t ≠ 200 → cr (l.take (t + 1)) = cr (l.take t) + 1 := by
    intro t ht h
    rw [List.take_succ_eq_append_getElem ht, cr_app, ← ac_get ht]
    show _ + ((if ac l t = 200 then 0 else 1) + 0) = _
    rw [if_neg h]
  have tot : ∀ t, cr l = cr (l.take t) + cr (l.drop t) := fun t => by rw [← cr_app, List.take_append_drop]
  rw [(nCrLo l).1]
  have split2 := yCn_or (p := fun t => decide (ac l t ≠ 200)) (q := fun t => decide (ac l t ≠ 200) && decide (3 ≤ cr (l.drop (t + 1)))) (r := fun t => decide (ac l t ≠ 200) && decide (cr (l.drop (t + 1)) < 3)) (fun i h => by
    by_cases g : 3 ≤ cr (l.drop (i + 1))
    · left; simp only [Bool.and_eq_true]; exact ⟨h, decide_eq_true g⟩
    · right; simp only [Bool.and_eq_true]; exact ⟨h, decide_eq_true (by omega)⟩) l.length
  have last3 : yCn (fun t => decide (ac l t ≠ 200) && decide (cr (l.drop (t + 1)) < 3)) l.length ≤ 3 := by
    refine yPig2 (g := fun t => cr (l.drop (t + 1))) (fun t ht h => ?_) (fun t t' htt ht' h h' e => ?_)
    · simp only [Bool.and_eq_true] at h
      exact of_decide_eq_true h.2
    · simp only [Bool.and_eq_true] at h h'
      have a1 := tot (t + 1)
      have a2 := tot (t' + 1)
      have a3 := crd t' ht' (of_decide_eq_true h'.1)
      have a4 := cr_win l (i := t + 1) (j := t') (by omega)
      omega
  have main : yCn (fun t => decide (ac l t ≠ 200) && decide (3 ≤ cr (l.drop (t + 1)))) l.length ≤ 9216 := by
    refine yPig2 (g := fun t => gC k (bAt φ σ l (t + 1)) (cr (l.take (t + 1)))) (fun t ht h => ?_) (fun t t' htt ht' h h' e => ?_)
    · simp only [Bool.and_eq_true] at h
      obtain ⟨ta, tb⟩ := typ t ht (of_decide_eq_true h.1)
      exact gC_lt (yOv64 O (bAt_ok O S r (t + 1))) (zle (t + 1) k) (zle (t + 1) (1 - k)) (fun g => (tb g).2)
    · simp only [Bool.and_eq_true] at h h'
      have c1 := of_decide_eq_true h.1
      have c2 := of_decide_eq_true h'.1
      have d3 := of_decide_eq_true h'.2
      obtain ⟨ta, tb⟩ := typ t (by omega) c1
      obtain ⟨sa, sb⟩ := typ t' ht' c2
      have Sx := bAt_ok O S r (t + 1)
      have Sy := bAt_ok O S r (t' + 1)
      have win := fun m y => min (t + 1) (t' + 1) (by omega) ht' d3 m y
      have w1 : 1 ≤ cr ((l.drop (t + 1)).take (t' + 1 - (t + 1))) ∧ cr (l.take (t' + 1)) = cr (l.take (t + 1)) + cr ((l.drop (t + 1)).take (t' + 1 - (t + 1))) := by
        have w := cr_win l (i := t + 1) (j := t' + 1) (by omega)
        have w2 := cr_win l (i := t + 1) (j := t') (by omega)
        have w3 := crd t' ht' c2
        omega
      have cases3 := gC_eq (yOv64 O Sx) (zle (t + 1) k) (zle (t + 1) (1 - k)) (fun g => (tb g).2) (yOv64 O Sy) (zle (t' + 1) k) (zle (t' + 1) (1 - k)) (fun g => (sb g).2)
        (stay (t + 1) k (by omega) (t' + 1) (by omega) ht') (stay (t + 1) (1 - k) (by omega) (t' + 1) (by omega) ht') e
      exact gClash O hc hk h0 Sx Sy ta tb sa sb (zle (t + 1) k) win w1.1 w1.2 cases3
  omega
