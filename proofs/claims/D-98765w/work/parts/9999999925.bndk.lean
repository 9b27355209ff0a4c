set_option maxRecDepth 100000
/-! comparing, a post without looks: few crossings suffice -/
/-- cost of stretches where crossings count -/
theorem kPr (φ : Nat → Nat → Nat) : ∀ l, yPr φ 2 l = cr l := by
  intro l
  induction l with
  | nil => rfl
  | cons a l ih =>
    show yPr1 φ 2 a + yPr φ 2 l = (if a = 200 then 0 else 1) + cr l
    rw [ih]
    unfold yPr1
    simp
theorem kSc (φ : Nat → Nat → Nat) : ∀ l, ySc φ 2 l = l.length := by
  intro l
  induction l with
  | nil => rfl
  | cons a l ih =>
    show ySc1 φ 2 a + ySc φ 2 l = l.length + 1
    rw [ih]
    show 1 + l.length = _
    omega
/-- right behind a crossing by p -/
def kAt (φ : Nat → Nat → Nat) (p : Nat) (x : ySt) : Prop := yAd φ p ∧ x.z0 = p + 1 ∧ x.z1 = p + 1 ∧ x.sd = yBit x.ov p ∧ 2 ≤ x.mk ∧ x.mk % 2 = 1 - x.sd
theorem kAt_of {φ : Nat → Nat → Nat} (hc : φ 0 7 ≠ 0) {σ : ySt} (S : ySok φ σ) {a : Nat} (h : yEb φ σ a = true) (ha : a ≠ 200) : kAt φ (a % 10) (yDo φ σ a) := by
  obtain ⟨c1, c2, c3, c5, _⟩ := bCross h ha
  obtain ⟨m1, m2⟩ := bMk _ S.mk1 _ S.sd S.mk0
  have := S.sd
  have b := bOv h ha c3
  rw [if_pos rfl] at b
  refine ⟨c3, ?_, ?_, ?_, ?_, ?_⟩
  · rw [bDo ha]; show (if _ then _ else _) = _; rw [if_pos (Or.inr hc)]
  · rw [bDo ha]; show (if _ then _ else _) = _; rw [if_pos (Or.inr hc)]
  · rw [b, c5, bDo ha]; rfl
  · rw [bDo ha]; exact m2
  · rw [bDo ha]; show yMk σ.mk σ.sd % 2 = 1 - (1 - σ.sd); omega
/-- one crosses and the same crosses back -/
theorem kSelf {φ : Nat → Nat → Nat} (O : yOk φ) (hc : φ 0 7 ≠ 0) {k p : Nat} (hk : k < φ 0 3) (h0 : φ 5 k = 0) {x : ySt} (h : kAt φ p x) :
    yEb φ x (100 * k + p) = true ∧ (100 * k + p ≠ 200) ∧ (100 * k + p) % 10 = p ∧ cCh (100 * k + p) = 0 := by
  obtain ⟨h1, h2, h3, h4, h5, h6⟩ := h
  have p6 := O.persons
  have p2 := O.posts
  have pn := h1.1
  have e1 : (100 * k + p) % 10 = p := by omega
  have e2 : (100 * k + p) / 100 = k := by omega
  have e3 : (100 * k + p) % 100 / 10 = 0 := by omega
  have e4 : 100 * k + p ≠ 200 := by omega
  refine ⟨cEb_of (by omega) (by rw [e2]; exact hk) (by rw [e1]; exact pn) (by rw [e3]; exact Nat.zero_le _) (by rw [e1]; exact h4.symm) (by rw [e1, h1.2]; decide) (fun g => absurd e3 g) ?_ ?_, e4, e1, ?_⟩
  · rw [e1, e2]
    have : x.z k = p + 1 := by unfold ySt.z; split <;> assumption
    rw [this]
    unfold yBeh
    simp
  · rw [e2, h0]; rfl
  · unfold cCh; rw [if_neg e4]; exact e3
theorem kMarks : ((List.range 16).all fun m => decide (m < 2) || (mLe m (10 + 3 * (m % 2)))) = true := by decide +kernel
theorem kMarks1 : ((List.range 16).all fun m => (List.range 16).all fun m2 => (List.range 2).all fun s => decide (m < 2) || decide (m2 < 2) || decide (m % 2 ≠ s) || decide (m2 % 2 ≠ s) || mLe (yMk m s) m2) = true := by decide +kernel
/-- q crossings there and back -/
theorem kBack {φ : Nat → Nat → Nat} (O : yOk φ) (hc : φ 0 7 ≠ 0) {k p : Nat} (hk : k < φ 0 3) (h0 : φ 5 k = 0) : ∀ (q : Nat) (x : ySt), ySok φ x → kAt φ p x →
    ∃ y, yRun φ x (List.replicate q (100 * k + p)) = some y ∧ kAt φ p y ∧ (∀ r, r ≠ p → yBit y.ov r = yBit x.ov r) ∧ yBit y.ov p = (yBit x.ov p + q) % 2 ∧ (2 ≤ q → y.mk = 10 + 3 * (y.mk % 2)) := by
  intro q
  induction q with
  | zero =>
    intro x S h
    have := yBit_lt x.ov p
    exact ⟨x, rfl, h, fun _ _ => rfl, by omega, fun z => by omega⟩
  | succ q ih =>
    intro x S h
    obtain ⟨e1, e2, e3, e4⟩ := kSelf O hc hk h0 h
    have S2 := yDo_ok O S (yEb_act e1).1
    have h2 := kAt_of hc S e1 e2
    rw [e3] at h2
    obtain ⟨y, r, ky, kb, kp, km⟩ := ih _ S2 h2
    have bp := bOv e1 e2 h.1
    rw [e3, if_pos rfl] at bp
    have bb := yBit_lt x.ov p
    refine ⟨y, ?_, ky, fun r hr => ?_, ?_, fun hq => ?_⟩
    · show (if yEb φ x (100 * k + p) = true then yRun φ (yDo φ x (100 * k + p)) (List.replicate q (100 * k + p)) else none) = _
      rw [if_pos e1]; exact r
    · rw [kb r hr, cBit_do e1 e2, e3, e4, if_neg (by intro z; rcases z with z | z <;> omega)]
    · rw [kp, bp]; omega
    · by_cases q2 : 2 ≤ q
      · exact km q2
      · have q1 : q = 1 := by omega
        subst q1
        -- two of them
        obtain ⟨f1, f2, f3, f4⟩ := kSelf O hc hk h0 h2
        have r' : yRun φ (yDo φ x (100 * k + p)) [100 * k + p] = some y := r
        have : y = yDo φ (yDo φ x (100 * k + p)) (100 * k + p) := by
          have : (if yEb φ (yDo φ x (100 * k + p)) (100 * k + p) = true then yRun φ (yDo φ (yDo φ x (100 * k + p)) (100 * k + p)) [] else none) = some y := r'
          rw [if_pos f1] at this
          exact (Option.some.inj this).symm
        have hm := h.2.2.2.2.2
        have hm2 := h.2.2.2.2.1
        have sd := S.sd
        have ey : y.mk = yMk (yMk x.mk x.sd) (1 - x.sd) := by rw [this, bDo f2, bDo e2]; rfl
        have key : ∀ m, m < 16 → 2 ≤ m → ∀ s, s < 2 → m % 2 = 1 - s → yMk (yMk m s) (1 - s) = 10 + 3 * (yMk (yMk m s) (1 - s) % 2) := by decide +kernel
        rw [ey]
        exact key _ S.mk1 hm2 _ sd hm
theorem yPig2 {p : Nat → Bool} {n m : Nat} {g : Nat → Nat} (h1 : ∀ i, i < n → p i = true → g i < m) (h2 : ∀ i j, i < j → j < n → p i = true → p j = true → g i = g j → False) : yCn p n ≤ m := by
  have nd : (((List.range n).filter p).map g).Nodup := by
    show List.Pairwise (· ≠ ·) _
    rw [List.pairwise_map]
    have : ((List.range n).filter p).Pairwise (· < ·) := List.Pairwise.filter _ List.pairwise_lt_range
    refine List.Pairwise.imp_of_mem (fun {a b} ha hb hlt => ?_) this
    obtain ⟨_, a2⟩ := List.mem_filter.mp ha
    obtain ⟨b1, b2⟩ := List.mem_filter.mp hb
    exact fun e => h2 a b hlt (List.mem_range.mp b1) a2 b2 e
  have := yCn_card (fun _ => true) m _ nd (fun t ht => by
    obtain ⟨i, hi, e⟩ := List.mem_map.mp ht
    obtain ⟨a1, a2⟩ := List.mem_filter.mp hi
    rw [← e]
    exact ⟨h1 i (List.mem_range.mp a1) a2, rfl⟩)
  rw [List.length_map, yCn_filter] at this
  have all : ∀ m, yCn (fun _ => true) m = m := by
    intro m
    induction m with
    | zero => rfl
    | succ m ih => show yCn _ m + 1 = m + 1; rw [ih]
  rw [all] at this
  exact this
theorem cr_cn (l : List Nat) : ∀ i, i ≤ l.length → cr (l.take i) = yCn (fun t => decide (ac l t ≠ 200)) i := by
  intro i
  induction i with
  | zero => intro _; rfl
  | succ i ih =>
    intro hi
    have hi' : i < l.length := hi
    rw [List.take_succ_eq_append_getElem hi', cr_app, ih (by omega), ← ac_get hi']
    show _ + ((if ac l i = 200 then 0 else 1) + 0) = yCn _ i + (if decide (ac l i ≠ 200) = true then 1 else 0)
    by_cases g : ac l i = 200 <;> simp [g]
theorem lo_cn (l : List Nat) : ∀ i, i ≤ l.length → lo (l.take i) = yCn (fun t => decide (ac l t = 200)) i := by
  intro i
  induction i with
  | zero => intro _; rfl
  | succ i ih =>
    intro hi
    have hi' : i < l.length := hi
    rw [List.take_succ_eq_append_getElem hi', lo_app, ih (by omega), ← ac_get hi']
    show _ + ((if ac l i = 200 then 1 else 0) + 0) = yCn _ i + (if decide (ac l i = 200) = true then 1 else 0)
    by_cases g : ac l i = 200 <;> simp [g]
/-- a window's crossings -/
theorem cr_win (l : List Nat) {i j : Nat} (h : i ≤ j) : cr (l.take j) = cr (l.take i) + cr ((l.drop i).take (j - i)) := by
  have := List.take_append_drop i (l.take j)
  rw [List.take_take, List.drop_take, Nat.min_eq_left h] at this
  rw [← this, cr_app]
def kOff (s p : Nat) : Nat := s / 2 ^ (p + 1) * 2 ^ p + s % 2 ^ p
theorem kOff_all : ((List.range 64).all fun s => (List.range 6).all fun p => decide (kOff s p < 32) && decide (s ||| 2 ^ p = kOff s p / 2 ^ p * 2 ^ (p + 1) + 2 ^ p + kOff s p % 2 ^ p)) = true := by decide +kernel
theorem kOff_spec {s p : Nat} (hs : s < 64) (hp : p < 6) : kOff s p < 32 ∧ s ||| 2 ^ p = kOff s p / 2 ^ p * 2 ^ (p + 1) + 2 ^ p + kOff s p % 2 ^ p := by
  have := List.all_eq_true.mp (List.all_eq_true.mp kOff_all s (List.mem_range.mpr hs)) p (List.mem_range.mpr hp)
  rw [Bool.and_eq_true] at this
  exact ⟨of_decide_eq_true this.1, of_decide_eq_true this.2⟩
theorem kOff_bits {s t p : Nat} (hs : s < 64) (ht : t < 64) (hp : p < 6) (e : kOff s p = kOff t p) (r : Nat) (hr : r ≠ p) : yBit s r = yBit t r := by
  have a := (kOff_spec hs hp).2
  have b := (kOff_spec ht hp).2
  rw [← e, ← a] at b
  have := congrArg (fun x => x.testBit r) b
  simp only [Nat.testBit_or, Nat.testBit_two_pow] at this
  have np : ¬ p = r := fun z => hr z.symm
  simp [np] at this
  rw [bBit, bBit, this]
def kCode (x : ySt) : Nat := kOff x.ov (x.z0 - 1) * 6 + (x.z0 - 1)
theorem kCode_lt {φ : Nat → Nat → Nat} (O : yOk φ) {x : ySt} (S : ySok φ x) {p : Nat} (h : kAt φ p x) : kCode x < 192 := by
  have p6 := O.persons
  have pn := h.1.1
  have := (kOff_spec (yOv64 O S) (show p < 6 by omega)).1
  unfold kCode
  rw [h.2.1, show p + 1 - 1 = p by omega]
  omega
theorem kCode_eq {φ : Nat → Nat → Nat} (O : yOk φ) {x y : ySt} (S : ySok φ x) (T : ySok φ y) {p r : Nat} (h : kAt φ p x) (g : kAt φ r y) (e : kCode x = kCode y) : p = r ∧ ∀ q, q ≠ p → yBit x.ov q = yBit y.ov q := by
  have p6 := O.persons
  have pn := h.1.1
  have rn := g.1.1
  unfold kCode at e
  rw [h.2.1, g.2.1, show p + 1 - 1 = p by omega, show r + 1 - 1 = r by omega] at e
  have : p = r := by omega
  subst this
  exact ⟨rfl, kOff_bits (yOv64 O S) (yOv64 O T) (by omega) (by omega)⟩
/-- a way from a place right behind a crossing to another of its class -/
theorem kWay {φ : Nat → Nat → Nat} (O : yOk φ) (hc : φ 0 7 ≠ 0) {k : Nat} (hk : k < φ 0 3) (h0 : φ 5 k = 0) {x y : ySt} (S : ySok φ x) (T : ySok φ y) {p r : Nat} (h : kAt φ p x) (g : kAt φ r y) (e : kCode x = kCode y)
    (q : Nat) (hq : q % 2 = (yBit x.ov p + yBit y.ov p) % 2) (hm : 2 ≤ q ∨ ∀ m2, 2 ≤ m2 → m2 < 16 → m2 % 2 = y.mk % 2 → mLe y.mk m2 = true) : ∃ z, yRun φ x (List.replicate q (100 * k + p)) = some z ∧ mSim y z := by
  obtain ⟨rfl, off⟩ := kCode_eq O S T h g e
  obtain ⟨z, r, kz, kb, kp, km⟩ := kBack O hc hk h0 q x S h
  refine ⟨z, r, ?_, ?_, ?_, ?_, ?_⟩
  · apply Nat.eq_of_testBit_eq
    intro t
    have : yBit y.ov t = yBit z.ov t := by
      by_cases tp : t = p
      · subst tp
        have b1 := yBit_lt x.ov t
        have b2 := yBit_lt y.ov t
        rw [kp]; omega
      · rw [kb t tp, off t tp]
    rw [bBit, bBit] at this
    cases h1 : y.ov.testBit t <;> cases h2 : z.ov.testBit t <;> simp_all
  · rw [g.2.2.2.1, kz.2.2.2.1]
    have b1 := yBit_lt x.ov p
    have b2 := yBit_lt y.ov p
    rw [kp]; omega
  · rw [g.2.1, kz.2.1]
  · rw [g.2.2.1, kz.2.2.1]
  · have sz : y.sd = z.sd := by
      rw [g.2.2.2.1, kz.2.2.2.1]
      have b1 := yBit_lt x.ov p
      have b2 := yBit_lt y.ov p
      rw [kp]; omega
    have par : z.mk % 2 = y.mk % 2 := by rw [kz.2.2.2.2.2, g.2.2.2.2.2, sz]
    have Sz := bRun_ok O _ _ _ S r
    rcases hm with hm | hm
    · have := List.all_eq_true.mp kMarks y.mk (List.mem_range.mpr T.mk1)
      rw [km hm, par]
      have m2 := g.2.2.2.2.1
      simpa [show ¬ y.mk < 2 by omega] using this
    · exact hm _ kz.2.2.2.2.1 Sz.mk1 par

theorem nCrLo (l : List Nat) : cr l = yCn (fun t => decide (ac l t ≠ 200)) l.length ∧ lo l = yCn (fun t => decide (ac l t = 200)) l.length := by
  have h1 := cr_cn l l.length (Nat.le_refl _)
  have h2 := lo_cn l l.length (Nat.le_refl _)
  rw [List.take_length] at h1 h2
  exact ⟨h1, h2⟩
/-- comparing, a post without looks: a row of fewest crossings (acts then) has fewer than 1000 acts -/
theorem bK_two {φ : Nat → Nat → Nat} (O : yOk φ) (hl : 0 < φ 0 0) (hc : φ 0 7 ≠ 0) {k : Nat} (hk : k < φ 0 3) (h0 : φ 5 k = 0) {σ : ySt} (S : ySok φ σ) {l : List Nat} (W : bLe φ 2 σ l) : l.length < 1000 := by
  obtain ⟨⟨τ, r, E⟩, least⟩ := id W
  have p6 := O.persons
  -- behind a crossing
  have at' : ∀ t, t < l.length → ac l t ≠ 200 → kAt φ (ac l t % 10) (bAt φ σ l (t + 1)) := by
    intro t ht h
    obtain ⟨e1, e2⟩ := bAt_step r ht
    rw [← ac_get ht] at e1 e2
    rw [e2]
    exact kAt_of hc (bAt_ok O S r t) e1 h
  have crs : cr l ≤ 192 * 4 := by
    rw [(nCrLo l).1]
    refine yPig2 (g := fun t => 4 * kCode (bAt φ σ l (t + 1)) + cr (l.take (t + 1)) % 4) (fun t ht h => ?_) (fun t t' htt ht' h h' e => ?_)
    · have := kCode_lt O (bAt_ok O S r (t + 1)) (at' t ht (of_decide_eq_true h))
      omega
    · have a1 := at' t (by omega) (of_decide_eq_true h)
      have a2 := at' t' ht' (of_decide_eq_true h')
      have ec : kCode (bAt φ σ l (t + 1)) = kCode (bAt φ σ l (t' + 1)) := by omega
      have em : cr (l.take (t + 1)) % 4 = cr (l.take (t' + 1)) % 4 := by omega
      have w := cr_win l (i := t + 1) (j := t' + 1) (by omega)
      -- the last crossing lies in the window
      have w2 := cr_win l (i := t + 1) (j := t') (by omega)
      have w3 : cr (l.take (t' + 1)) = cr (l.take t') + 1 := by
        rw [List.take_succ_eq_append_getElem ht', cr_app, ← ac_get ht']
        show _ + ((if ac l t' = 200 then 0 else 1) + 0) = _
        rw [if_neg (of_decide_eq_true h')]
      have b1 := yBit_lt (bAt φ σ l (t + 1)).ov (ac l t % 10)
      have b2 := yBit_lt (bAt φ σ l (t' + 1)).ov (ac l t % 10)
      obtain ⟨z, rz, sz⟩ := kWay O hc hk h0 (bAt_ok O S r (t + 1)) (bAt_ok O S r (t' + 1)) a1 a2 ec (2 + (yBit (bAt φ σ l (t + 1)).ov (ac l t % 10) + yBit (bAt φ σ l (t' + 1)).ov (ac l t % 10)) % 2) (by omega) (Or.inl (by omega))
      have := mWin O S W (i := t + 1) (j := t' + 1) (by omega) ht' rz sz
      rw [kPr, kPr] at this
      have cz : ∀ q, cr (List.replicate q (100 * k + ac l t % 10)) ≤ q := by
        intro q
        have := cr_lo (List.replicate q (100 * k + ac l t % 10))
        rw [List.length_replicate] at this
        omega
      have := cz (2 + (yBit (bAt φ σ l (t + 1)).ov (ac l t % 10) + yBit (bAt φ σ l (t' + 1)).ov (ac l t % 10)) % 2)
      omega
  -- behind a loaf that is not the first act comes a crossing, and before it one
  have loaf : ∀ t, t + 1 < l.length → ac l (t + 1) = 200 → ac l t ≠ 200 ∧ t + 2 < l.length ∧ ac l (t + 2) ≠ 200 := by
    intro t ht h
    obtain ⟨e1, e2⟩ := bAt_step r (show t < l.length by omega)
    obtain ⟨e3, e4⟩ := bAt_step r ht
    rw [← ac_get (show t < l.length by omega)] at e1 e2
    rw [← ac_get ht] at e3 e4
    have no2 : ∀ u, u + 1 < l.length → ac l u = 200 → ac l (u + 1) = 200 → False := by
      intro u hu g1 g2
      obtain ⟨_, f2⟩ := bAt_step r (show u < l.length by omega)
      obtain ⟨_, f4⟩ := bAt_step r hu
      rw [← ac_get (show u < l.length by omega), g1] at f2
      rw [← ac_get hu, g2, f2, bLoaf2 (bAt_ok O S r u)] at f4
      exact bAt_ne hl W (show u < u + 1 + 1 by omega) (by omega) f4.symm
    have n1 : ac l t ≠ 200 := fun g => no2 t ht g h
    have n2 : t + 2 < l.length := by
      rcases Nat.lt_or_ge (t + 2) l.length with g | g
      · exact g
      · exfalso
        refine bLe_end hl W (i := t + 1) ht (bAt_run r (t + 1)) ?_
        have eN : t + 1 + 1 = l.length := by omega
        have f : bAt φ σ l l.length = τ := by
          have := bAt_run r l.length
          rw [List.take_length, r] at this
          exact (Option.some.inj this).symm
        have : (bAt φ σ l (t + 1 + 1)).ov = (bAt φ σ l (t + 1)).ov := by rw [e4, h]; rw [bDo_200]; rfl
        show (bAt φ σ l (t + 1)).ov = yEnd φ
        rw [← this, eN, f]; exact E
    exact ⟨n1, n2, fun g => no2 (t + 1) (by omega) h g⟩
  have los : lo l ≤ 192 + 1 := by
    rw [(nCrLo l).2]
    have : yCn (fun t => decide (ac l t = 200)) l.length ≤ yCn (fun t => decide (t ≠ 0) && decide (ac l t = 200)) l.length + 1 := by
      have : ∀ n, yCn (fun t => decide (ac l t = 200)) n ≤ yCn (fun t => decide (t ≠ 0) && decide (ac l t = 200)) n + 1 ∧ (n = 0 → yCn (fun t => decide (ac l t = 200)) n = 0) := by
        intro n
        induction n with
        | zero => exact ⟨Nat.zero_le _, fun _ => rfl⟩
        | succ n ih =>
          refine ⟨?_, fun h => by omega⟩
          show yCn _ n + (if decide (ac l n = 200) = true then 1 else 0) ≤ yCn _ n + (if (decide (n ≠ 0) && decide (ac l n = 200)) = true then 1 else 0) + 1
          by_cases n0 : n = 0
          · have := ih.2 n0
            rw [this]; split <;> omega
          · have := ih.1
            rw [show (decide (n ≠ 0) && decide (ac l n = 200)) = decide (ac l n = 200) by simp [n0]]
            omega
      exact (this _).1
    refine Nat.le_trans this (Nat.succ_le_succ ?_)
    refine yPig2 (g := fun t => kCode (bAt φ σ l (t + 2))) (fun t ht h => ?_) (fun t t' htt ht' h h' e => ?_)
    · rw [Bool.and_eq_true] at h
      have t0 := of_decide_eq_true h.1
      obtain ⟨u, rfl⟩ : ∃ u, t = u + 1 := ⟨t - 1, by omega⟩
      obtain ⟨l1, l2, l3⟩ := loaf u ht (of_decide_eq_true h.2)
      exact kCode_lt O (bAt_ok O S r (u + 1 + 2)) (at' (u + 2) l2 l3)
    · rw [Bool.and_eq_true] at h h'
      have t0 := of_decide_eq_true h.1
      obtain ⟨u, rfl⟩ : ∃ u, t = u + 1 := ⟨t - 1, by omega⟩
      obtain ⟨v, rfl⟩ : ∃ v, t' = v + 1 := ⟨t' - 1, by omega⟩
      obtain ⟨l1, l2, l3⟩ := loaf u (by omega) (of_decide_eq_true h.2)
      obtain ⟨m1, m2, m3⟩ := loaf v ht' (of_decide_eq_true h'.2)
      have a1 := at' (u + 2) l2 l3
      have a2 := at' (v + 2) m2 m3
      have uv : u + 2 ≤ v := by
        rcases Nat.lt_or_ge (u + 1) v with g | g
        · exact g
        · exfalso
          have : v = u + 1 := by omega
          rw [this] at h'
          exact l3 (of_decide_eq_true h'.2)
      -- the marks of the second place: twice the same stamp
      have mk2 : ∀ m2, 2 ≤ m2 → m2 < 16 → m2 % 2 = (bAt φ σ l (v + 2 + 1)).mk % 2 → mLe (bAt φ σ l (v + 2 + 1)).mk m2 = true := by
        obtain ⟨e1, e2⟩ := bAt_step r (show v < l.length by omega)
        obtain ⟨e3, e4⟩ := bAt_step r (show v + 1 < l.length by omega)
        obtain ⟨e5, e6⟩ := bAt_step r m2
        rw [← ac_get (show v < l.length by omega)] at e1 e2
        rw [← ac_get (show v + 1 < l.length by omega), of_decide_eq_true h'.2] at e3 e4
        rw [← ac_get m2] at e5 e6
        have g1 := at' v (by omega) m1
        intro m hm hm16 hpar
        have S2 := bAt_ok O S r (v + 2)
        have eq : (bAt φ σ l (v + 2 + 1)).mk = yMk (bAt φ σ l (v + 2)).mk (bAt φ σ l (v + 2)).sd := by rw [e6, bDo m3]; rfl
        have eqm : (bAt φ σ l (v + 2)).mk = (bAt φ σ l (v + 1)).mk := by rw [show v + 2 = v + 1 + 1 from rfl, e4, bDo_200]; rfl
        have eqs : (bAt φ σ l (v + 2)).sd = 1 - (bAt φ σ l (v + 1)).sd := by rw [show v + 2 = v + 1 + 1 from rfl, e4, bDo_200]; rfl
        have g5 := g1.2.2.2.2.1
        have g6 := g1.2.2.2.2.2
        have s2 := (bAt_ok O S r (v + 1)).sd
        have key := List.all_eq_true.mp (List.all_eq_true.mp (List.all_eq_true.mp kMarks1 (bAt φ σ l (v + 2)).mk (List.mem_range.mpr S2.mk1)) m (List.mem_range.mpr hm16)) (bAt φ σ l (v + 2)).sd (List.mem_range.mpr S2.sd)
        have bm := (bMk _ S2.mk1 _ S2.sd S2.mk0).1
        rw [eq, bm] at hpar
        rw [eq]
        have c1 : ¬ (bAt φ σ l (v + 2)).mk < 2 := by omega
        have c2 : (bAt φ σ l (v + 2)).mk % 2 = (bAt φ σ l (v + 2)).sd := by omega
        simpa [c1, c2, hpar, show ¬ m < 2 by omega] using key
      have b1 := yBit_lt (bAt φ σ l (u + 2 + 1)).ov (ac l (u + 2) % 10)
      have b2 := yBit_lt (bAt φ σ l (v + 2 + 1)).ov (ac l (u + 2) % 10)
      obtain ⟨z, rz, sz⟩ := kWay O hc hk h0 (bAt_ok O S r (u + 2 + 1)) (bAt_ok O S r (v + 2 + 1)) a1 a2 e ((yBit (bAt φ σ l (u + 2 + 1)).ov (ac l (u + 2) % 10) + yBit (bAt φ σ l (v + 2 + 1)).ov (ac l (u + 2) % 10)) % 2) (by omega) (Or.inr mk2)
      have win := mWin O S W (i := u + 2 + 1) (j := v + 2 + 1) (by omega) m2 rz sz
      rw [kPr, kPr, kSc, kSc] at win
      have cz := cr_lo (List.replicate ((yBit (bAt φ σ l (u + 2 + 1)).ov (ac l (u + 2) % 10) + yBit (bAt φ σ l (v + 2 + 1)).ov (ac l (u + 2) % 10)) % 2) (100 * k + ac l (u + 2) % 10))
      rw [List.length_replicate] at cz win
      -- the window holds a loaf and a crossing
      have wl : ((l.drop (u + 2 + 1)).take (v + 2 + 1 - (u + 2 + 1))).length = v + 2 + 1 - (u + 2 + 1) := by
        rw [List.length_take, List.length_drop]; omega
      have w1 := cr_win l (i := u + 2 + 1) (j := v + 2 + 1) (by omega)
      have w2 := cr_win l (i := u + 2 + 1) (j := v + 2) (by omega)
      have w3 : cr (l.take (v + 2 + 1)) = cr (l.take (v + 2)) + 1 := by
        rw [List.take_succ_eq_append_getElem m2, cr_app, ← ac_get m2]
        show _ + ((if ac l (v + 2) = 200 then 0 else 1) + 0) = _
        rw [if_neg m3]
      rw [wl] at win
      omega
  have := cr_lo l
  omega
