set_option maxRecDepth 100000
/-! the bound: children, each may be carried at most once (behind bndx) -/
/-- the child of an act: 0 none -/
def cCh (a : Nat) : Nat := if a = 200 then 0 else a % 100 / 10
/-- the act without its child -/
def cNo (a : Nat) : Nat := if a = 200 then 200 else a / 100 * 100 + a % 10
/-- how often a child is carried -/
def cCnt (c : Nat) : List Nat → Nat
  | [] => 0
  | a :: l => (if cCh a = c + 1 then 1 else 0) + cCnt c l
/-- carry only who is still to be carried -/
def cDrop : Nat → List Nat → List Nat
  | _, [] => []
  | D, a :: l => if cCh a ≠ 0 ∧ D.testBit (cCh a - 1) = true then a :: cDrop (D ^^^ 2 ^ (cCh a - 1)) l else cNo a :: cDrop D l
theorem cDrop_len : ∀ (l : List Nat) (D : Nat), (cDrop D l).length = l.length := by
  intro l
  induction l with
  | nil => intro D; rfl
  | cons a l ih =>
    intro D
    show (if _ then a :: cDrop (D ^^^ 2 ^ (cCh a - 1)) l else cNo a :: cDrop D l).length = _
    split
    · show (cDrop _ l).length + 1 = l.length + 1; rw [ih]
    · show (cDrop _ l).length + 1 = l.length + 1; rw [ih]
theorem cNo_parts {a : Nat} (h : a ≠ 200) (h2 : a < 200) : cNo a < 200 ∧ cNo a ≠ 200 ∧ cNo a % 10 = a % 10 ∧ cNo a / 100 = a / 100 ∧ cNo a % 100 / 10 = 0 := by
  unfold cNo
  rw [if_neg h]
  omega
theorem cPr1 (φ : Nat → Nat → Nat) (b : Nat) {a : Nat} (ha : a ≤ 200) : yPr1 φ b (cNo a) = yPr1 φ b a := by
  by_cases h : a = 200
  · rw [h]; rfl
  · obtain ⟨p1, p2, p3, p4, p5⟩ := cNo_parts h (by omega)
    unfold yPr1
    rw [if_neg h, if_neg p2, p3, p4]
theorem cSc1 (φ : Nat → Nat → Nat) (b : Nat) {a : Nat} (ha : a ≤ 200) : ySc1 φ b (cNo a) = ySc1 φ b a := by
  by_cases h : a = 200
  · rw [h]; rfl
  · obtain ⟨p1, p2, p3, p4, p5⟩ := cNo_parts h (by omega)
    unfold ySc1 yDay
    rw [if_neg h, if_neg p2]
theorem cDrop_cost (φ : Nat → Nat → Nat) (b : Nat) : ∀ (l : List Nat) (D : Nat), (∀ a, a ∈ l → a ≤ 200) → yPr φ b (cDrop D l) = yPr φ b l ∧ ySc φ b (cDrop D l) = ySc φ b l := by
  intro l
  induction l with
  | nil => intro D _; exact ⟨rfl, rfl⟩
  | cons a l ih =>
    intro D h
    have ha := h a List.mem_cons_self
    have h' := fun x hx => h x (List.mem_cons_of_mem a hx)
    by_cases g : cCh a ≠ 0 ∧ D.testBit (cCh a - 1) = true
    · have e : cDrop D (a :: l) = a :: cDrop (D ^^^ 2 ^ (cCh a - 1)) l := if_pos g
      rw [e]
      obtain ⟨i1, i2⟩ := ih (D ^^^ 2 ^ (cCh a - 1)) h'
      exact ⟨by show yPr1 φ b a + yPr φ b _ = yPr1 φ b a + yPr φ b l; rw [i1], by show ySc1 φ b a + ySc φ b _ = ySc1 φ b a + ySc φ b l; rw [i2]⟩
    · have e : cDrop D (a :: l) = cNo a :: cDrop D l := if_neg g
      rw [e]
      obtain ⟨i1, i2⟩ := ih D h'
      exact ⟨by show yPr1 φ b (cNo a) + yPr φ b _ = yPr1 φ b a + yPr φ b l; rw [i1, cPr1 φ b ha], by show ySc1 φ b (cNo a) + ySc φ b _ = ySc1 φ b a + ySc φ b l; rw [i2, cSc1 φ b ha]⟩
/-- like each other but for the children -/
def cLike (φ : Nat → Nat → Nat) (σ τ : ySt) : Prop :=
  σ.sd = τ.sd ∧ σ.z0 = τ.z0 ∧ σ.z1 = τ.z1 ∧ σ.mk = τ.mk ∧ (∀ p, yBit (φ 0 4) p ≠ 1 → yBit σ.ov p = yBit τ.ov p)
theorem cBit_do {φ : Nat → Nat → Nat} {σ : ySt} {a : Nat} (h : yEb φ σ a = true) (ha : a ≠ 200) (p : Nat) :
    yBit (yDo φ σ a).ov p = if p = a % 10 ∨ (cCh a = p + 1) then 1 - yBit σ.ov p else yBit σ.ov p := by
  obtain ⟨_, _, c3, _, c4, _⟩ := bCross h ha
  have ech : cCh a = a % 100 / 10 := by unfold cCh; rw [if_neg ha]
  rw [ech, bDo ha, ySt.of_ov, bBit, bBit, Nat.testBit_xor, Nat.testBit_or, Nat.testBit_two_pow]
  have e : (if a % 100 / 10 = 0 then 0 else 2 ^ (a % 100 / 10 - 1)).testBit p = decide (a % 100 / 10 = p + 1) := by
    by_cases g : a % 100 / 10 = 0
    · rw [if_pos g, Nat.zero_testBit]
      simp [g]
    · rw [if_neg g, Nat.testBit_two_pow]
      by_cases q : a % 100 / 10 - 1 = p
      · have : a % 100 / 10 = p + 1 := by omega
        simp [q, this]
      · have : ¬ a % 100 / 10 = p + 1 := by omega
        simp [q, this]
  rw [e]
  by_cases g1 : p = a % 10
  · subst g1
    simp
    cases σ.ov.testBit (a % 10) <;> rfl
  · have g1' : ¬ a % 10 = p := fun e => g1 e.symm
    by_cases g2 : a % 100 / 10 = p + 1
    · simp [g1', g2]
      cases σ.ov.testBit p <;> simp
    · simp [g1, g1', g2]
theorem cWhy_of {φ : Nat → Nat → Nat} {σ : ySt} {p c k : Nat} (h1 : yBit σ.ov p = σ.sd) (h2 : yBit (φ 0 4) p ≠ 1) (h3 : c ≠ 0 → yBit (φ 0 4) (c - 1) = 1 ∧ yBit σ.ov (c - 1) = σ.sd) (h4 : yBeh φ (σ.z k) p k = true) (h5 : yFit (φ 5 k) σ.sd σ.mk = true) : yWhy φ σ p c k = 0 := by
  unfold yWhy
  rw [if_pos h1, if_neg h2]
  have T : (if yBeh φ (σ.z k) p k = false then 4 else if yFit (φ 5 k) σ.sd σ.mk = false then 5 else 0) = 0 := by rw [h4, h5]; rfl
  by_cases g : c = 0
  · rw [if_pos g]; exact T
  · rw [if_neg g, if_pos (h3 g).1, if_pos (h3 g).2]; exact T
theorem cEb_of {φ : Nat → Nat → Nat} {σ : ySt} {a : Nat} (ha : a < 200) (h0 : a / 100 < φ 0 3) (hp : a % 10 < φ 0 2) (hc : a % 100 / 10 ≤ φ 0 2) (h1 : yBit σ.ov (a % 10) = σ.sd) (h2 : yBit (φ 0 4) (a % 10) ≠ 1)
    (h3 : a % 100 / 10 ≠ 0 → yBit (φ 0 4) (a % 100 / 10 - 1) = 1 ∧ yBit σ.ov (a % 100 / 10 - 1) = σ.sd) (h4 : yBeh φ (σ.z (a / 100)) (a % 10) (a / 100) = true) (h5 : yFit (φ 5 (a / 100)) σ.sd σ.mk = true) : yEb φ σ a = true := by
  rw [yEb_lt φ σ ha]
  unfold yGd yCan
  rw [cWhy_of h1 h2 h3 h4 h5]
  simp [h0, hp, hc]
theorem cBit_xor (D c q : Nat) : (D ^^^ 2 ^ c).testBit q = if q = c then !D.testBit q else D.testBit q := by
  rw [Nat.testBit_xor, Nat.testBit_two_pow]
  by_cases g : q = c
  · subst g; simp
  · have : ¬ c = q := fun e => g e.symm
    simp [g, this]
/-- what holds of a child between the row and the row without needless carrying -/
def cKid (φ : Nat → Nat → Nat) (D : Nat) (σ σ' : ySt) (l : List Nat) (q : Nat) : Prop :=
  (D.testBit q = true → yBit σ'.ov q = yBit σ.ov q ∧ cCnt q l % 2 = 1) ∧ (D.testBit q = false → yBit σ'.ov q = (yBit σ.ov q + cCnt q l) % 2)
theorem cDrop_run {φ : Nat → Nat → Nat} : ∀ (l : List Nat) (D : Nat) (σ σ' τ : ySt), yRun φ σ l = some τ → cLike φ σ σ' → (∀ q, yBit (φ 0 4) q = 1 → cKid φ D σ σ' l q) →
    ∃ τ', yRun φ σ' (cDrop D l) = some τ' ∧ cLike φ τ τ' ∧ ∀ q, yBit (φ 0 4) q = 1 → yBit τ'.ov q = yBit τ.ov q := by
  intro l
  induction l with
  | nil =>
    intro D σ σ' τ r k K
    cases r
    refine ⟨σ', rfl, k, fun q hq => ?_⟩
    obtain ⟨k1, k2⟩ := K q hq
    by_cases g : D.testBit q = true
    · exact (k1 g).1
    · have := k2 (by simpa using g)
      have b := yBit_lt σ.ov q
      rw [this]
      show (yBit σ.ov q + 0) % 2 = _
      omega
  | cons a l ih =>
    intro D σ σ' τ r k K
    replace r : (if yEb φ σ a = true then yRun φ (yDo φ σ a) l else none) = some τ := r
    by_cases e : yEb φ σ a = true
    · rw [if_pos e] at r
      obtain ⟨k1, k2, k3, k4, k5⟩ := k
      by_cases h200 : a = 200
      · have ec : cCh a = 0 := by unfold cCh; rw [if_pos h200]
        have ed : cDrop D (a :: l) = 200 :: cDrop D l := by
          show (if cCh a ≠ 0 ∧ _ then _ else cNo a :: cDrop D l) = _
          rw [if_neg (fun h => h.1 ec)]
          unfold cNo
          rw [if_pos h200]
        have cnt : ∀ q, cCnt q (a :: l) = cCnt q l := fun q => by
          show (if cCh a = q + 1 then 1 else 0) + cCnt q l = _
          rw [ec, if_neg (by omega)]; omega
        rw [ed]
        subst h200
        have := ih D (yDo φ σ 200) (yDo φ σ' 200) τ r (by
          rw [bDo_200, bDo_200]
          exact ⟨by show 1 - σ.sd = 1 - σ'.sd; rw [k1], k2, k3, k4, k5⟩) (fun q hq => by
          obtain ⟨q1, q2⟩ := K q hq
          rw [cnt] at q1 q2
          rw [bDo_200, bDo_200]
          exact ⟨q1, q2⟩)
        obtain ⟨τ', t1, t2⟩ := this
        refine ⟨τ', ?_, t2⟩
        show (if yEb φ σ' 200 = true then yRun φ (yDo φ σ' 200) _ else none) = _
        rw [if_pos (yEb_200 φ σ')]
        exact t1
      · obtain ⟨c1, c2, c3, c5, c4, c6, c7⟩ := bCross e h200
        obtain ⟨p1, p2, p3, p4, p5⟩ := cNo_parts h200 c1
        have act := (yEb_act e).1.resolve_left h200
        have ech : cCh a = a % 100 / 10 := by unfold cCh; rw [if_neg h200]
        have nad : yBit (φ 0 4) (a % 10) ≠ 1 := by rw [c3.2]; decide
        have hz : ∀ k, σ'.z k = σ.z k := fun k => by unfold ySt.z; rw [k2, k3]
        have cnt : ∀ q, cCnt q (a :: l) = (if cCh a = q + 1 then 1 else 0) + cCnt q l := fun q => rfl
        by_cases g : cCh a ≠ 0 ∧ D.testBit (cCh a - 1) = true
        · have ed : cDrop D (a :: l) = a :: cDrop (D ^^^ 2 ^ (cCh a - 1)) l := if_pos g
          have kid := c4 (by rw [← ech]; exact g.1)
          rw [← ech] at kid
          have kq := (K _ kid.1).1 g.2
          have e' : yEb φ σ' a = true := cEb_of c1 c2 c3.1 act.2.2.1 (by rw [← k5 _ nad, ← k1]; exact c5) nad
            (fun _ => by rw [← ech]; exact ⟨kid.1, by rw [kq.1, ← k1]; exact kid.2⟩) (by rw [hz]; exact c6) (by rw [← k1, ← k4]; exact c7)
          rw [ed]
          obtain ⟨τ', t1, t2⟩ := ih (D ^^^ 2 ^ (cCh a - 1)) (yDo φ σ a) (yDo φ σ' a) τ r
            (by
              refine ⟨?_, ?_, ?_, ?_, fun p hp => ?_⟩
              · rw [bDo h200, bDo h200]; show 1 - σ.sd = 1 - σ'.sd; rw [k1]
              · rw [bDo h200, bDo h200]; show (if _ then _ else σ.z0) = (if _ then _ else σ'.z0); rw [k2]
              · rw [bDo h200, bDo h200]; show (if _ then _ else σ.z1) = (if _ then _ else σ'.z1); rw [k3]
              · rw [bDo h200, bDo h200]; show yMk σ.mk σ.sd = yMk σ'.mk σ'.sd; rw [k4, k1]
              · rw [cBit_do e h200, cBit_do e' h200, k5 p hp])
            (fun q hq => by
              obtain ⟨q1, q2⟩ := K q hq
              have nq : q ≠ a % 10 := fun z => nad (z ▸ hq)
              rw [cnt] at q1 q2
              have b := yBit_lt σ.ov q
              unfold cKid
              rw [cBit_xor, cBit_do e h200, cBit_do e' h200]
              by_cases gq : cCh a = q + 1
              · have ecq : q = cCh a - 1 := by omega
                rw [if_pos (Or.inr gq), if_pos (Or.inr gq), if_pos ecq]
                have dt : D.testBit q = true := by rw [ecq]; exact g.2
                rw [dt]
                refine ⟨fun h => absurd h (by decide), fun _ => ?_⟩
                have := q1 dt
                rw [if_pos gq] at this
                rw [this.1]
                omega
              · have ecq : ¬ q = cCh a - 1 := by have := g.1; omega
                have n1 : ¬ (q = a % 10 ∨ cCh a = q + 1) := fun h => h.elim nq gq
                rw [if_neg n1, if_neg n1, if_neg ecq]
                rw [if_neg gq, Nat.zero_add] at q1 q2
                exact ⟨q1, q2⟩)
          refine ⟨τ', ?_, t2⟩
          show (if yEb φ σ' a = true then yRun φ (yDo φ σ' a) _ else none) = _
          rw [if_pos e']
          exact t1
        · have ed : cDrop D (a :: l) = cNo a :: cDrop D l := if_neg g
          have e' : yEb φ σ' (cNo a) = true := cEb_of p1 (by rw [p4]; exact c2) (by rw [p3]; exact c3.1) (by rw [p5]; exact Nat.zero_le _) (by rw [p3, ← k5 _ nad, ← k1]; exact c5) (by rw [p3]; exact nad)
            (fun h => absurd p5 h) (by rw [p4, p3, hz]; exact c6) (by rw [p4, ← k1, ← k4]; exact c7)
          have ech' : cCh (cNo a) = 0 := by unfold cCh; rw [if_neg p2]; exact p5
          rw [ed]
          obtain ⟨τ', t1, t2⟩ := ih D (yDo φ σ a) (yDo φ σ' (cNo a)) τ r
            (by
              refine ⟨?_, ?_, ?_, ?_, fun p hp => ?_⟩
              · rw [bDo h200, bDo p2]; show 1 - σ.sd = 1 - σ'.sd; rw [k1]
              · rw [bDo h200, bDo p2, p3, p4]; show (if _ then _ else σ.z0) = (if _ then _ else σ'.z0); rw [k2]
              · rw [bDo h200, bDo p2, p3, p4]; show (if _ then _ else σ.z1) = (if _ then _ else σ'.z1); rw [k3]
              · rw [bDo h200, bDo p2]; show yMk σ.mk σ.sd = yMk σ'.mk σ'.sd; rw [k4, k1]
              · rw [cBit_do e h200, cBit_do e' p2, k5 p hp, p3, ech']
                have : ¬ cCh a = p + 1 := fun z => by
                  have q0 : a % 100 / 10 ≠ 0 := by rw [← ech]; omega
                  have := (c4 q0).1
                  rw [← ech, z] at this
                  exact hp this
                have n0 : ¬ 0 = p + 1 := by omega
                by_cases q : p = a % 10
                · rw [if_pos (Or.inl q), if_pos (Or.inl q)]
                · rw [if_neg (fun h => h.elim q this), if_neg (fun h => h.elim q n0)])
            (fun q hq => by
              obtain ⟨q1, q2⟩ := K q hq
              have nq : q ≠ a % 10 := fun z => nad (z ▸ hq)
              rw [cnt] at q1 q2
              have b := yBit_lt σ.ov q
              unfold cKid
              rw [cBit_do e h200, cBit_do e' p2, ech', p3]
              have n0 : ¬ 0 = q + 1 := by omega
              rw [if_neg (fun h : q = a % 10 ∨ 0 = q + 1 => h.elim nq n0)]
              by_cases gq : cCh a = q + 1
              · rw [if_pos (Or.inr gq)]
                rw [if_pos gq] at q1 q2
                have dt : D.testBit q = false := by
                  have : ¬ D.testBit (cCh a - 1) = true := fun z => g ⟨by omega, z⟩
                  rw [show cCh a - 1 = q by omega] at this
                  simpa using this
                rw [dt]
                refine ⟨fun h => absurd h (by decide), fun _ => ?_⟩
                rw [q2 dt]
                omega
              · rw [if_neg (fun h : q = a % 10 ∨ cCh a = q + 1 => h.elim nq gq)]
                rw [if_neg gq, Nat.zero_add] at q1 q2
                exact ⟨q1, q2⟩)
          refine ⟨τ', ?_, t2⟩
          show (if yEb φ σ' (cNo a) = true then yRun φ (yDo φ σ' (cNo a)) _ else none) = _
          rw [if_pos e']
          exact t1
    · rw [if_neg e] at r; cases r
theorem cDrop_cnt : ∀ (l : List Nat) (D q : Nat), cCnt q (cDrop D l) ≤ (if D.testBit q = true then 1 else 0) := by
  intro l
  induction l with
  | nil => intro D q; exact Nat.zero_le _
  | cons a l ih =>
    intro D q
    by_cases g : cCh a ≠ 0 ∧ D.testBit (cCh a - 1) = true
    · have ed : cDrop D (a :: l) = a :: cDrop (D ^^^ 2 ^ (cCh a - 1)) l := if_pos g
      rw [ed]
      show (if cCh a = q + 1 then 1 else 0) + cCnt q (cDrop _ l) ≤ _
      have := ih (D ^^^ 2 ^ (cCh a - 1)) q
      rw [cBit_xor] at this
      by_cases h : cCh a = q + 1
      · have e : q = cCh a - 1 := by omega
        have dt : D.testBit q = true := by rw [e]; exact g.2
        rw [if_pos e, dt] at this
        rw [if_pos h, if_pos dt]
        have h0 : cCnt q (cDrop (D ^^^ 2 ^ (cCh a - 1)) l) ≤ 0 := by simpa using this
        omega
      · have e : ¬ q = cCh a - 1 := by have := g.1; omega
        rw [if_neg e] at this
        rw [if_neg h, Nat.zero_add]
        exact this
    · have ed : cDrop D (a :: l) = cNo a :: cDrop D l := if_neg g
      rw [ed]
      show (if cCh (cNo a) = q + 1 then 1 else 0) + cCnt q (cDrop _ l) ≤ _
      have : cCh (cNo a) = 0 := by
        unfold cCh cNo
        by_cases h : a = 200
        · rw [if_pos h]; rfl
        · rw [if_neg h]
          split
          · rfl
          · omega
      rw [this, if_neg (by omega), Nat.zero_add]
      exact ih D q
/-- whom a row carries oddly often -/
def cOdd (l : List Nat) : Nat → Nat
  | 0 => 0
  | n + 1 => cOdd l n ||| (if cCnt n l % 2 = 1 then 2 ^ n else 0)
theorem cOdd_bit (l : List Nat) (q : Nat) : ∀ n, (cOdd l n).testBit q = (decide (q < n) && decide (cCnt q l % 2 = 1)) := by
  intro n
  induction n with
  | zero => exact Nat.zero_testBit q
  | succ n ih =>
    show (cOdd l n ||| (if cCnt n l % 2 = 1 then 2 ^ n else 0)).testBit q = _
    rw [Nat.testBit_or, ih]
    by_cases h : cCnt n l % 2 = 1
    · rw [if_pos h, Nat.testBit_two_pow]
      by_cases g : n = q
      · subst g; simp [h]
      · have : (q < n + 1) = (q < n) := propext ⟨by omega, by omega⟩
        simp [g, this]
    · rw [if_neg h, Nat.zero_testBit, Bool.or_false]
      by_cases g : n = q
      · subst g; simp [h]
      · have : (q < n + 1) = (q < n) := propext ⟨by omega, by omega⟩
        simp [this]
theorem cLike_refl (φ : Nat → Nat → Nat) (σ : ySt) : cLike φ σ σ := ⟨rfl, rfl, rfl, rfl, fun _ _ => rfl⟩
theorem yEb_le' {φ : Nat → Nat → Nat} : ∀ (l : List Nat) (σ τ : ySt), yRun φ σ l = some τ → ∀ a, a ∈ l → a ≤ 200 := by
  intro l
  induction l with
  | nil => intro _ _ _ a h; cases h
  | cons x l ih =>
    intro σ τ r a h
    replace r : (if yEb φ σ x = true then yRun φ (yDo φ σ x) l else none) = some τ := r
    by_cases g : yEb φ σ x = true
    · rw [if_pos g] at r
      rcases List.mem_cons.mp h with e | e
      · rw [e]; exact yEb_le g
      · exact ih _ _ r a e
    · rw [if_neg g] at r; cases r
/-- a least row may be taken to carry each child at most once -/
theorem cDrop_least {φ : Nat → Nat → Nat} (O : yOk φ) {b : Nat} {σ : ySt} (S : ySok φ σ) {l : List Nat} (W : bLe φ b σ l) :
    ∃ m, bLe φ b σ m ∧ m.length = l.length ∧ ySc φ b m = ySc φ b l ∧ ∀ q, cCnt q m ≤ 1 := by
  obtain ⟨⟨τ, r, E⟩, least⟩ := W
  have hch := O.children
  have q6 : ∀ q, yBit (φ 0 4) q = 1 → q < 6 := fun q hq => by
    rcases Nat.lt_or_ge q 6 with h | h
    · exact h
    · exfalso
      have := bBit_1.mp hq
      rw [Nat.testBit_lt_two_pow (Nat.lt_of_lt_of_le hch (Nat.pow_le_pow_right (n := 2) (by decide) h))] at this
      cases this
  obtain ⟨τ', t1, ⟨k1, k2, k3, k4, k5⟩, t3⟩ := cDrop_run l (cOdd l 6) σ σ τ r (cLike_refl φ σ) (fun q hq => by
    have lt := q6 q hq
    unfold cKid
    rw [cOdd_bit]
    have b := yBit_lt σ.ov q
    by_cases h : cCnt q l % 2 = 1
    · simp [h, lt]
    · have h0 : cCnt q l % 2 = 0 := by omega
      refine ⟨fun g => by simp [h] at g, fun _ => by omega⟩)
  have eov : τ'.ov = τ.ov := by
    apply Nat.eq_of_testBit_eq
    intro q
    have : yBit τ'.ov q = yBit τ.ov q := by
      by_cases h : yBit (φ 0 4) q = 1
      · exact t3 q h
      · exact (k5 q h).symm
    rw [bBit, bBit] at this
    cases h1 : τ'.ov.testBit q <;> cases h2 : τ.ov.testBit q <;> simp_all
  have le := yEb_le' l σ τ r
  have cost := cDrop_cost φ b l (cOdd l 6) le
  refine ⟨cDrop (cOdd l 6) l, ⟨⟨τ', t1, by unfold yIsE; rw [eov]; exact E⟩, ?_⟩, cDrop_len l _, cost.2, fun q => ?_⟩
  · rw [cost.1, cost.2]; exact least
  · have := cDrop_cnt l (cOdd l 6) q
    split at this <;> omega
