set_option maxRecDepth 100000
/-! the bound, first regime: every post looks (a part behind 999999992) -/
theorem bBit (s p : Nat) : yBit s p = if s.testBit p = true then 1 else 0 := by
  unfold yBit
  rw [Nat.testBit_eq_decide_div_mod_eq]
  have := Nat.mod_lt (s / 2 ^ p) (show 0 < 2 by decide)
  by_cases h : s / 2 ^ p % 2 = 1
  · simp [h]
  · rw [if_neg (by simpa using h)]; omega
theorem bBit_1 {s p : Nat} : yBit s p = 1 ↔ s.testBit p = true := by
  rw [bBit]; split <;> simp_all
theorem bBit_0 {s p : Nat} : yBit s p = 0 ↔ s.testBit p = false := by
  rw [bBit]; split <;> simp_all
theorem bWhy {φ : Nat → Nat → Nat} {σ : ySt} {p c k : Nat} (h : yWhy φ σ p c k = 0) :
    yBit σ.ov p = σ.sd ∧ yBit (φ 0 4) p ≠ 1 ∧ (c ≠ 0 → yBit (φ 0 4) (c - 1) = 1 ∧ yBit σ.ov (c - 1) = σ.sd) ∧ yBeh φ (σ.z k) p k = true ∧ yFit (φ 5 k) σ.sd σ.mk = true := by
  unfold yWhy at h
  by_cases h1 : yBit σ.ov p = σ.sd
  · rw [if_pos h1] at h
    by_cases h2 : yBit (φ 0 4) p = 1
    · rw [if_pos h2] at h; cases h
    · rw [if_neg h2] at h
      have T : ∀ {x : Nat}, (if yBeh φ (σ.z k) p k = false then 4 else if yFit (φ 5 k) σ.sd σ.mk = false then 5 else 0) = x → x = 0 → yBeh φ (σ.z k) p k = true ∧ yFit (φ 5 k) σ.sd σ.mk = true := by
        intro x e x0
        subst x0
        by_cases q1 : yBeh φ (σ.z k) p k = false
        · rw [if_pos q1] at e; cases e
        · rw [if_neg q1] at e
          by_cases q2 : yFit (φ 5 k) σ.sd σ.mk = false
          · rw [if_pos q2] at e; cases e
          · exact ⟨by simpa using q1, by simpa using q2⟩
      by_cases h3 : c = 0
      · rw [if_pos h3] at h
        exact ⟨h1, h2, fun g => absurd h3 g, T h rfl⟩
      · rw [if_neg h3] at h
        by_cases h4 : yBit (φ 0 4) (c - 1) = 1
        · rw [if_pos h4] at h
          by_cases h5 : yBit σ.ov (c - 1) = σ.sd
          · rw [if_pos h5] at h
            exact ⟨h1, h2, fun _ => ⟨h4, h5⟩, T h rfl⟩
          · rw [if_neg h5] at h; cases h
        · rw [if_neg h4] at h; cases h
  · rw [if_neg h1] at h; cases h
/-- a grown-up -/
def yAd (φ : Nat → Nat → Nat) (p : Nat) : Prop := p < φ 0 2 ∧ yBit (φ 0 4) p = 0
/-- what a crossing needs -/
theorem bCross {φ : Nat → Nat → Nat} {σ : ySt} {a : Nat} (h : yEb φ σ a = true) (ha : a ≠ 200) :
    a < 200 ∧ a / 100 < φ 0 3 ∧ yAd φ (a % 10) ∧ yBit σ.ov (a % 10) = σ.sd ∧ (a % 100 / 10 ≠ 0 → yBit (φ 0 4) (a % 100 / 10 - 1) = 1 ∧ yBit σ.ov (a % 100 / 10 - 1) = σ.sd) ∧ yBeh φ (σ.z (a / 100)) (a % 10) (a / 100) = true ∧ yFit (φ 5 (a / 100)) σ.sd σ.mk = true := by
  obtain ⟨h1, h2⟩ := yEb_act h
  obtain ⟨q1, q2, q3, q4⟩ := h1.resolve_left ha
  unfold yCan at h2
  rw [Bool.or_eq_true] at h2
  have w := bWhy (of_decide_eq_true (h2.resolve_left (by simpa using ha)))
  have := yBit_lt (φ 0 4) (a % 10)
  exact ⟨q1, q2, ⟨q4, by have := w.2.1; omega⟩, w.1, w.2.2.1, w.2.2.2.1, w.2.2.2.2⟩
theorem bDo {φ : Nat → Nat → Nat} {σ : ySt} {a : Nat} (ha : a ≠ 200) : yDo φ σ a = ySt.of (σ.ov ^^^ (2 ^ (a % 10) ||| (if a % 100 / 10 = 0 then 0 else 2 ^ (a % 100 / 10 - 1)))) (1 - σ.sd)
    (if a / 100 = 0 ∨ φ 0 7 ≠ 0 then a % 10 + 1 else σ.z0) (if a / 100 = 1 ∨ φ 0 7 ≠ 0 then a % 10 + 1 else σ.z1) (yMk σ.mk σ.sd) := by
  unfold yDo; rw [if_neg ha]
theorem bDo_200 {φ : Nat → Nat → Nat} {σ : ySt} : yDo φ σ 200 = ySt.of σ.ov (1 - σ.sd) σ.z0 σ.z1 σ.mk := by
  unfold yDo; rw [if_pos rfl]
/-- the bit of a grown-up behind a crossing -/
theorem bOv {φ : Nat → Nat → Nat} {σ : ySt} {a p : Nat} (h : yEb φ σ a = true) (ha : a ≠ 200) (hp : yAd φ p) :
    yBit (yDo φ σ a).ov p = if p = a % 10 then 1 - yBit σ.ov p else yBit σ.ov p := by
  obtain ⟨_, _, _, _, c4, _⟩ := bCross h ha
  rw [bDo ha, ySt.of_ov, bBit, bBit, Nat.testBit_xor, Nat.testBit_or, Nat.testBit_two_pow]
  have e : (if a % 100 / 10 = 0 then 0 else 2 ^ (a % 100 / 10 - 1)).testBit p = false := by
    by_cases g : a % 100 / 10 = 0
    · rw [if_pos g]; exact Nat.zero_testBit p
    · rw [if_neg g, Nat.testBit_two_pow]
      have := (c4 g).1
      have q : a % 100 / 10 - 1 ≠ p := fun e => by rw [e, hp.2] at this; cases this
      simp [q]
  rw [e, Bool.or_false]
  by_cases g : p = a % 10
  · subst g
    simp
    cases σ.ov.testBit (a % 10) <;> rfl
  · have : ¬ a % 10 = p := fun e => g e.symm
    simp [this, g]
theorem bMk : ∀ m, m < 16 → ∀ s, s < 2 → 0 < m → yMk m s % 2 = s ∧ 2 ≤ yMk m s := by decide +kernel
/-- every post looks: what holds of the states that can be come to -/
def bXi (φ : Nat → Nat → Nat) (σ : ySt) : Prop :=
  (σ.z0 = 0 ∨ yAd φ (σ.z0 - 1)) ∧ (σ.z1 = 0 ∨ yAd φ (σ.z1 - 1)) ∧
  (¬ (2 ≤ σ.mk ∧ σ.mk % 2 = 0) → ∀ p, yAd φ p → yBit σ.ov p = 0) ∧
  ((2 ≤ σ.mk ∧ σ.mk % 2 = 0) → ∃ q, yAd φ q ∧ ∀ p, yAd φ p → (yBit σ.ov p = 1 ↔ p = q))
theorem bXi_first (φ : Nat → Nat → Nat) : bXi φ yFirst := by
  refine ⟨Or.inl rfl, Or.inl rfl, fun _ p _ => ?_, fun h => absurd h.1 (by decide)⟩
  show 0 / 2 ^ p % 2 = 0
  rw [Nat.zero_div]
theorem bFit {j now left : Nat} (hj : 1 ≤ j) (h : yFit j now left = true) (hl : 2 ≤ left) : left % 2 ≠ now := by
  obtain ⟨j, rfl⟩ : ∃ i, j = i + 1 := ⟨j - 1, by omega⟩
  intro e
  have : yFit (j + 1) now left = (if left ≤ 1 then true else if left % 2 = now then false else yFit j (left % 2) (left / 2)) := rfl
  rw [this, if_neg (by omega), if_pos e] at h
  cases h
theorem bXi_do {φ : Nat → Nat → Nat} {σ : ySt} {a : Nat} (S : ySok φ σ) (L : ∀ k, k < φ 0 3 → 1 ≤ φ 5 k) (X : bXi φ σ) (h : yEb φ σ a = true) : bXi φ (yDo φ σ a) := by
  by_cases ha : a = 200
  · subst ha
    rw [bDo_200]
    exact X
  · obtain ⟨c1, c2, c3, c5, c4, c6, c7⟩ := bCross h ha
    have nf := bFit (L _ c2) c7
    obtain ⟨m1, m2⟩ := bMk σ.mk S.mk1 σ.sd S.sd S.mk0
    have ov := fun p hp => bOv (p := p) h ha hp
    have hsd := S.sd
    have e : (yDo φ σ a).mk = yMk σ.mk σ.sd := by rw [bDo ha]; rfl
    refine ⟨?_, ?_, ?_, ?_⟩
    · rw [bDo ha]
      show (if _ then a % 10 + 1 else σ.z0) = 0 ∨ yAd φ ((if _ then a % 10 + 1 else σ.z0) - 1)
      split
      · right; simpa using c3
      · exact X.1
    · rw [bDo ha]
      show (if _ then a % 10 + 1 else σ.z1) = 0 ∨ yAd φ ((if _ then a % 10 + 1 else σ.z1) - 1)
      split
      · right; simpa using c3
      · exact X.2.1
    · intro g p hp
      rw [e] at g
      have s1 : σ.sd = 1 := by
        have : ¬ σ.sd = 0 := fun q => g ⟨m2, by omega⟩
        omega
      have g2 : 2 ≤ σ.mk ∧ σ.mk % 2 = 0 := by
        have : 2 ≤ σ.mk ∧ σ.mk % 2 = 0 := by
          by_cases q : 2 ≤ σ.mk ∧ σ.mk % 2 = 0
          · exact q
          · have := X.2.2.1 q _ c3
            omega
        exact this
      obtain ⟨q, hq, hh⟩ := X.2.2.2 g2
      have pq : a % 10 = q := (hh _ c3).mp (by omega)
      rw [ov p hp]
      have b2 := yBit_lt σ.ov p
      by_cases gp : p = a % 10
      · rw [if_pos gp]
        have := (hh p hp).mpr (by omega)
        omega
      · rw [if_neg gp]
        have : ¬ yBit σ.ov p = 1 := fun z => gp (by rw [(hh p hp).mp z, pq])
        omega
    · intro g
      rw [e, m1] at g
      have s0 : σ.sd = 0 := g.2
      have g2 : ¬ (2 ≤ σ.mk ∧ σ.mk % 2 = 0) := fun q => by
        have := nf q.1
        omega
      refine ⟨a % 10, c3, fun p hp => ?_⟩
      rw [ov p hp]
      have := X.2.2.1 g2 p hp
      by_cases gp : p = a % 10
      · rw [if_pos gp, this]; simp [gp]
      · rw [if_neg gp]; simp [this, gp]
/-- what a row leads to is a state -/
theorem bRun_ok {φ : Nat → Nat → Nat} (O : yOk φ) : ∀ (l : List Nat) (σ τ : ySt), ySok φ σ → yRun φ σ l = some τ → ySok φ τ := by
  intro l σ τ S r
  exact yW.ok O (H := 0) (b := 0) S ⟨l, r, rfl⟩
theorem bXi_run {φ : Nat → Nat → Nat} (O : yOk φ) (L : ∀ k, k < φ 0 3 → 1 ≤ φ 5 k) : ∀ (l : List Nat) (σ τ : ySt), ySok φ σ → bXi φ σ → yRun φ σ l = some τ → bXi φ τ := by
  intro l
  induction l with
  | nil => intro σ τ _ X r; cases r; exact X
  | cons a l ih =>
    intro σ τ S X r
    replace r : (if yEb φ σ a = true then yRun φ (yDo φ σ a) l else none) = some τ := r
    by_cases g : yEb φ σ a = true
    · rw [if_pos g] at r
      exact ih _ τ (yDo_ok O S (yEb_act g).1) (bXi_do S L X g) r
    · rw [if_neg g] at r; cases r

/-- a least row to the end -/
def bLe (φ : Nat → Nat → Nat) (b : Nat) (σ : ySt) (l : List Nat) : Prop :=
  (∃ τ, yRun φ σ l = some τ ∧ yIsE φ τ) ∧ ∀ l2 τ2, yRun φ σ l2 = some τ2 → yIsE φ τ2 → yPr φ b l < yPr φ b l2 ∨ (yPr φ b l = yPr φ b l2 ∧ ySc φ b l ≤ ySc φ b l2)
theorem yPr_app (φ : Nat → Nat → Nat) (b : Nat) : ∀ l m, yPr φ b (l ++ m) = yPr φ b l + yPr φ b m := by
  intro l
  induction l with
  | nil => intro m; show yPr φ b m = 0 + _; omega
  | cons x l ih => intro m; show yPr1 φ b x + yPr φ b (l ++ m) = yPr1 φ b x + yPr φ b l + _; rw [ih m]; omega
theorem ySc_app (φ : Nat → Nat → Nat) (b : Nat) : ∀ l m, ySc φ b (l ++ m) = ySc φ b l + ySc φ b m := by
  intro l
  induction l with
  | nil => intro m; show ySc φ b m = 0 + _; omega
  | cons x l ih => intro m; show ySc1 φ b x + ySc φ b (l ++ m) = ySc1 φ b x + ySc φ b l + _; rw [ih m]; omega
theorem bTd {l : List Nat} {i j : Nat} (h : i ≤ j) : l = l.take i ++ ((l.drop i).take (j - i) ++ l.drop j) := by
  have e : l.drop j = (l.drop i).drop (j - i) := by rw [List.drop_drop]; congr 1; omega
  rw [e, List.take_append_drop, List.take_append_drop]
/-- nothing can be cut out of a least row -/
theorem bLe_cut {φ : Nat → Nat → Nat} (hl : 0 < φ 0 0) {b : Nat} {σ : ySt} {l : List Nat} (W : bLe φ b σ l) {i j : Nat} (hij : i < j) (hj : j ≤ l.length) (e : yRun φ σ (l.take i) = yRun φ σ (l.take j)) : False := by
  obtain ⟨⟨τ, r, end_⟩, least⟩ := W
  obtain ⟨ρ, r1, r2⟩ := yRun_take r j
  have := least (l.take i ++ l.drop j) τ (by rw [yRun_append, e, r1]; exact r2) end_
  have e1 := bTd (l := l) (i := i) (j := j) (by omega)
  have p : yPr φ b l = yPr φ b (l.take i) + (yPr φ b ((l.drop i).take (j - i)) + yPr φ b (l.drop j)) := by
    conv => lhs; rw [e1]
    rw [yPr_app, yPr_app]
  have s : ySc φ b l = ySc φ b (l.take i) + (ySc φ b ((l.drop i).take (j - i)) + ySc φ b (l.drop j)) := by
    conv => lhs; rw [e1]
    rw [ySc_app, ySc_app]
  rw [yPr_app, ySc_app] at this
  have len := ySc_len hl b ((l.drop i).take (j - i))
  rw [List.length_take, List.length_drop] at len
  omega
/-- a least row does not come to the end before its own end -/
theorem bLe_end {φ : Nat → Nat → Nat} (hl : 0 < φ 0 0) {b : Nat} {σ : ySt} {l : List Nat} (W : bLe φ b σ l) {i : Nat} (hi : i < l.length) {ρ : ySt} (r : yRun φ σ (l.take i) = some ρ) (e : yIsE φ ρ) : False := by
  obtain ⟨⟨τ, r0, end_⟩, least⟩ := W
  have := least (l.take i) ρ r e
  have e1 : l = l.take i ++ l.drop i := (List.take_append_drop i l).symm
  have p : yPr φ b l = yPr φ b (l.take i) + yPr φ b (l.drop i) := by
    conv => lhs; rw [e1]
    rw [yPr_app]
  have s : ySc φ b l = ySc φ b (l.take i) + ySc φ b (l.drop i) := by
    conv => lhs; rw [e1]
    rw [ySc_app]
  have len := ySc_len hl b (l.drop i)
  rw [List.length_drop] at len
  omega
/-- the state before the act i of a row -/
def bAt (φ : Nat → Nat → Nat) (σ : ySt) (l : List Nat) (i : Nat) : ySt := (yRun φ σ (l.take i)).getD σ
theorem bAt_run {φ : Nat → Nat → Nat} {σ τ : ySt} {l : List Nat} (r : yRun φ σ l = some τ) (i : Nat) : yRun φ σ (l.take i) = some (bAt φ σ l i) := by
  obtain ⟨ρ, r1, _⟩ := yRun_take r i
  unfold bAt
  rw [r1]
  rfl
theorem bAt_0 (φ : Nat → Nat → Nat) (σ : ySt) (l : List Nat) : bAt φ σ l 0 = σ := rfl
theorem bAt_step {φ : Nat → Nat → Nat} {σ τ : ySt} {l : List Nat} (r : yRun φ σ l = some τ) {i : Nat} (hi : i < l.length) :
    yEb φ (bAt φ σ l i) l[i] = true ∧ bAt φ σ l (i + 1) = yDo φ (bAt φ σ l i) l[i] := by
  have h1 := bAt_run r i
  have h2 := bAt_run r (i + 1)
  rw [List.take_succ_eq_append_getElem hi, yRun_snoc, h1] at h2
  replace h2 : (if yEb φ (bAt φ σ l i) l[i] = true then some (yDo φ (bAt φ σ l i) l[i]) else none) = some (bAt φ σ l (i + 1)) := h2
  by_cases g : yEb φ (bAt φ σ l i) l[i] = true
  · rw [if_pos g] at h2; exact ⟨g, (Option.some.inj h2).symm⟩
  · rw [if_neg g] at h2; cases h2
theorem bAt_ne {φ : Nat → Nat → Nat} (hl : 0 < φ 0 0) {b : Nat} {σ : ySt} {l : List Nat} (W : bLe φ b σ l) {i j : Nat} (hij : i < j) (hj : j ≤ l.length) : bAt φ σ l i ≠ bAt φ σ l j := fun e => by
  obtain ⟨⟨τ, r, _⟩, _⟩ := id W
  exact bLe_cut hl W hij hj (by rw [bAt_run r i, bAt_run r j, e])
theorem bCn_mono (p : Nat → Bool) {x y : Nat} (h : x ≤ y) : yCn p x ≤ yCn p y := by
  induction h with
  | refl => exact Nat.le_refl _
  | step h ih => exact Nat.le_trans ih (Nat.le_add_right _ _)
theorem bCn_lt (p : Nat → Bool) {x y : Nat} (h : x < y) (hx : p x = true) : yCn p x < yCn p y := by
  have : yCn p (x + 1) ≤ yCn p y := bCn_mono p h
  have e : yCn p (x + 1) = yCn p x + (if p x = true then 1 else 0) := rfl
  rw [e, if_pos hx] at this
  omega
theorem yCn_inj (p : Nat → Bool) {x y : Nat} (hx : p x = true) (hy : p y = true) (e : yCn p x = yCn p y) : x = y := by
  rcases Nat.lt_trichotomy x y with h | h | h
  · have := bCn_lt p h hx; omega
  · exact h
  · have := bCn_lt p h hy; omega
theorem bLoaf2 {φ : Nat → Nat → Nat} {σ : ySt} (S : ySok φ σ) : yDo φ (yDo φ σ 200) 200 = σ := by
  rw [bDo_200, bDo_200]
  have := S.sd
  show ySt.of σ.ov (1 - (1 - σ.sd)) σ.z0 σ.z1 σ.mk = σ
  have e : 1 - (1 - σ.sd) = σ.sd := by omega
  rw [e]
  rfl
theorem bAt_ok {φ : Nat → Nat → Nat} (O : yOk φ) {σ τ : ySt} (S : ySok φ σ) {l : List Nat} (r : yRun φ σ l = some τ) (i : Nat) : ySok φ (bAt φ σ l i) := bRun_ok O _ _ _ S (bAt_run r i)
/-- where every post looks, a least row has no loaf behind its first act -/
theorem bX_loaf {φ : Nat → Nat → Nat} (O : yOk φ) (hl : 0 < φ 0 0) (L : ∀ k, k < φ 0 3 → 1 ≤ φ 5 k) {b : Nat} {σ : ySt} (S : ySok φ σ) {l : List Nat} (W : bLe φ b σ l) {i : Nat} (hi : i + 1 < l.length) : l[i + 1] ≠ 200 := by
  obtain ⟨⟨τ, r, E⟩, least⟩ := id W
  intro e
  obtain ⟨s1, t1⟩ := bAt_step r (show i < l.length by omega)
  obtain ⟨s2, t2⟩ := bAt_step r hi
  rw [e] at t2
  by_cases g : l[i] = 200
  · rw [g] at t1
    rw [t1, bLoaf2 (bAt_ok O S r i)] at t2
    exact bAt_ne hl W (show i < i + 1 + 1 by omega) (by omega) t2.symm
  · have Si := bAt_ok O S r i
    obtain ⟨m1, m2⟩ := bMk _ Si.mk1 _ Si.sd Si.mk0
    rw [bDo_200] at t2
    have esd : (bAt φ σ l (i + 1)).sd = 1 - (bAt φ σ l i).sd := by rw [t1, bDo g]; rfl
    have emk : (bAt φ σ l (i + 1)).mk = yMk (bAt φ σ l i).mk (bAt φ σ l i).sd := by rw [t1, bDo g]; rfl
    by_cases q : i + 2 = l.length
    · refine bLe_end hl W (i := i + 1) (by omega) (bAt_run r (i + 1)) ?_
      have f : bAt φ σ l (i + 2) = τ := by
        have := bAt_run r (i + 2)
        rw [q, List.take_length, r] at this
        have q2 := (Option.some.inj this).symm
        rw [← q] at q2
        exact q2
      show (bAt φ σ l (i + 1)).ov = yEnd φ
      have : (bAt φ σ l (i + 2)).ov = (bAt φ σ l (i + 1)).ov := by rw [show i + 2 = i + 1 + 1 from rfl, t2]; rfl
      rw [← this, f]
      exact E
    · obtain ⟨s3, t3⟩ := bAt_step r (show i + 2 < l.length by omega)
      by_cases g2 : l[i + 2] = 200
      · rw [g2, show i + 2 = i + 1 + 1 from rfl, t2, ← bDo_200, bLoaf2 (bAt_ok O S r (i + 1))] at t3
        exact bAt_ne hl W (show i + 1 < i + 2 + 1 by omega) (by omega) t3.symm
      · obtain ⟨_, c2, _, _, _, _, c7⟩ := bCross s3 g2
        have := bFit (L _ c2) c7 (by rw [show i + 2 = i + 1 + 1 from rfl, t2]; show 2 ≤ (bAt φ σ l (i + 1)).mk; omega)
        rw [show i + 2 = i + 1 + 1 from rfl, t2] at this
        apply this
        show (bAt φ σ l (i + 1)).mk % 2 = 1 - (bAt φ σ l (i + 1)).sd
        have := Si.sd
        omega
theorem bMk3 : ∀ m, m < 16 → ∀ s, s < 2 → 0 < m → yMk (yMk (yMk m s) (1 - s)) s = 10 + 3 * s := by decide +kernel
/-- .. and from its fourth act on its marks are those of a row that goes out and back -/
theorem bX_mk {φ : Nat → Nat → Nat} (O : yOk φ) (hl : 0 < φ 0 0) (L : ∀ k, k < φ 0 3 → 1 ≤ φ 5 k) {b : Nat} {σ : ySt} (S : ySok φ σ) {l : List Nat} (W : bLe φ b σ l) {i : Nat} (hi : i + 4 ≤ l.length) :
    ∃ s, s < 2 ∧ (bAt φ σ l (i + 4)).mk = 10 + 3 * s ∧ (bAt φ σ l (i + 4)).sd = 1 - s ∧ (bAt φ σ l (i + 3)).sd = s := by
  obtain ⟨⟨τ, r, E⟩, least⟩ := id W
  obtain ⟨_, t1⟩ := bAt_step r (show i + 1 < l.length by omega)
  obtain ⟨_, t2⟩ := bAt_step r (show i + 2 < l.length by omega)
  obtain ⟨_, t3⟩ := bAt_step r (show i + 3 < l.length by omega)
  have n1 := bX_loaf O hl L S W (i := i) (by omega)
  have n2 := bX_loaf O hl L S W (i := i + 1) (by omega)
  have n3 := bX_loaf O hl L S W (i := i + 2) (by omega)
  have S1 := bAt_ok O S r (i + 1)
  have hs := S1.sd
  have a1 : (bAt φ σ l (i + 2)).sd = 1 - (bAt φ σ l (i + 1)).sd := by rw [show i + 2 = i + 1 + 1 from rfl, t1, bDo n1]; rfl
  have a2 : (bAt φ σ l (i + 3)).sd = 1 - (bAt φ σ l (i + 2)).sd := by rw [show i + 3 = i + 2 + 1 from rfl, t2, bDo n2]; rfl
  have a3 : (bAt φ σ l (i + 4)).sd = 1 - (bAt φ σ l (i + 3)).sd := by rw [show i + 4 = i + 3 + 1 from rfl, t3, bDo n3]; rfl
  have b1 : (bAt φ σ l (i + 2)).mk = yMk (bAt φ σ l (i + 1)).mk (bAt φ σ l (i + 1)).sd := by rw [show i + 2 = i + 1 + 1 from rfl, t1, bDo n1]; rfl
  have b2 : (bAt φ σ l (i + 3)).mk = yMk (bAt φ σ l (i + 2)).mk (bAt φ σ l (i + 2)).sd := by rw [show i + 3 = i + 2 + 1 from rfl, t2, bDo n2]; rfl
  have b3 : (bAt φ σ l (i + 4)).mk = yMk (bAt φ σ l (i + 3)).mk (bAt φ σ l (i + 3)).sd := by rw [show i + 4 = i + 3 + 1 from rfl, t3, bDo n3]; rfl
  have e3 : (bAt φ σ l (i + 3)).sd = (bAt φ σ l (i + 1)).sd := by omega
  refine ⟨(bAt φ σ l (i + 1)).sd, hs, ?_, by rw [a3, e3], e3⟩
  rw [b3, b2, b1, e3, a1]
  exact bMk3 _ S1.mk1 _ hs S1.mk0
/-- sets of children; places of the last -/
def bSet (n ch : Nat) (s : Nat) : Bool := decide (s < 2 ^ n) && (List.range 6).all fun p => !(decide (p < n) && !ch.testBit p && s.testBit p)
def bLst (n ch : Nat) (z : Nat) : Bool := decide (z = 0) || (decide (z ≤ n) && !ch.testBit (z - 1))
theorem bCount : ∀ n, n < 7 → ∀ ch, ch < 64 → yCn (bSet n ch) 64 * yCn (bLst n ch) 7 * yCn (bLst n ch) 7 ≤ 144 := by decide +kernel
theorem bAd_bit {φ : Nat → Nat → Nat} {p : Nat} : yAd φ p ↔ p < φ 0 2 ∧ (φ 0 4).testBit p = false := by
  unfold yAd
  rw [bBit_0]
theorem bLst_of {φ : Nat → Nat → Nat} {z : Nat} (h : z = 0 ∨ yAd φ (z - 1)) : bLst (φ 0 2) (φ 0 4) z = true := by
  unfold bLst
  rcases h with h | h
  · simp [h]
  · have := bAd_bit.mp h
    by_cases g : z = 0
    · simp [g]
    · simp [g, this.2, show z ≤ φ 0 2 by omega]
theorem bSet_of {φ : Nat → Nat → Nat} {s : Nat} (h1 : s < 2 ^ φ 0 2) (h : ∀ p, yAd φ p → yBit s p = 0) : bSet (φ 0 2) (φ 0 4) s = true := by
  unfold bSet
  rw [Bool.and_eq_true]
  refine ⟨decide_eq_true h1, List.all_eq_true.mpr fun p _ => ?_⟩
  by_cases g1 : p < φ 0 2
  · by_cases g2 : (φ 0 4).testBit p = true
    · simp [g2]
    · have : (φ 0 4).testBit p = false := by simpa using g2
      have := bBit_0.mp (h p (bAd_bit.mpr ⟨g1, this⟩))
      simp [this]
  · simp [g1]
/-- where every post looks: a least row has at most 293 acts -/
theorem bX_len {φ : Nat → Nat → Nat} (O : yOk φ) (hl : 0 < φ 0 0) (L : ∀ k, k < φ 0 3 → 1 ≤ φ 5 k) {b : Nat} {σ : ySt} (S : ySok φ σ) (X : bXi φ σ) {l : List Nat} (W : bLe φ b σ l) : l.length ≤ 293 := by
  obtain ⟨⟨τ, r, E⟩, least⟩ := id W
  rcases Nat.lt_or_ge 293 l.length with big | small
  · exfalso
    have h6 := O.persons
    have hch := O.children
    -- the first place from the fourth on with the last stamp 1
    have alt : ∀ i, i + 5 ≤ l.length → (bAt φ σ l (i + 5)).mk = 23 - (bAt φ σ l (i + 4)).mk := by
      intro i hi
      obtain ⟨s, s1, s2, s3, s4⟩ := bX_mk O hl L S W (i := i) (by omega)
      obtain ⟨t, t1, t2, t3, t4⟩ := bX_mk O hl L S W (i := i + 1) (by omega)
      have e1 : (bAt φ σ l (i + 5)).mk = 10 + 3 * t := t2
      have e2 : (bAt φ σ l (i + 4)).sd = t := t4
      omega
    obtain ⟨t0, ht0, mk0⟩ : ∃ t0, t0 ≤ 5 ∧ 4 ≤ t0 ∧ (bAt φ σ l t0).mk = 13 := by
      obtain ⟨s, s1, s2, _⟩ := bX_mk O hl L S W (i := 0) (by omega)
      have h5 := alt 0 (by omega)
      have q : s = 0 ∨ s = 1 := by omega
      rcases q with q | q
      · refine ⟨5, by omega, by omega, ?_⟩
        have : (bAt φ σ l (0 + 4)).mk = 10 := by rw [s2, q]
        rw [this] at h5
        exact h5
      · refine ⟨4, by omega, by omega, ?_⟩
        have : (bAt φ σ l (0 + 4)).mk = 13 := by rw [s2, q]
        exact this
    have mk13 : ∀ k, t0 + 2 * k ≤ l.length → (bAt φ σ l (t0 + 2 * k)).mk = 13 := by
      intro k
      induction k with
      | zero => intro _; exact mk0.2
      | succ k ih =>
        intro hk
        have i0 := ih (by omega)
        have a1 := alt (t0 + 2 * k - 4) (by omega)
        have a2 := alt (t0 + 2 * k - 4 + 1) (by omega)
        have e0 : t0 + 2 * k - 4 + 4 = t0 + 2 * k := by omega
        have e1 : t0 + 2 * k - 4 + 1 + 4 = t0 + 2 * k - 4 + 5 := by omega
        have e2 : t0 + 2 * k - 4 + 1 + 5 = t0 + 2 * (k + 1) := by omega
        rw [e0] at a1
        rw [e1, e2] at a2
        omega
    have sd0 : ∀ k, t0 + 2 * k ≤ l.length → (bAt φ σ l (t0 + 2 * k)).sd = 0 := by
      intro k hk
      obtain ⟨s, s1, s2, s3, _⟩ := bX_mk O hl L S W (i := t0 + 2 * k - 4) (by omega)
      have e0 : t0 + 2 * k - 4 + 4 = t0 + 2 * k := by omega
      rw [e0] at s2 s3
      have := mk13 k hk
      omega
    have key : ∀ k, t0 + 2 * k ≤ l.length → bSet (φ 0 2) (φ 0 4) (bAt φ σ l (t0 + 2 * k)).ov = true ∧ bLst (φ 0 2) (φ 0 4) (bAt φ σ l (t0 + 2 * k)).z0 = true ∧ bLst (φ 0 2) (φ 0 4) (bAt φ σ l (t0 + 2 * k)).z1 = true := by
      intro k hk
      have Y := bXi_run O L _ _ _ S X (bAt_run r (t0 + 2 * k))
      have Sk := bAt_ok O S r (t0 + 2 * k)
      refine ⟨bSet_of Sk.ov (Y.2.2.1 ?_), bLst_of Y.1, bLst_of Y.2.1⟩
      rw [mk13 k hk]
      decide
    have cnt := bCount (φ 0 2) (by omega) (φ 0 4) hch
    have p64 : 2 ^ φ 0 2 ≤ 64 := Nat.pow_le_pow_right (n := 2) (by decide) h6
    generalize hP : yCn (bSet (φ 0 2) (φ 0 4)) 64 = cP at cnt
    generalize hQ : yCn (bLst (φ 0 2) (φ 0 4)) 7 = cQ at cnt
    have pig := yPig (n := 145) (m := cP * cQ * cQ) (g := fun k => (yCn (bSet (φ 0 2) (φ 0 4)) (bAt φ σ l (t0 + 2 * k)).ov * cQ + yCn (bLst (φ 0 2) (φ 0 4)) (bAt φ σ l (t0 + 2 * k)).z0) * cQ + yCn (bLst (φ 0 2) (φ 0 4)) (bAt φ σ l (t0 + 2 * k)).z1)
      (fun k hk => by
        obtain ⟨k1, k2, k3⟩ := key k (by omega)
        have Sk := bAt_ok O S r (t0 + 2 * k)
        have q1 := bCn_lt (bSet (φ 0 2) (φ 0 4)) (x := (bAt φ σ l (t0 + 2 * k)).ov) (y := 64) (by have := Sk.ov; omega) k1
        have q2 := bCn_lt (bLst (φ 0 2) (φ 0 4)) (x := (bAt φ σ l (t0 + 2 * k)).z0) (y := 7) (by have := Sk.z0; omega) k2
        have q3 := bCn_lt (bLst (φ 0 2) (φ 0 4)) (x := (bAt φ σ l (t0 + 2 * k)).z1) (y := 7) (by have := Sk.z1; omega) k3
        rw [hP] at q1
        rw [hQ] at q2 q3
        generalize yCn (bSet (φ 0 2) (φ 0 4)) (bAt φ σ l (t0 + 2 * k)).ov = A at q1 ⊢
        generalize yCn (bLst (φ 0 2) (φ 0 4)) (bAt φ σ l (t0 + 2 * k)).z0 = B at q2 ⊢
        generalize yCn (bLst (φ 0 2) (φ 0 4)) (bAt φ σ l (t0 + 2 * k)).z1 = C at q3 ⊢
        show (A * cQ + B) * cQ + C < cP * cQ * cQ
        have h1 : A * cQ + B < cP * cQ := by
          have : (A + 1) * cQ ≤ cP * cQ := Nat.mul_le_mul_right cQ q1
          rw [Nat.add_mul, Nat.one_mul] at this
          omega
        have : (A * cQ + B + 1) * cQ ≤ cP * cQ * cQ := Nat.mul_le_mul_right cQ h1
        rw [Nat.add_mul, Nat.one_mul] at this
        omega)
      (fun i j hi hj e => by
        obtain ⟨i1, i2, i3⟩ := key i (by omega)
        obtain ⟨j1, j2, j3⟩ := key j (by omega)
        have z : ∀ k, k < 145 → yCn (bLst (φ 0 2) (φ 0 4)) (bAt φ σ l (t0 + 2 * k)).z0 < cQ ∧ yCn (bLst (φ 0 2) (φ 0 4)) (bAt φ σ l (t0 + 2 * k)).z1 < cQ := fun k hk => by
          obtain ⟨_, k2, k3⟩ := key k (by omega)
          have Sk := bAt_ok O S r (t0 + 2 * k)
          rw [← hQ]
          exact ⟨bCn_lt _ (by have := Sk.z0; omega) k2, bCn_lt _ (by have := Sk.z1; omega) k3⟩
        obtain ⟨zi0, zi1⟩ := z i hi
        obtain ⟨zj0, zj1⟩ := z j hj
        have dv : ∀ {A B C D : Nat}, B < cQ → D < cQ → A * cQ + B = C * cQ + D → A = C ∧ B = D := by
          intro A B C D hB hD h
          have e1 : (A * cQ + B) / cQ = A := by rw [Nat.mul_comm, Nat.mul_add_div (by omega), Nat.div_eq_of_lt hB, Nat.add_zero]
          have e2 : (C * cQ + D) / cQ = C := by rw [Nat.mul_comm, Nat.mul_add_div (by omega), Nat.div_eq_of_lt hD, Nat.add_zero]
          have : A = C := by rw [← e1, h, e2]
          subst this
          exact ⟨rfl, by omega⟩
        obtain ⟨e1, e2⟩ := dv zi1 zj1 e
        obtain ⟨e3, e4⟩ := dv zi0 zj0 e1
        have eov := yCn_inj _ i1 j1 e3
        have ez0 := yCn_inj _ i2 j2 e4
        have ez1 := yCn_inj _ i3 j3 e2
        have est : bAt φ σ l (t0 + 2 * i) = bAt φ σ l (t0 + 2 * j) := by
          have m1 := mk13 i (by omega)
          have m2 := mk13 j (by omega)
          have s1 := sd0 i (by omega)
          have s2 := sd0 j (by omega)
          show (_, _, _, _, _) = ((_, _, _, _, _) : ySt)
          exact Prod.ext eov (Prod.ext (s1.trans s2.symm) (Prod.ext ez0 (Prod.ext ez1 (m1.trans m2.symm))))
        rcases Nat.lt_trichotomy i j with q | q | q
        · exact absurd est (bAt_ne hl W (by omega) (by omega))
        · exact q
        · exact absurd est.symm (bAt_ne hl W (by omega) (by omega)))
    omega
  · exact small
/-- where every post looks, the bound holds -/
theorem bX_bd {φ : Nat → Nat → Nat} (O : yOk φ) (hl : 0 < φ 0 0) (L : ∀ k, k < φ 0 3 → 1 ≤ φ 5 k) {l : List Nat} {σ : ySt} (r : yRun φ yFirst l = some σ) {b : Nat} (hb : b < 3) : yBd1 φ b σ := by
  intro m τ rm em least
  have S := bRun_ok O _ _ _ (yFirst_ok φ) r
  have X := bXi_run O L _ _ _ (yFirst_ok φ) (bXi_first φ) r
  have W : bLe φ b σ m := ⟨⟨τ, rm, em⟩, least⟩
  have len := bX_len O hl L S X W
  refine ⟨?_, fun _ => by omega⟩
  -- days: one loaf at most
  have h1 : ∀ x, ySc1 φ b x ≤ 9 := fun x => by
    unfold ySc1 yDay
    have := O.loaf
    repeat' split
    all_goals omega
  have h2 : ∀ x, x ≠ 200 → ySc1 φ b x ≤ 1 := fun x hx => by
    unfold ySc1 yDay
    repeat' split
    all_goals omega
  cases m with
  | nil => show 0 < 1000; decide
  | cons a m =>
    have t : ∀ m : List Nat, (∀ x, x ∈ m → x ≠ 200) → ySc φ b m ≤ m.length := by
      intro m
      induction m with
      | nil => intro _; exact Nat.le_refl _
      | cons x m ih =>
        intro h
        have i1 := ih fun y hy => h y (List.mem_cons_of_mem _ hy)
        have i2 := h2 x (h x List.mem_cons_self)
        show ySc1 φ b x + ySc φ b m ≤ m.length + 1
        omega
    have tt := t m fun x hx => by
      obtain ⟨i, hi, e⟩ := List.getElem_of_mem hx
      have := bX_loaf O hl L S W (i := i) (by simpa using hi)
      rw [← e]
      simpa using this
    have q := h1 a
    have e : (a :: m).length = m.length + 1 := rfl
    rw [e] at len
    show ySc1 φ b a + ySc φ b m < 1000
    omega
