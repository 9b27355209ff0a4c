set_option maxRecDepth 100000
/-! a post without looks whose neighbours link all grown-ups: everything can be come to by its letters -/
def aCh (φ : Nat → Nat → Nat) (k : Nat) : Nat → List Nat → Nat → Prop
  | p, [], q => p = q
  | p, u :: us, q => yAd φ u ∧ yBeh φ (p + 1) u k = true ∧ aCh φ k u us q
/-- rows of letters at the post k -/
def aRow (φ : Nat → Nat → Nat) (k : Nat) (x y : ySt) : Prop := ∃ V, yRun φ x V = some y ∧ ∀ a, a ∈ V → a ≠ 200 → a / 100 = k
theorem aRow_refl (φ : Nat → Nat → Nat) (k : Nat) (x : ySt) : aRow φ k x x := ⟨[], rfl, fun a h => nomatch h⟩
theorem aRow_trans {φ : Nat → Nat → Nat} {k : Nat} {x y z : ySt} (h1 : aRow φ k x y) (h2 : aRow φ k y z) : aRow φ k x z := by
  obtain ⟨V, r1, m1⟩ := h1
  obtain ⟨U, r2, m2⟩ := h2
  refine ⟨V ++ U, by rw [yRun_append, r1]; exact r2, fun a ha h => ?_⟩
  rcases List.mem_append.mp ha with z | z
  · exact m1 a z h
  · exact m2 a z h
/-- one letter, with a loaf ahead if need be -/
theorem aStep {φ : Nat → Nat → Nat} (O : yOk φ) {k : Nat} (hk : k < φ 0 3) (h0 : φ 5 k = 0) {x : ySt} (S : ySok φ x) {p c : Nat} (hp : yAd φ p) (hn : yBeh φ (x.z k) p k = true) (hc : c ≤ φ 0 2) (hkid : c ≠ 0 → yBit (φ 0 4) (c - 1) = 1 ∧ yBit x.ov (c - 1) = yBit x.ov p) :
    ∃ y, aRow φ k x y ∧ y.ov = x.ov ^^^ (2 ^ p ||| (if c = 0 then 0 else 2 ^ (c - 1))) ∧ y.z k = p + 1 := by
  have p6 := O.persons
  have p2 := O.posts
  have pn := hp.1
  have e1 : (100 * k + 10 * c + p) % 10 = p := by omega
  have e2 : (100 * k + 10 * c + p) / 100 = k := by omega
  have e3 : (100 * k + 10 * c + p) % 100 / 10 = c := by omega
  have e4 : 100 * k + 10 * c + p ≠ 200 := by omega
  have main : ∀ w : ySt, w.ov = x.ov → w.z k = x.z k → w.sd = yBit x.ov p → yEb φ w (100 * k + 10 * c + p) = true := by
    intro w w1 w2 w3
    refine cEb_of (by omega) (by rw [e2]; exact hk) (by rw [e1]; exact pn) (by rw [e3]; exact hc) (by rw [e1, w1, w3]) (by rw [e1, hp.2]; decide) (fun g => ?_) (by rw [e1, e2, w2]; exact hn) (by rw [e2, h0]; rfl)
    rw [e3] at g ⊢
    rw [w1, w3]
    exact hkid g
  have out : ∀ w : ySt, w.ov = x.ov → (yDo φ w (100 * k + 10 * c + p)).ov = x.ov ^^^ (2 ^ p ||| (if c = 0 then 0 else 2 ^ (c - 1))) ∧ (yDo φ w (100 * k + 10 * c + p)).z k = p + 1 := by
    intro w w1
    refine ⟨by rw [bDo e4, ySt.of_ov, e1, e3, w1], ?_⟩
    rw [uTok e4 (by omega) (by omega), e1]
    have : wk φ (100 * k + 10 * c + p) = k ∨ φ 0 7 ≠ 0 := by
      unfold wk
      by_cases g : φ 0 7 ≠ 0
      · exact Or.inr g
      · left; rw [if_neg g, e2]
    rw [if_pos this]
  by_cases hs : x.sd = yBit x.ov p
  · have e := main x rfl rfl hs
    obtain ⟨o1, o2⟩ := out x rfl
    refine ⟨yDo φ x (100 * k + 10 * c + p), ⟨[100 * k + 10 * c + p], ?_, fun a ha _ => by rw [List.mem_singleton.mp ha]; exact e2⟩, o1, o2⟩
    show (if yEb φ x _ = true then some (yDo φ x _) else none) = _
    rw [if_pos e]
  · have b2 := yBit_lt x.ov p
    have sd := S.sd
    have e := main (yDo φ x 200) (by rw [bDo_200]; rfl) (uTok_200 k) (by rw [bDo_200]; show 1 - x.sd = _; omega)
    obtain ⟨o1, o2⟩ := out (yDo φ x 200) (by rw [bDo_200]; rfl)
    refine ⟨yDo φ (yDo φ x 200) (100 * k + 10 * c + p), ⟨[200, 100 * k + 10 * c + p], ?_, fun a ha h => ?_⟩, o1, o2⟩
    · show (if yEb φ x 200 = true then (if yEb φ (yDo φ x 200) _ = true then some (yDo φ (yDo φ x 200) _) else none) else none) = _
      rw [if_pos (yEb_200 φ x), if_pos e]
    · rcases List.mem_cons.mp ha with z | z
      · exact absurd z h
      · rw [List.mem_singleton.mp z]; exact e2
theorem aRow_ok {φ : Nat → Nat → Nat} (O : yOk φ) {k : Nat} {x y : ySt} (S : ySok φ x) (h : aRow φ k x y) : ySok φ y := by
  obtain ⟨V, r, _⟩ := h
  exact bRun_ok O _ _ _ S r
theorem aSelf (φ : Nat → Nat → Nat) (p k : Nat) : yBeh φ (p + 1) p k = true := by unfold yBeh; simp
theorem aXor2 (a b : Nat) : a ^^^ b ^^^ b = a := by rw [Nat.xor_assoc, Nat.xor_self, Nat.xor_zero]
/-- along a chain, changing nothing -/
theorem aGo {φ : Nat → Nat → Nat} (O : yOk φ) {k : Nat} (hk : k < φ 0 3) (h0 : φ 5 k = 0) : ∀ (us : List Nat) (x : ySt) (p q : Nat), ySok φ x → x.z k = p + 1 → aCh φ k p us q → ∃ y, aRow φ k x y ∧ y.ov = x.ov ∧ y.z k = q + 1 := by
  intro us
  induction us with
  | nil =>
    intro x p q S hz h
    have : p = q := h
    exact ⟨x, aRow_refl φ k x, rfl, by rw [hz, this]⟩
  | cons u us ih =>
    intro x p q S hz h
    obtain ⟨h1, h2, h3⟩ := h
    obtain ⟨y, r1, o1, z1⟩ := aStep O hk h0 S (c := 0) h1 (by rw [hz]; exact h2) (Nat.zero_le _) (fun g => absurd rfl g)
    obtain ⟨w, r2, o2, z2⟩ := aStep O hk h0 (aRow_ok O S r1) (c := 0) h1 (by rw [z1]; exact aSelf φ u k) (Nat.zero_le _) (fun g => absurd rfl g)
    rw [if_pos rfl, Nat.or_zero] at o1 o2
    obtain ⟨v, r3, o3, z3⟩ := ih w u q (aRow_ok O (aRow_ok O S r1) r2) z2 h3
    exact ⟨v, aRow_trans r1 (aRow_trans r2 r3), by rw [o3, o2, o1, aXor2], z3⟩
/-- the grown-ups are linked at the post k -/
def aLk (φ : Nat → Nat → Nat) (k : Nat) : Prop := ∀ p q, yAd φ p → yAd φ q → ∃ us, aCh φ k p us q
/-- any one can be set across -/
theorem aOne {φ : Nat → Nat → Nat} (O : yOk φ) {k : Nat} (hk : k < φ 0 3) (h0 : φ 5 k = 0) (L : aLk φ k) {d : Nat} (hd : yAd φ d) {x : ySt} (S : ySok φ x) (hz : uTk φ (x.z k)) {q : Nat} (hq : q < φ 0 2) :
    ∃ y, aRow φ k x y ∧ y.ov = x.ov ^^^ 2 ^ q ∧ uTk φ (y.z k) := by
  have p2 := O.posts
  -- to a grown-up e, changing nothing but (if nobody was last) nothing
  have go : ∀ e, yAd φ e → ∃ y, aRow φ k x y ∧ y.ov = x.ov ∧ y.z k = e + 1 := by
    intro e he
    rcases hz with z | z
    · obtain ⟨y, r1, o1, z1⟩ := aStep O hk h0 S (c := 0) he (by rw [z]; unfold yBeh; simp) (Nat.zero_le _) (fun g => absurd rfl g)
      obtain ⟨w, r2, o2, z2⟩ := aStep O hk h0 (aRow_ok O S r1) (c := 0) he (by rw [z1]; exact aSelf φ e k) (Nat.zero_le _) (fun g => absurd rfl g)
      rw [if_pos rfl, Nat.or_zero] at o1 o2
      exact ⟨w, aRow_trans r1 r2, by rw [o2, o1, aXor2], z2⟩
    · by_cases z0 : x.z k = 0
      · obtain ⟨y, r1, o1, z1⟩ := aStep O hk h0 S (c := 0) he (by rw [z0]; unfold yBeh; simp) (Nat.zero_le _) (fun g => absurd rfl g)
        obtain ⟨w, r2, o2, z2⟩ := aStep O hk h0 (aRow_ok O S r1) (c := 0) he (by rw [z1]; exact aSelf φ e k) (Nat.zero_le _) (fun g => absurd rfl g)
        rw [if_pos rfl, Nat.or_zero] at o1 o2
        exact ⟨w, aRow_trans r1 r2, by rw [o2, o1, aXor2], z2⟩
      · obtain ⟨us, ch⟩ := L (x.z k - 1) e z he
        exact aGo O hk h0 us x (x.z k - 1) e S (by omega) ch
  by_cases ad : yAd φ q
  · obtain ⟨y, r1, o1, z1⟩ := go q ad
    obtain ⟨w, r2, o2, z2⟩ := aStep O hk h0 (aRow_ok O S r1) (c := 0) ad (by rw [z1]; exact aSelf φ q k) (Nat.zero_le _) (fun g => absurd rfl g)
    rw [if_pos rfl, Nat.or_zero] at o2
    exact ⟨w, aRow_trans r1 r2, by rw [o2, o1], Or.inr (by rw [z2]; simpa using ad)⟩
  · have kid : yBit (φ 0 4) q = 1 := by
      have := yBit_lt (φ 0 4) q
      have : ¬ yBit (φ 0 4) q = 0 := fun z => ad ⟨hq, z⟩
      omega
    have nd : q ≠ d := fun z => ad (z ▸ hd)
    obtain ⟨y, r1, o1, z1⟩ := go d hd
    -- onto the child's side
    have side : ∃ w, aRow φ k y w ∧ w.z k = d + 1 ∧ yBit w.ov q = yBit w.ov d ∧ (w.ov = x.ov ∨ w.ov = x.ov ^^^ 2 ^ d) := by
      by_cases s : yBit y.ov q = yBit y.ov d
      · exact ⟨y, aRow_refl φ k y, z1, s, Or.inl o1⟩
      · obtain ⟨w, r2, o2, z2⟩ := aStep O hk h0 (aRow_ok O S r1) (c := 0) hd (by rw [z1]; exact aSelf φ d k) (Nat.zero_le _) (fun g => absurd rfl g)
        rw [if_pos rfl, Nat.or_zero] at o2
        refine ⟨w, r2, z2, ?_, Or.inr (by rw [o2, o1])⟩
        have b1 := yBit_lt y.ov q
        have b2 := yBit_lt y.ov d
        rw [o2, bBit, bBit, Nat.testBit_xor, Nat.testBit_xor, Nat.testBit_two_pow, Nat.testBit_two_pow]
        rw [bBit, bBit] at s
        have : ¬ d = q := fun z => nd z.symm
        cases h1 : y.ov.testBit q <;> cases h2 : y.ov.testBit d <;> simp_all
    obtain ⟨w, r2, z2, s2, ow⟩ := side
    have Sw := aRow_ok O (aRow_ok O S r1) r2
    obtain ⟨v, r3, o3, z3⟩ := aStep O hk h0 Sw (c := q + 1) hd (by rw [z2]; exact aSelf φ d k) hq (fun _ => ⟨kid, s2⟩)
    rw [if_neg (by omega), show q + 1 - 1 = q by omega] at o3
    have orx : 2 ^ d ||| 2 ^ q = 2 ^ d ^^^ 2 ^ q := by
      apply Nat.eq_of_testBit_eq
      intro t
      rw [Nat.testBit_or, Nat.testBit_xor, Nat.testBit_two_pow, Nat.testBit_two_pow]
      by_cases e1 : d = t
      · have : ¬ q = t := fun z => nd (z.trans e1.symm)
        simp [e1, this]
      · simp [e1]
    rw [orx] at o3
    rcases ow with g | g
    · -- back once more
      obtain ⟨u, r4, o4, z4⟩ := aStep O hk h0 (aRow_ok O Sw r3) (c := 0) hd (by rw [z3]; exact aSelf φ d k) (Nat.zero_le _) (fun g => absurd rfl g)
      rw [if_pos rfl, Nat.or_zero] at o4
      refine ⟨u, aRow_trans r1 (aRow_trans r2 (aRow_trans r3 r4)), ?_, Or.inr (by rw [z4]; simpa using hd)⟩
      rw [o4, o3, g, ← Nat.xor_assoc, Nat.xor_assoc (x.ov ^^^ 2 ^ d), Nat.xor_comm (2 ^ q), ← Nat.xor_assoc, aXor2]
    · refine ⟨v, aRow_trans r1 (aRow_trans r2 r3), ?_, Or.inr (by rw [z3]; simpa using hd)⟩
      rw [o3, g, ← Nat.xor_assoc, aXor2]
/-- everybody -/
theorem aAll {φ : Nat → Nat → Nat} (O : yOk φ) {k : Nat} (hk : k < φ 0 3) (h0 : φ 5 k = 0) (L : aLk φ k) {d : Nat} (hd : yAd φ d) {t : Nat} (ht : t < 2 ^ φ 0 2) : ∀ (n : Nat), n ≤ φ 0 2 → ∀ x : ySt, ySok φ x → uTk φ (x.z k) →
    ∃ y, aRow φ k x y ∧ uTk φ (y.z k) ∧ (∀ q, q < n → y.ov.testBit q = t.testBit q) := by
  intro n
  induction n with
  | zero => intro _ x S hz; exact ⟨x, aRow_refl φ k x, hz, fun q h => absurd h (by omega)⟩
  | succ n ih =>
    intro hn x S hz
    obtain ⟨y, r1, z1, b1⟩ := ih (by omega) x S hz
    by_cases g : y.ov.testBit n = t.testBit n
    · refine ⟨y, r1, z1, fun q hq => ?_⟩
      by_cases e : q = n
      · rw [e]; exact g
      · exact b1 q (by omega)
    · obtain ⟨w, r2, o2, z2⟩ := aOne O hk h0 L hd (aRow_ok O S r1) z1 (q := n) (by omega)
      refine ⟨w, aRow_trans r1 r2, z2, fun q hq => ?_⟩
      rw [o2, Nat.testBit_xor, Nat.testBit_two_pow]
      by_cases e : q = n
      · subst e
        cases h1 : y.ov.testBit q <;> cases h2 : t.testBit q <;> simp_all
      · have : ¬ n = q := fun z => e z.symm
        simp [this, b1 q (by omega)]
/-- LINKED grown-ups at a post without looks: few days, few crossings -/
theorem bA_bd {φ : Nat → Nat → Nat} (O : yOk φ) (hl : 0 < φ 0 0) {k : Nat} (hk : k < φ 0 3) (h0 : φ 5 k = 0) (L : aLk φ k) {d : Nat} (hd : yAd φ d) {l : List Nat} {σ : ySt} (r : yRun φ yFirst l = some σ) {b : Nat} (hb : b = 0 ∨ b = 2) : yBd1 φ b σ := by
  have S := bRun_ok O _ _ _ (yFirst_ok φ) r
  have p2 := O.posts
  have hz := uTk_run O _ _ _ (fun w _ => Or.inl (by unfold ySt.z; split <;> rfl)) r k (by omega)
  have et : yEnd φ < 2 ^ φ 0 2 := by
    have : yEnd φ ≤ 2 ^ φ 0 2 - 1 := Nat.and_le_left
    have : 0 < 2 ^ φ 0 2 := Nat.pow_pos (by decide)
    omega
  obtain ⟨y, ⟨V, rV, mV⟩, z1, b1⟩ := aAll O hk h0 L hd et (φ 0 2) (Nat.le_refl _) σ S hz
  have Sy := bRun_ok O _ _ _ S rV
  have ey : y.ov = yEnd φ := by
    apply Nat.eq_of_testBit_eq
    intro q
    rcases Nat.lt_or_ge q (φ 0 2) with h | h
    · exact b1 q h
    · have big : 2 ^ φ 0 2 ≤ 2 ^ q := Nat.pow_le_pow_right (by decide) h
      rw [Nat.testBit_lt_two_pow (Nat.lt_of_lt_of_le Sy.ov big), Nat.testBit_lt_two_pow (Nat.lt_of_lt_of_le et big)]
  -- each child once at most
  have hch := O.children
  have q6 : ∀ q, yBit (φ 0 4) q = 1 → q < 6 := fun q hq => by
    rcases Nat.lt_or_ge q 6 with h | h
    · exact h
    · exfalso
      have := bBit_1.mp hq
      rw [Nat.testBit_lt_two_pow (Nat.lt_of_lt_of_le hch (Nat.pow_le_pow_right (n := 2) (by decide) h))] at this
      cases this
  obtain ⟨τ', t1, ⟨k1, k2, k3, k4, k5⟩, t3⟩ := cDrop_run V (cOdd V 6) σ σ y rV (cLike_refl φ σ) (fun q hq => by
    have lt := q6 q hq
    unfold cKid
    rw [cOdd_bit]
    have b := yBit_lt σ.ov q
    by_cases h : cCnt q V % 2 = 1
    · simp [h, lt]
    · have h0 : cCnt q V % 2 = 0 := by omega
      refine ⟨fun g => by simp [h] at g, fun _ => by omega⟩)
  have eov : τ'.ov = y.ov := gEq fun q => by
    by_cases h : yBit (φ 0 4) q = 1
    · exact t3 q h
    · exact (k5 q h).symm
  have le := yEb_le' V σ y rV
  have posts : ∀ (V : List Nat) (D : Nat), (∀ a, a ∈ V → a ≤ 200) → (∀ a, a ∈ V → a ≠ 200 → a / 100 = k) → ∀ a, a ∈ cDrop D V → a ≠ 200 → a / 100 = k := by
    intro V
    induction V with
    | nil => intro D _ _ a h; cases h
    | cons x V ih =>
      intro D h1 h2 a ha hne
      have i1 := fun D => ih D (fun y hy => h1 y (List.mem_cons_of_mem x hy)) (fun y hy => h2 y (List.mem_cons_of_mem x hy))
      by_cases g : cCh x ≠ 0 ∧ D.testBit (cCh x - 1) = true
      · have ed : cDrop D (x :: V) = x :: cDrop (D ^^^ 2 ^ (cCh x - 1)) V := if_pos g
        rw [ed] at ha
        rcases List.mem_cons.mp ha with z | z
        · rw [z] at hne ⊢; exact h2 x List.mem_cons_self hne
        · exact i1 _ a z hne
      · have ed : cDrop D (x :: V) = cNo x :: cDrop D V := if_neg g
        rw [ed] at ha
        rcases List.mem_cons.mp ha with z | z
        · by_cases x2 : x = 200
          · rw [z, x2] at hne; exact absurd rfl hne
          · have l200 := h1 x List.mem_cons_self
            obtain ⟨_, _, _, p4, _⟩ := cNo_parts x2 (by omega)
            rw [z, p4]; exact h2 x List.mem_cons_self x2
        · exact i1 _ a z hne
  refine bL_bd O hl r t1 (by unfold yIsE; rw [eov, ey]) (fun q => ?_) (fun a ha h => by rw [posts V _ le mV a ha h]; exact h0) hb
  have := cDrop_cnt V (cOdd V 6) q
  split at this <;> omega
/-- without grown-ups nothing is to be done -/
theorem aNone {φ : Nat → Nat → Nat} (hl : 0 < φ 0 0) (n : ∀ p, ¬ yAd φ p) {b : Nat} {σ : ySt} : yBd1 φ b σ := by
  intro m τ rm em least
  have W : bLe φ b σ m := ⟨⟨τ, rm, em⟩, least⟩
  have same : ∀ (m : List Nat) (σ τ : ySt), yRun φ σ m = some τ → τ.ov = σ.ov := by
    intro m
    induction m with
    | nil => intro σ τ r; cases r; rfl
    | cons a m ih =>
      intro σ τ r
      replace r : (if yEb φ σ a = true then yRun φ (yDo φ σ a) m else none) = some τ := r
      by_cases g : yEb φ σ a = true
      · rw [if_pos g] at r
        by_cases ha : a = 200
        · rw [ih _ τ r, ha, bDo_200]; rfl
        · exact absurd (bCross g ha).2.2.1 (n _)
      · rw [if_neg g] at r; cases r
  cases m with
  | nil => exact ⟨by show 0 < 1000; decide, fun _ => Nat.zero_le _⟩
  | cons a m =>
    exfalso
    refine bLe_end hl W (i := 0) (by simp) (ρ := σ) rfl ?_
    show σ.ov = yEnd φ
    rw [← same _ _ _ rm]; exact em
/-- what is owed still: by risk; by days and (without compare) by crossings where no post without looks links all grown-ups -/
def zHard2 : Prop := ∀ φ, yOk φ → 0 < φ 0 0 → zMix φ → (∃ p, yAd φ p) → ∀ l σ, yRun φ yFirst l = some σ → ∀ b, b < 3 → (b = 2 → φ 0 7 = 0) → (b ≠ 1 → ∀ k, k < φ 0 3 → φ 5 k = 0 → ¬ aLk φ k) → yBd1 φ b σ
theorem hard_of (h : zHard2) : zHard := by
  intro φ O hl mix l σ r b hb h2
  by_cases ad : ∃ p, yAd φ p
  · by_cases ok : b ≠ 1 → ∀ k, k < φ 0 3 → φ 5 k = 0 → ¬ aLk φ k
    · exact h φ O hl mix ad l σ r b hb h2 ok
    · obtain ⟨d, hd⟩ := ad
      have b1 : b ≠ 1 := fun e => ok fun z => absurd e z
      have : ∃ k, k < φ 0 3 ∧ φ 5 k = 0 ∧ aLk φ k := by
        refine Classical.byContradiction fun n => ok fun _ k hk h0 L => n ⟨k, hk, h0, L⟩
      obtain ⟨k, hk, h0, L⟩ := this
      exact bA_bd O hl hk h0 L hd r (by omega)
  · exact aNone hl (fun p hp => ad ⟨p, hp⟩)
