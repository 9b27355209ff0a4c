set_option maxRecDepth 100000
/-! not comparing: what can be done with no looks asked can be done with looks asked, by somebody's going to and fro at the post without looks -/
def Ng_rx (φ : Nat → Nat → Nat) : Nat → Nat → Nat := fun i j => if i = 5 then 0 else φ i j
theorem Ng_rx_ok {φ : Nat → Nat → Nat} (O : yOk φ) : yOk (Ng_rx φ) := by
  unfold yOk at *
  unfold Ng_rx
  simp only [show (0 : Nat) ≠ 5 by decide, show (1 : Nat) ≠ 5 by decide, show (2 : Nat) ≠ 5 by decide, show (3 : Nat) ≠ 5 by decide, show (4 : Nat) ≠ 5 by decide, if_false, if_true]
  obtain ⟨h1, h2, h3, h4, h5, h6, h7, h8, h9, h10, h11, h12, h13⟩ := O
  refine ⟨h1, h2, h3, h4, h5, h6, h7, h8, h9, h10, h11, h12, ?_⟩
  intro k hk
  exact Nat.zero_le _
theorem Ng_rx_eb {φ : Nat → Nat → Nat} {σ : ySt} {a : Nat} (h : yEb φ σ a = true) : yEb (Ng_rx φ) σ a = true := by
  by_cases ha : a = 200
  · rw [ha]; exact yEb_200 _ _
  · obtain ⟨c1, c2, c3, c5, c4, c6, c7⟩ := bCross h ha
    have act := (yEb_act h).1.resolve_left ha
    exact cEb_of (φ := Ng_rx φ) c1 c2 c3.1 act.2.2.1 c5 (by rw [show Ng_rx φ 0 4 = φ 0 4 from rfl, c3.2]; decide) c4 c6 rfl
theorem Ng_rx_run {φ : Nat → Nat → Nat} : ∀ (l : List Nat) (σ τ : ySt), yRun φ σ l = some τ → yRun (Ng_rx φ) σ l = some τ := by
  intro l
  induction l with
  | nil => intro σ τ r; exact r
  | cons a l ih =>
    intro σ τ r
    replace r : (if yEb φ σ a = true then yRun φ (yDo φ σ a) l else none) = some τ := r
    by_cases g : yEb φ σ a = true
    · rw [if_pos g] at r
      show (if yEb (Ng_rx φ) σ a = true then yRun (Ng_rx φ) (yDo (Ng_rx φ) σ a) l else none) = _
      rw [if_pos (Ng_rx_eb g)]
      exact ih _ _ r
    · rw [if_neg g] at r; cases r
theorem Ng_z_go {x : NgS} {a k : Nat} (hk : k < 2) (ha : a / 100 < 2) : Ng_z (Ng_go x a) k = if k = a / 100 then a % 10 + 1 else Ng_z x k := by
  have e : Ng_z (Ng_go x a) k = if k = 0 then (if a / 100 = 0 then a % 10 + 1 else Ng_z x 0) else (if a / 100 = 0 then Ng_z x 1 else a % 10 + 1) := rfl
  rw [e]
  have hk' : k = 0 ∨ k = 1 := by omega
  have ha' : a / 100 = 0 ∨ a / 100 = 1 := by omega
  rcases hk' with h | h <;> rcases ha' with g | g <;> rw [h, g] <;> simp
theorem Ng_bit_go {x : NgS} {a : Nat} (p : Nat) (hp : a % 100 / 10 = 0 ∨ a % 100 / 10 - 1 ≠ p) : yBit (Ng_s (Ng_go x a)) p = if p = a % 10 then 1 - yBit (Ng_s x) p else yBit (Ng_s x) p := Cg_bit_fl p hp
theorem Ng_r_go {x : NgS} {a : Nat} : Ng_r (Ng_go x a) = if Ng_t x = 0 ∨ yBit (Ng_s x) (a % 10) = Ng_ar x then min 3 (Ng_r x + 1) else 1 := rfl
theorem Ng_ar_go2 {x : NgS} {a : Nat} (h : a % 100 / 10 = 0 ∨ a % 100 / 10 - 1 ≠ a % 10) : Ng_ar (Ng_go x a) = 1 - yBit (Ng_s x) (a % 10) := by
  unfold Ng_ar
  rw [if_neg (show Ng_t (Ng_go x a) ≠ 0 from by show a % 10 + 1 ≠ 0; omega)]
  show yBit (Ng_s (Ng_go x a)) (a % 10 + 1 - 1) = _
  rw [show a % 10 + 1 - 1 = a % 10 by omega, Ng_bit_go _ h, if_pos rfl]
/-- one goes to and fro at the post A -/
theorem Ng_se {φ : Nat → Nat → Nat} (O : yOk φ) {A e : Nat} (hA : A < φ 0 3) (h0 : φ 5 A = 0) (he : yAd φ e) {x : NgS} (T : Ng_t x = 0 → 3 ≤ Ng_r x) (z : Ng_z x A = e + 1 ∨ Ng_z x A = 0) :
    Ng_can φ x (100 * A + e) = true ∧ Ng_g φ (Ng_go x (100 * A + e)) ∧ Ng_t (Ng_go x (100 * A + e)) = e + 1 ∧ Ng_z (Ng_go x (100 * A + e)) A = e + 1 ∧ (∀ k, k < 2 → k ≠ A → Ng_z (Ng_go x (100 * A + e)) k = Ng_z x k) ∧
    (∀ p, yBit (Ng_s (Ng_go x (100 * A + e))) p = if p = e then 1 - yBit (Ng_s x) p else yBit (Ng_s x) p) ∧ Ng_ar (Ng_go x (100 * A + e)) = 1 - yBit (Ng_s x) e ∧
    (yBit (Ng_s x) e = Ng_ar x → Ng_r (Ng_go x (100 * A + e)) = min 3 (Ng_r x + 1)) ∧ 1 ≤ Ng_r (Ng_go x (100 * A + e)) ∧ (100 * A + e) % 10 = e ∧ (100 * A + e) % 100 / 10 = 0 := by
  have p6 := O.persons
  have p2 := O.posts
  have e6 := he.1
  have d1 : (100 * A + e) % 10 = e := by omega
  have d2 : (100 * A + e) / 100 = A := by omega
  have d3 : (100 * A + e) % 100 / 10 = 0 := by omega
  have cn : Ng_can φ x (100 * A + e) = true := by
    refine Ng_can_iff.mpr ⟨by omega, by rw [d2]; exact hA, by rw [d1]; exact he, by rw [d3]; exact Nat.zero_le _, Or.inl d3, ?_, Or.inl (by rw [d2]; exact h0)⟩
    rw [d1, d2]
    unfold yBeh
    rcases z with z | z <;> rw [z] <;> simp
  refine ⟨cn, Ng_g_go O T cn, ?_, ?_, ?_, ?_, ?_, ?_, ?_, d1, d3⟩
  · show (100 * A + e) % 10 + 1 = _; rw [d1]
  · rw [Ng_z_go (by omega) (by omega), d2, if_pos rfl, d1]
  · intro k hk ne; rw [Ng_z_go hk (by omega), d2, if_neg ne]
  · intro p; rw [Ng_bit_go p (Or.inl d3), d1]
  · rw [Ng_ar_go2 (Or.inl d3), d1]
  · intro h; rw [Ng_r_go, d1, if_pos (Or.inr h)]
  · rw [Ng_r_go]
    split
    · exact Nat.le_min.mpr ⟨by decide, by omega⟩
    · exact Nat.le_refl _
theorem Ng_mv_app : ∀ (l m : List Nat) (x : NgS), Ng_mv x (l ++ m) = Ng_mv x l + Ng_mv (Ng_end x l) m := by
  intro l
  induction l with
  | nil => intro m x; show _ = 0 + _; rw [Nat.zero_add]; rfl
  | cons a l ih => intro m x; show _ + Ng_mv _ (l ++ m) = _ + Ng_mv _ l + _; rw [ih]; show _ + (_ + Ng_mv (Ng_end (Ng_go x a) l) m) = _; rw [Nat.add_assoc]; rfl
/-- three times to and fro -/
theorem Ng_s3 {φ : Nat → Nat → Nat} (O : yOk φ) {A e : Nat} (hA : A < φ 0 3) (h0 : φ 5 A = 0) (he : yAd φ e) {y : NgS} (g : Ng_g φ y) (z : Ng_z y A = e + 1) :
    ∃ w, w = Ng_end y [100 * A + e, 100 * A + e, 100 * A + e] ∧ Ng_ok φ y [100 * A + e, 100 * A + e, 100 * A + e] ∧ Ng_g φ w ∧ Ng_t w = e + 1 ∧ Ng_z w A = e + 1 ∧ (∀ k, k < 2 → k ≠ A → Ng_z w k = Ng_z y k) ∧
    (∀ p, yBit (Ng_s w) p = if p = e then 1 - yBit (Ng_s y) p else yBit (Ng_s y) p) ∧ Ng_ar w = 1 - yBit (Ng_s y) e ∧ 3 ≤ Ng_r w ∧ Ng_mv y [100 * A + e, 100 * A + e, 100 * A + e] ≤ 1 := by
  obtain ⟨a1, a2, a3, a4, a5, a6, a7, a8, a9, d1, d3⟩ := Ng_se O hA h0 he (x := y) (fun h => absurd h g.1) (Or.inl z)
  obtain ⟨b1, b2, b3, b4, b5, b6, b7, b8, b9, _, _⟩ := Ng_se O hA h0 he (x := Ng_go y (100 * A + e)) (fun h => absurd h a2.1) (Or.inl a4)
  obtain ⟨c1, c2, c3, c4, c5, c6, c7, c8, c9, _, _⟩ := Ng_se O hA h0 he (x := Ng_go (Ng_go y (100 * A + e)) (100 * A + e)) (fun h => absurd h b2.1) (Or.inl b4)
  have be := yBit_lt (Ng_s y) e
  have e1 : yBit (Ng_s (Ng_go y (100 * A + e))) e = 1 - yBit (Ng_s y) e := by rw [a6, if_pos rfl]
  have e2 : yBit (Ng_s (Ng_go (Ng_go y (100 * A + e)) (100 * A + e))) e = yBit (Ng_s y) e := by rw [b6, if_pos rfl, e1]; omega
  have r2 := b8 (by rw [a7, e1])
  have r3 := c8 (by rw [b7, e2, e1]; omega)
  have r2' : 2 ≤ Ng_r (Ng_go (Ng_go y (100 * A + e)) (100 * A + e)) := by rw [r2]; exact Nat.le_min.mpr ⟨by decide, by omega⟩
  refine ⟨_, rfl, ⟨a1, b1, c1, trivial⟩, c2, c3, c4, fun k hk ne => (c5 k hk ne).trans ((b5 k hk ne).trans (a5 k hk ne)), fun p => ?_, ?_, ?_, ?_⟩
  · show yBit (Ng_s (Ng_go (Ng_go (Ng_go y (100 * A + e)) (100 * A + e)) (100 * A + e))) p = _
    rw [c6]
    by_cases w : p = e
    · rw [if_pos w, if_pos w, w, e2]
    · rw [if_neg w, if_neg w, b6, if_neg w, a6, if_neg w]
  · show Ng_ar (Ng_go (Ng_go (Ng_go y (100 * A + e)) (100 * A + e)) (100 * A + e)) = _
    rw [c7, e2]
  · show 3 ≤ Ng_r (Ng_go (Ng_go (Ng_go y (100 * A + e)) (100 * A + e)) (100 * A + e))
    rw [r3]; exact Nat.le_min.mpr ⟨by decide, by omega⟩
  · show (if _ then 0 else 1) + ((if (100 * A + e) % 10 = Ng_t (Ng_go y (100 * A + e)) - 1 then 0 else 1) + ((if (100 * A + e) % 10 = Ng_t (Ng_go (Ng_go y (100 * A + e)) (100 * A + e)) - 1 then 0 else 1) + 0)) ≤ 1
    rw [if_pos (show (100 * A + e) % 10 = Ng_t (Ng_go y (100 * A + e)) - 1 by rw [a3, d1]; omega), if_pos (show (100 * A + e) % 10 = Ng_t (Ng_go (Ng_go y (100 * A + e)) (100 * A + e)) - 1 by rw [b3, d1]; omega)]
    split <;> omega
/-- a crossing at the other post, with e's help: the way and what it leaves -/
theorem Ng_mac {φ : Nat → Nat → Nat} (O : yOk φ) {A e : Nat} (hA : A < φ 0 3) (h0 : φ 5 A = 0) (he : yAd φ e) {y : NgS} (g : Ng_g φ y) (z : Ng_z y A = e + 1) {k p : Nat} (hk : k < φ 0 3) (nk : k ≠ A) (hp : yAd φ p) (nb : yBeh φ (Ng_z y k) p k = true) :
    ∃ u, Ng_ok φ y u ∧ Ng_g φ (Ng_end y u) ∧ Ng_z (Ng_end y u) A = e + 1 ∧ Ng_z (Ng_end y u) k = p + 1 ∧ (∀ q, yBit (Ng_s (Ng_end y u)) q = if q = p then 1 - yBit (Ng_s y) q else yBit (Ng_s y) q) ∧ u.length = 5 ∧ Ng_mv y u ≤ 3 ∧ Cg_kid u := by
  have p2 := O.posts
  have p6 := O.persons
  have pp := hp.1
  have ee := he.1
  obtain ⟨w, w0, w1, w2, w3, w4, w5, w6, w7, w8, w9⟩ := Ng_s3 O hA h0 he g z
  have c1 : (100 * k + p) % 10 = p := by omega
  have c2 : (100 * k + p) / 100 = k := by omega
  have c3 : (100 * k + p) % 100 / 10 = 0 := by omega
  have lk := O.looks k hk
  have k2 : k < 2 := by omega
  have be := yBit_lt (Ng_s y) e
  have bp := yBit_lt (Ng_s y) p
  have kid3 : ∀ a, a ∈ [100 * A + e, 100 * A + e, 100 * A + e] → a % 100 / 10 = 0 := by
    intro a ha
    have : a = 100 * A + e := by
      rcases List.mem_cons.mp ha with h | ha
      · exact h
      rcases List.mem_cons.mp ha with h | ha
      · exact h
      rcases List.mem_cons.mp ha with h | ha
      · exact h
      · cases ha
    rw [this]; omega
  by_cases q : yBit (Ng_s y) p = yBit (Ng_s y) e
  · obtain ⟨a1, a2, a3, a4, a5, a6, a7, a8, a9, d1, d3⟩ := Ng_se O hA h0 he (x := w) (fun h => absurd h w2.1) (Or.inl w4)
    have we : yBit (Ng_s w) e = 1 - yBit (Ng_s y) e := by rw [w6, if_pos rfl]
    have r4 := a8 (by rw [w7, we])
    have all : ∀ q, yBit (Ng_s (Ng_go w (100 * A + e))) q = yBit (Ng_s y) q := fun q => by
      rw [a6, w6]
      by_cases h : q = e
      · rw [if_pos h, if_pos h, h]; omega
      · rw [if_neg h, if_neg h]
    have can : Ng_can φ (Ng_go w (100 * A + e)) (100 * k + p) = true := by
      refine Ng_can_iff.mpr ⟨by omega, by rw [c2]; exact hk, by rw [c1]; exact hp, by rw [c3]; exact Nat.zero_le _, Or.inl c3, by rw [c1, c2, a5 k k2 nk, w5 k k2 nk]; exact nb, Or.inr (Or.inr ⟨?_, ?_⟩)⟩
      · rw [c1, all, a7, we]; omega
      · rw [c2, r4]; exact Nat.le_min.mpr ⟨by omega, by omega⟩
    have g' := Ng_g_go O (fun h => absurd h a2.1) can
    have en : Ng_end y ([100 * A + e, 100 * A + e, 100 * A + e] ++ [100 * A + e, 100 * k + p]) = Ng_go (Ng_go w (100 * A + e)) (100 * k + p) := by rw [Ng_end_app, ← w0]; rfl
    refine ⟨[100 * A + e, 100 * A + e, 100 * A + e] ++ [100 * A + e, 100 * k + p], (Ng_ok_app _ _ _).mpr ⟨w1, by rw [← w0]; exact ⟨a1, can, trivial⟩⟩, by rw [en]; exact g', ?_, ?_, fun q => ?_, rfl, ?_, fun a ha => ?_⟩
    · rw [en, Ng_z_go (by omega) (by omega), c2, if_neg (fun h => nk h.symm), a4]
    · rw [en, Ng_z_go k2 (by omega), c2, if_pos rfl, c1]
    · rw [en, Ng_bit_go q (Or.inl c3), c1, all]
    · rw [Ng_mv_app, ← w0]
      show _ + ((if (100 * A + e) % 10 = Ng_t w - 1 then 0 else 1) + ((if _ then 0 else 1) + 0)) ≤ 3
      rw [if_pos (show (100 * A + e) % 10 = Ng_t w - 1 by rw [w3, d1]; omega)]
      split <;> omega
    · rcases List.mem_append.mp ha with h | h
      · exact kid3 a h
      · rcases List.mem_cons.mp h with h | h
        · rw [h]; exact d3
        rcases List.mem_cons.mp h with h | h
        · rw [h]; exact c3
        · cases h
  · have ne : p ≠ e := fun w => q (by rw [w])
    have can : Ng_can φ w (100 * k + p) = true := by
      refine Ng_can_iff.mpr ⟨by omega, by rw [c2]; exact hk, by rw [c1]; exact hp, by rw [c3]; exact Nat.zero_le _, Or.inl c3, by rw [c1, c2, w5 k k2 nk]; exact nb, Or.inr (Or.inr ⟨?_, by rw [c2]; omega⟩)⟩
      rw [c1, w6, if_neg ne, w7]; omega
    have g' := Ng_g_go O (fun h => absurd h w2.1) can
    have zA : Ng_z (Ng_go w (100 * k + p)) A = e + 1 := by rw [Ng_z_go (by omega) (by omega), c2, if_neg (fun h => nk h.symm), w4]
    obtain ⟨a1, a2, a3, a4, a5, a6, a7, a8, a9, d1, d3⟩ := Ng_se O hA h0 he (x := Ng_go w (100 * k + p)) (fun h => absurd h g'.1) (Or.inl zA)
    have en : Ng_end y ([100 * A + e, 100 * A + e, 100 * A + e] ++ [100 * k + p, 100 * A + e]) = Ng_go (Ng_go w (100 * k + p)) (100 * A + e) := by rw [Ng_end_app, ← w0]; rfl
    refine ⟨[100 * A + e, 100 * A + e, 100 * A + e] ++ [100 * k + p, 100 * A + e], (Ng_ok_app _ _ _).mpr ⟨w1, by rw [← w0]; exact ⟨can, a1, trivial⟩⟩, by rw [en]; exact a2, by rw [en]; exact a4, ?_, fun q => ?_, rfl, ?_, fun a ha => ?_⟩
    · rw [en, a5 k k2 nk, Ng_z_go k2 (by omega), c2, if_pos rfl, c1]
    · rw [en, a6, Ng_bit_go q (Or.inl c3), c1]
      have bq := yBit_lt (Ng_s y) q
      by_cases h : q = e
      · have hp' : ¬ q = p := fun v => ne (by rw [← v, h])
        rw [if_pos h, if_neg hp', if_neg hp', w6, if_pos h]; omega
      · rw [if_neg h, w6, if_neg h]
    · rw [Ng_mv_app, ← w0]
      show _ + ((if _ then 0 else 1) + ((if _ then 0 else 1) + 0)) ≤ 3
      split <;> split <;> omega
    · rcases List.mem_append.mp ha with h | h
      · exact kid3 a h
      · rcases List.mem_cons.mp h with h | h
        · rw [h]; exact c3
        rcases List.mem_cons.mp h with h | h
        · rw [h]; exact d3
        · cases h
/-- the first act at the post A is e's -/
def Ng_F (A e : Nat) : List Nat → Prop
  | [] => True
  | a :: v => if a / 100 = A then a % 10 = e else Ng_F A e v
/-- the way with looks asked goes with the way without -/
def Ng_I (φ : Nat → Nat → Nat) (A : Nat) (x y : NgS) (v : List Nat) : Prop :=
  (∀ p, yAd φ p → yBit (Ng_s x) p = yBit (Ng_s y) p) ∧ (∀ k, k < 2 → k ≠ A → Ng_z x k = Ng_z y k) ∧ (∃ e, yAd φ e ∧ Ng_z y A = e + 1 ∧ (Ng_z x A = e + 1 ∨ (Ng_z x A = 0 ∧ Ng_F A e v))) ∧ Ng_g φ y
theorem Ng_sim {φ : Nat → Nat → Nat} (O : yOk φ) {A : Nat} (hA : A < φ 0 3) (h0 : φ 5 A = 0) : ∀ (v : List Nat) (x y : NgS), Ng_I φ A x y v → Ng_ok (Ng_rx φ) x v →
    ∃ m, Ng_ok φ y m ∧ (∀ p, yAd φ p → yBit (Ng_s (Ng_end x v)) p = yBit (Ng_s (Ng_end y m)) p) ∧ (∀ q, ¬ yAd φ q → yBit (Ng_s (Ng_end y m)) q = yBit (Ng_s y) q) ∧ m.length ≤ 5 * v.length ∧ Ng_mv y m ≤ 3 * v.length ∧ Cg_kid m := by
  intro v
  induction v with
  | nil => intro x y I _; exact ⟨[], trivial, I.1, fun q _ => rfl, Nat.zero_le _, Nat.zero_le _, fun a h => nomatch h⟩
  | cons a v ih =>
    intro x y I k
    obtain ⟨I1, I2, ⟨e, he, I3, I4⟩, gy⟩ := I
    obtain ⟨h1, h2, h3, h4, h5, h6, h7⟩ := Ng_can_iff.mp k.1
    replace h2 : a / 100 < φ 0 3 := h2
    replace h3 : yAd φ (a % 10) := h3
    replace h6 : yBeh φ (Ng_z x (a / 100)) (a % 10) (a / 100) = true := h6
    have p2 := O.posts
    have p6 := O.persons
    have a6 := h3.1
    have a2 : a / 100 < 2 := by omega
    have bx : ∀ p, yAd φ p → yBit (Ng_s (Ng_go x a)) p = if p = a % 10 then 1 - yBit (Ng_s x) p else yBit (Ng_s x) p := fun p hp => by
      refine Ng_bit_go p ?_
      rcases h5 with h | h
      · exact Or.inl h
      · right; intro w; have := h.1; rw [w, show Ng_rx φ 0 4 = φ 0 4 from rfl, hp.2] at this; cases this
    have c1 : (100 * (a / 100) + a % 10) % 10 = a % 10 := by omega
    have c2 : (100 * (a / 100) + a % 10) / 100 = a / 100 := by omega
    have c3 : (100 * (a / 100) + a % 10) % 100 / 10 = 0 := by omega
    by_cases pa : a / 100 = A
    · have can : Ng_can φ y (100 * (a / 100) + a % 10) = true := by
        refine Ng_can_iff.mpr ⟨by omega, by rw [c2]; exact h2, by rw [c1]; exact h3, by rw [c3]; exact Nat.zero_le _, Or.inl c3, ?_, Or.inl (by rw [c2, pa]; exact h0)⟩
        rw [c1, c2]
        rcases I4 with z | ⟨z, f⟩
        · rw [pa, I3, ← z, ← pa]; exact h6
        · have : a % 10 = e := by
            have f' : (if a / 100 = A then a % 10 = e else Ng_F A e v) := f
            rw [if_pos pa] at f'; exact f'
          rw [pa, I3, this]; unfold yBeh; simp
      have g' := Ng_g_go O (fun h => absurd h gy.1) can
      have zy : Ng_z (Ng_go y (100 * (a / 100) + a % 10)) A = a % 10 + 1 := by rw [Ng_z_go (by omega) (by omega), c2, if_pos pa.symm, c1]
      have zx : Ng_z (Ng_go x a) A = a % 10 + 1 := by rw [Ng_z_go (by omega) (by omega), if_pos pa.symm]
      obtain ⟨m, m1, m2, m3, m4, m5, m6⟩ := ih (Ng_go x a) (Ng_go y (100 * (a / 100) + a % 10)) ⟨fun p hp => by
          rw [bx p hp, Ng_bit_go p (Or.inl c3), c1, I1 p hp], fun k hk ne => by
          rw [Ng_z_go hk (by omega), Ng_z_go hk (by omega), c2, c1, if_neg (by rw [pa]; exact ne), if_neg (by rw [pa]; exact ne), I2 k hk ne], ⟨a % 10, h3, zy, Or.inl zx⟩, g'⟩ k.2
      refine ⟨(100 * (a / 100) + a % 10) :: m, ⟨can, m1⟩, m2, fun q hq => ?_, ?_, ?_, fun b hb => ?_⟩
      · show yBit (Ng_s (Ng_end (Ng_go y _) m)) q = _
        rw [m3 q hq, Ng_bit_go q (Or.inl c3), c1, if_neg (fun w => hq (by rw [w]; exact h3))]
      · show m.length + 1 ≤ 5 * (v.length + 1); omega
      · show (if _ then 0 else 1) + Ng_mv _ m ≤ 3 * (v.length + 1)
        split <;> omega
      · rcases List.mem_cons.mp hb with w | w
        · rw [w]; exact c3
        · exact m6 b w
    · obtain ⟨u, u1, u2, u3, u4, u5, u6, u7, u8⟩ := Ng_mac O hA h0 he gy I3 h2 pa h3 (by rw [← I2 _ a2 pa]; exact h6)
      have I4' : Ng_z (Ng_go x a) A = e + 1 ∨ (Ng_z (Ng_go x a) A = 0 ∧ Ng_F A e v) := by
        rw [Ng_z_go (by omega) a2, if_neg (fun w => pa w.symm)]
        rcases I4 with z | ⟨z, f⟩
        · exact Or.inl z
        · right
          refine ⟨z, ?_⟩
          have f' : (if a / 100 = A then a % 10 = e else Ng_F A e v) := f
          rw [if_neg pa] at f'; exact f'
      obtain ⟨m, m1, m2, m3, m4, m5, m6⟩ := ih (Ng_go x a) (Ng_end y u) ⟨fun p hp => by
          rw [bx p hp, u5 p, I1 p hp], fun k hk ne => by
          have : k = a / 100 := by omega
          rw [Ng_z_go hk a2, if_pos this, this, u4], ⟨e, he, u3, I4'⟩, u2⟩ k.2
      refine ⟨u ++ m, (Ng_ok_app _ _ _).mpr ⟨u1, m1⟩, fun p hp => by rw [Ng_end_app]; exact m2 p hp, fun q hq => ?_, ?_, ?_, fun b hb => ?_⟩
      · rw [Ng_end_app, m3 q hq, u5 q, if_neg (fun w => hq (by rw [w]; exact h3))]
      · rw [List.length_append, u6]; show 5 + m.length ≤ 5 * (v.length + 1); omega
      · rw [Ng_mv_app]; show _ ≤ 3 * (v.length + 1); omega
      · rcases List.mem_append.mp hb with h | h
        · exact u8 b h
        · exact m6 b h
