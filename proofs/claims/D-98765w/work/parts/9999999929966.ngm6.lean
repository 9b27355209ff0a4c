set_option maxRecDepth 100000
/-! not comparing: short rows by days and by crossings -/
theorem Ng_bit_kid {s a q : Nat} (h : a % 100 / 10 = q + 1) (ne : q ≠ a % 10) : yBit (s ^^^ Cg_fl a) q = 1 - yBit s q := by
  have fl : Cg_fl a = 2 ^ (a % 10) ||| 2 ^ q := by
    unfold Cg_fl
    rw [if_neg (by omega), h, show q + 1 - 1 = q by omega]
  have this : ¬ a % 10 = q := fun e => ne e.symm
  rw [bBit, bBit, Nat.testBit_xor, fl, Nat.testBit_or, Nat.testBit_two_pow, Nat.testBit_two_pow]
  simp [this]
  cases s.testBit q <;> rfl
/-- e carries the child q -/
theorem Ng_carry {φ : Nat → Nat → Nat} (O : yOk φ) {A e q : Nat} (hA : A < φ 0 3) (h0 : φ 5 A = 0) (he : yAd φ e) (hq : q < φ 0 2) (kq : yBit (φ 0 4) q = 1) {x : NgS} (g : Ng_g φ x) (z : Ng_z x A = e + 1) (sq : yBit (Ng_s x) q = yBit (Ng_s x) e) :
    Ng_can φ x (100 * A + 10 * (q + 1) + e) = true ∧ Ng_g φ (Ng_go x (100 * A + 10 * (q + 1) + e)) ∧ Ng_t (Ng_go x (100 * A + 10 * (q + 1) + e)) = e + 1 ∧ Ng_z (Ng_go x (100 * A + 10 * (q + 1) + e)) A = e + 1 ∧ (∀ k, k < 2 → k ≠ A → Ng_z (Ng_go x (100 * A + 10 * (q + 1) + e)) k = Ng_z x k) ∧
    (∀ p, yBit (Ng_s (Ng_go x (100 * A + 10 * (q + 1) + e))) p = if p = e ∨ p = q then 1 - yBit (Ng_s x) p else yBit (Ng_s x) p) ∧ (100 * A + 10 * (q + 1) + e) % 10 = e := by
  have p6 := O.persons
  have p2 := O.posts
  have e6 := he.1
  have qe : q ≠ e := fun w => by rw [w, he.2] at kq; cases kq
  have d1 : (100 * A + 10 * (q + 1) + e) % 10 = e := by omega
  have d2 : (100 * A + 10 * (q + 1) + e) / 100 = A := by omega
  have d3 : (100 * A + 10 * (q + 1) + e) % 100 / 10 = q + 1 := by omega
  have cn : Ng_can φ x (100 * A + 10 * (q + 1) + e) = true := by
    refine Ng_can_iff.mpr ⟨by omega, by rw [d2]; exact hA, by rw [d1]; exact he, by rw [d3]; omega, Or.inr ?_, ?_, Or.inl (by rw [d2]; exact h0)⟩
    · rw [d3, d1, show q + 1 - 1 = q by omega]; exact ⟨kq, sq⟩
    · rw [d1, d2, z]; unfold yBeh; simp
  refine ⟨cn, Ng_g_go O (fun h => absurd h g.1) cn, ?_, ?_, ?_, ?_, d1⟩
  · show (100 * A + 10 * (q + 1) + e) % 10 + 1 = _; rw [d1]
  · rw [Ng_z_go (by omega) (by omega), d2, if_pos rfl, d1]
  · intro k hk ne; rw [Ng_z_go hk (by omega), d2, if_neg ne]
  · intro p
    by_cases w : p = q
    · rw [if_pos (Or.inr w), w]
      exact Ng_bit_kid d3 (by rw [d1]; exact qe)
    · rw [Ng_bit_go p (Or.inr (by rw [d3]; omega)), d1]
      by_cases v : p = e
      · rw [if_pos v, if_pos (Or.inl v)]
      · rw [if_neg v, if_neg (fun u => u.elim v w)]
theorem Ng_lf0 {φ : Nat → Nat → Nat} {x : NgS} (g : Ng_g φ x) {a e : Nat} (t : Ng_t x = e + 1) (ha : a % 10 = e) : Ng_lf x a = 0 := by
  unfold Ng_lf
  rw [ha, g.2.1, if_pos]
  unfold Ng_ar; rw [if_neg g.1, t]; rfl
/-- the children first -/
theorem Ng_kids {φ : Nat → Nat → Nat} (O : yOk φ) {A e : Nat} (hA : A < φ 0 3) (h0 : φ 5 A = 0) (he : yAd φ e) (T : Nat) : ∀ (n : Nat) (y : NgS), Ng_g φ y → Ng_t y = e + 1 → Ng_z y A = e + 1 →
    ∃ m, Ng_ok φ y m ∧ Ng_g φ (Ng_end y m) ∧ Ng_t (Ng_end y m) = e + 1 ∧ Ng_z (Ng_end y m) A = e + 1 ∧ (∀ k, k < 2 → k ≠ A → Ng_z (Ng_end y m) k = Ng_z y k) ∧
    (∀ p, yBit (Ng_s (Ng_end y m)) p = if p < n ∧ p < φ 0 2 ∧ yBit (φ 0 4) p = 1 then yBit T p else yBit (Ng_s y) p) ∧ m.length ≤ 2 * n ∧ Ng_lo y m = 0 := by
  intro n
  induction n with
  | zero => intro y g t z; exact ⟨[], trivial, g, t, z, fun _ _ _ => rfl, fun p => by rw [if_neg (by omega)]; rfl, Nat.le_refl _, rfl⟩
  | succ n ih =>
    intro y g t z
    obtain ⟨m, m1, m2, m3, m4, m5, m6, m7, m8⟩ := ih y g t z
    by_cases c : n < φ 0 2 ∧ yBit (φ 0 4) n = 1 ∧ yBit (Ng_s (Ng_end y m)) n ≠ yBit T n
    · obtain ⟨c1, c2, c3⟩ := c
      have ne : n ≠ e := fun w => by rw [w, he.2] at c2; cases c2
      have bT := yBit_lt T n
      have bn := yBit_lt (Ng_s (Ng_end y m)) n
      have bE := yBit_lt (Ng_s (Ng_end y m)) e
      have nad : ¬(e < n + 1 ∧ e < φ 0 2 ∧ yBit (φ 0 4) e = 1) := fun w => by have := w.2.2; rw [he.2] at this; cases this
      have nad0 : ¬(e < n ∧ e < φ 0 2 ∧ yBit (φ 0 4) e = 1) := fun w => by have := w.2.2; rw [he.2] at this; cases this
      have fin : ∀ w : NgS, (∀ p, yBit (Ng_s w) p = if p = n then 1 - yBit (Ng_s (Ng_end y m)) p else yBit (Ng_s (Ng_end y m)) p) → ∀ p, yBit (Ng_s w) p = if p < n + 1 ∧ p < φ 0 2 ∧ yBit (φ 0 4) p = 1 then yBit T p else yBit (Ng_s y) p := by
        intro w hw p
        rw [hw p]
        by_cases v : p = n
        · rw [if_pos v, if_pos (by rw [v]; exact ⟨by omega, c1, c2⟩), v]; omega
        · rw [if_neg v, m6 p]
          by_cases u : p < n ∧ p < φ 0 2 ∧ yBit (φ 0 4) p = 1
          · rw [if_pos u, if_pos ⟨by omega, u.2⟩]
          · rw [if_neg u, if_neg (fun x => u ⟨by have := x.1; omega, x.2⟩)]
      by_cases sd : yBit (Ng_s (Ng_end y m)) n = yBit (Ng_s (Ng_end y m)) e
      · obtain ⟨a1, a2, a3, a4, a5, a6, a7⟩ := Ng_carry O hA h0 he c1 c2 m2 m4 sd
        obtain ⟨b1, b2, b3, b4, b5, b6, b7, b8, b9, d1, d3⟩ := Ng_se O hA h0 he (x := Ng_go (Ng_end y m) (100 * A + 10 * (n + 1) + e)) (fun h => absurd h a2.1) (Or.inl a4)
        have en : Ng_end y (m ++ [100 * A + 10 * (n + 1) + e, 100 * A + e]) = Ng_go (Ng_go (Ng_end y m) (100 * A + 10 * (n + 1) + e)) (100 * A + e) := by rw [Ng_end_app]; rfl
        refine ⟨m ++ [100 * A + 10 * (n + 1) + e, 100 * A + e], (Ng_ok_app _ _ _).mpr ⟨m1, a1, b1, trivial⟩, by rw [en]; exact b2, by rw [en]; exact b3, by rw [en]; exact b4, fun k hk nk => by rw [en, b5 k hk nk, a5 k hk nk, m5 k hk nk], ?_, ?_, ?_⟩
        · rw [en]
          refine fin _ fun p => ?_
          rw [b6, a6]
          have bp := yBit_lt (Ng_s (Ng_end y m)) p
          by_cases u : p = e
          · rw [if_pos u, if_pos (Or.inl u), if_neg (fun v => ne (by rw [← v, u]))]; omega
          · rw [if_neg u]
            by_cases v : p = n
            · rw [if_pos (Or.inr v), if_pos v]
            · rw [if_neg (fun x => x.elim u v), if_neg v]
        · rw [List.length_append]; show m.length + 2 ≤ 2 * (n + 1); omega
        · rw [Ng_lo_S, Ng_S_app, ← Ng_lo_S, m8]
          show 0 + (Ng_lf (Ng_end y m) (100 * A + 10 * (n + 1) + e) + (Ng_lf (Ng_go (Ng_end y m) (100 * A + 10 * (n + 1) + e)) (100 * A + e) + 0)) = 0
          rw [Ng_lf0 m2 m3 a7, Ng_lf0 a2 a3 d1]
      · obtain ⟨b1, b2, b3, b4, b5, b6, b7, b8, b9, d1, d3⟩ := Ng_se O hA h0 he (x := Ng_end y m) (fun h => absurd h m2.1) (Or.inl m4)
        obtain ⟨a1, a2, a3, a4, a5, a6, a7⟩ := Ng_carry O hA h0 he c1 c2 b2 b4 (by rw [b6, b6, if_neg ne, if_pos rfl]; omega)
        have en : Ng_end y (m ++ [100 * A + e, 100 * A + 10 * (n + 1) + e]) = Ng_go (Ng_go (Ng_end y m) (100 * A + e)) (100 * A + 10 * (n + 1) + e) := by rw [Ng_end_app]; rfl
        refine ⟨m ++ [100 * A + e, 100 * A + 10 * (n + 1) + e], (Ng_ok_app _ _ _).mpr ⟨m1, b1, a1, trivial⟩, by rw [en]; exact a2, by rw [en]; exact a3, by rw [en]; exact a4, fun k hk nk => by rw [en, a5 k hk nk, b5 k hk nk, m5 k hk nk], ?_, ?_, ?_⟩
        · rw [en]
          refine fin _ fun p => ?_
          rw [a6, b6]
          have bp := yBit_lt (Ng_s (Ng_end y m)) p
          by_cases u : p = e
          · rw [if_pos (Or.inl u), if_pos u, if_neg (fun v => ne (by rw [← v, u]))]; omega
          · rw [if_neg u]
            by_cases v : p = n
            · rw [if_pos (Or.inr v), if_pos v]
            · rw [if_neg (fun x => x.elim u v), if_neg v]
        · rw [List.length_append]; show m.length + 2 ≤ 2 * (n + 1); omega
        · rw [Ng_lo_S, Ng_S_app, ← Ng_lo_S, m8]
          show 0 + (Ng_lf (Ng_end y m) (100 * A + e) + (Ng_lf (Ng_go (Ng_end y m) (100 * A + e)) (100 * A + 10 * (n + 1) + e) + 0)) = 0
          rw [Ng_lf0 m2 m3 d1, Ng_lf0 b2 b3 a7]
    · refine ⟨m, m1, m2, m3, m4, m5, fun p => ?_, by omega, m8⟩
      by_cases u : p < n ∧ p < φ 0 2 ∧ yBit (φ 0 4) p = 1
      · rw [m6 p, if_pos u, if_pos ⟨by omega, u.2⟩]
      · by_cases v : p < n + 1 ∧ p < φ 0 2 ∧ yBit (φ 0 4) p = 1
        · have pn : p = n := by
            have := v.1
            refine Classical.byContradiction fun w => u ⟨by omega, v.2⟩
          rw [if_pos v]
          refine Classical.byContradiction fun w => c ?_
          rw [pn] at v w
          exact ⟨v.2.1, v.2.2, w⟩
        · rw [m6 p, if_neg u, if_neg v]
theorem Ng_Fex {φ : Nat → Nat → Nat} {A d : Nat} (hd : yAd φ d) : ∀ (v : List Nat) (x : NgS), Ng_ok (Ng_rx φ) x v → ∃ e, yAd φ e ∧ Ng_F A e v := by
  intro v
  induction v with
  | nil => intro x _; exact ⟨d, hd, trivial⟩
  | cons a v ih =>
    intro x k
    by_cases h : a / 100 = A
    · exact ⟨a % 10, (Ng_can_iff.mp k.1).2.2.1, by show (if a / 100 = A then a % 10 = a % 10 else _); rw [if_pos h]⟩
    · obtain ⟨e, e1, e2⟩ := ih _ k.2
      exact ⟨e, e1, by show (if a / 100 = A then a % 10 = e else Ng_F A e v); rw [if_neg h]; exact e2⟩
/-- the raw state as one of this game -/
theorem Ng_start {φ : Nat → Nat → Nat} (O : yOk φ) (hc : φ 0 7 = 0) {l0 : List Nat} {σ : ySt} (r0 : yRun φ yFirst l0 = some σ) : ∃ x, Ng_rel σ x ∧ Ng_d x = σ.sd := by
  have S := bRun_ok O _ _ _ (yFirst_ok φ) r0
  have q : ∀ j, j < 4 → ∀ s, s < 2 → yFit j s 1 = true := by decide +kernel
  obtain ⟨x, _, R, _⟩ := Ng_of_run O hc l0 yFirst σ (0, 0, 0, 3, 0, 0, 0) (yFirst_ok φ) ⟨rfl, rfl, rfl, (by decide : 0 < 2), fun j hj => ⟨fun _ => hj, fun _ => q j (by omega) 0 (by decide)⟩, fun _ => ⟨rfl, rfl⟩, fun h => absurd rfl h, (by decide : 3 ≤ 3)⟩ r0
  obtain ⟨R1, R2, R3, R4, R5, R6, R7, R8⟩ := R
  refine ⟨(Ng_t x, Ng_s x, σ.sd, Ng_r x, Ng_z x 0, Ng_z x 1, Ng_k x), ⟨R1, R2, R3, S.sd, ?_, R6, ?_, R8⟩, rfl⟩
  · intro j hj
    by_cases t : Ng_t x = 0
    · obtain ⟨m1, m2⟩ := R6 t
      show yFit j (if Ng_t x = 0 then σ.sd else _) σ.mk = true ↔ j ≤ Ng_r x
      rw [if_pos t, m1, m2]
      exact ⟨fun _ => hj, fun _ => q j (by omega) _ S.sd⟩
    · have := R5 j hj
      unfold Ng_ar at this
      rw [if_neg t] at this
      show yFit j (if Ng_t x = 0 then σ.sd else yBit (Ng_s x) (Ng_t x - 1)) σ.mk = true ↔ j ≤ Ng_r x
      rw [if_neg t]; exact this
  · intro t
    replace t : Ng_t x ≠ 0 := t
    have := R7 t
    unfold Ng_ar at this
    rw [if_neg t] at this
    show 2 ≤ σ.mk ∧ σ.mk % 2 = 1 - (if Ng_t x = 0 then σ.sd else yBit (Ng_s x) (Ng_t x - 1))
    rw [if_neg (show ¬Ng_t x = 0 from t)]; exact this
/-- a short row -/
theorem Ng_short {φ : Nat → Nat → Nat} (O : yOk φ) (hc : φ 0 7 = 0) {A : Nat} (hA : A < φ 0 3) (h0 : φ 5 A = 0) {d : Nat} (hd : yAd φ d) {l0 : List Nat} {σ : ySt} (r0 : yRun φ yFirst l0 = some σ) {V : List Nat} {T : ySt} (rV : yRun (Ng_rx φ) σ V = some T) (cV : cr V ≤ 38) :
    ∃ m τ, yRun φ σ m = some τ ∧ τ.ov = T.ov ∧ cr m ≤ 318 ∧ lo m ≤ 7 := by
  have S := bRun_ok O _ _ _ (yFirst_ok φ) r0
  have hz := uTk_run O _ _ _ (fun w _ => Or.inl (by unfold ySt.z; split <;> rfl)) r0
  obtain ⟨x, R, xd⟩ := Ng_start O hc r0
  have Ox := Ng_rx_ok O
  have ST := bRun_ok Ox _ _ _ S rV
  obtain ⟨y, v1, v2, _⟩ := Ng_of_run (φ := Ng_rx φ) Ox hc V σ T x S R rV
  obtain ⟨k0, k1⟩ := (Ng_run_iff _ _ _).mp v1
  have lv := (Cg_filter_pr φ 0 V (0, 0, 0, 0)).2
  generalize hv : V.filter (· ≠ 200) = v at *
  have p2 := O.posts
  have p6 := O.persons
  have A2 : A < 2 := by omega
  -- who goes to and fro
  obtain ⟨e, he, ze⟩ : ∃ e, yAd φ e ∧ (Ng_z x A = e + 1 ∨ (Ng_z x A = 0 ∧ Ng_F A e v)) := by
    by_cases z : Ng_z x A = 0
    · obtain ⟨e, e1, e2⟩ := Ng_Fex (A := A) hd v x k0
      exact ⟨e, e1, Or.inr ⟨z, e2⟩⟩
    · have t := hz A A2
      have zz : σ.z A = Ng_z x A := by
        unfold ySt.z
        by_cases a0 : A = 0
        · rw [if_pos a0, a0]; exact R.1
        · rw [if_neg a0, R.2.1, show A = 1 by omega]
      rw [zz] at t
      rcases t with t | t
      · exact absurd t z
      · exact ⟨Ng_z x A - 1, t, Or.inl (by omega)⟩
  have zx : Ng_z x A = e + 1 ∨ Ng_z x A = 0 := ze.elim Or.inl fun h => Or.inr h.1
  obtain ⟨a1, a2, a3, a4, a5, a6, a7, a8, a9, d1, d3⟩ := Ng_se O hA h0 he (x := x) (fun h => by rw [(R.2.2.2.2.2.1 h).2]; exact Nat.le_refl _) zx
  obtain ⟨b1, b2, b3, b4, b5, b6, b7, b8, b9, _, _⟩ := Ng_se O hA h0 he (x := Ng_go x (100 * A + e)) (fun h => absurd h a2.1) (Or.inl a4)
  have bits : ∀ p, yBit (Ng_s (Ng_go (Ng_go x (100 * A + e)) (100 * A + e))) p = yBit (Ng_s x) p := fun p => by
    rw [b6, a6]
    have := yBit_lt (Ng_s x) p
    by_cases h : p = e
    · rw [if_pos h, if_pos h]; omega
    · rw [if_neg h, if_neg h]
  obtain ⟨K, q1, q2, q3, q4, q5, q6, q7, q8⟩ := Ng_kids O hA h0 he T.ov 6 (Ng_go (Ng_go x (100 * A + e)) (100 * A + e)) b2 b3 b4
  have adq : ∀ p, yAd φ p → yBit (Ng_s (Ng_end (Ng_go (Ng_go x (100 * A + e)) (100 * A + e)) K)) p = yBit (Ng_s x) p := fun p hp => by
    rw [q6, if_neg (fun w => by have := w.2.2; rw [hp.2] at this; cases this), bits]
  obtain ⟨m, m1, m2, m3, m4, m5, m6⟩ := Ng_sim O hA h0 v x _ ⟨fun p hp => (adq p hp).symm, fun k hk nk => by rw [q5 k hk nk, b5 k hk nk, a5 k hk nk], ⟨e, he, q4, ze⟩, q2⟩ k0
  obtain ⟨n, n1, n2, n3, n4, n5⟩ := Ng_few O q2 m1 m6
  generalize hy : Ng_go (Ng_go x (100 * A + e)) (100 * A + e) = y2 at *
  have ok : Ng_ok φ x ([100 * A + e, 100 * A + e] ++ (K ++ n)) := by
    refine ⟨a1, b1, ?_⟩
    show Ng_ok φ (Ng_go (Ng_go x (100 * A + e)) (100 * A + e)) (K ++ n)
    rw [hy]
    exact (Ng_ok_app _ _ _).mpr ⟨q1, n1⟩
  have en : Ng_end x ([100 * A + e, 100 * A + e] ++ (K ++ n)) = Ng_end (Ng_end y2 K) n := by
    show Ng_end (Ng_go (Ng_go x (100 * A + e)) (100 * A + e)) (K ++ n) = _
    rw [hy, Ng_end_app]
  obtain ⟨τ, t1, t2, t3⟩ := Ng_raw_run O hc _ σ x _ S R xd.symm ((Ng_run_iff _ _ _).mpr ⟨ok, rfl⟩)
  have lt := Ng_ok_lt _ _ ok
  obtain ⟨_, p2', p3'⟩ := Ng_raw_pr φ 0 ([100 * A + e, 100 * A + e] ++ (K ++ n)) x fun a ha e => by have := lt a ha; omega
  refine ⟨_, τ, t1, ?_, ?_, ?_⟩
  · -- sides
    have s1 : τ.ov = Ng_s (Ng_end (Ng_end y2 K) m) := by rw [t2.2.2.1, en, n2]
    apply Nat.eq_of_testBit_eq
    intro i
    have L1 := t3.ov
    have L2 : T.ov < 2 ^ φ 0 2 := ST.ov
    by_cases hi : i < φ 0 2
    · have : yBit τ.ov i = yBit T.ov i := by
        rw [s1]
        by_cases ad : yAd φ i
        · rw [← m2 i ad, ← k1, ← v2.2.2.1]
        · rw [m3 i ad, q6, if_pos]
          refine ⟨by omega, hi, ?_⟩
          have := yBit_lt (φ 0 4) i
          refine Classical.byContradiction fun w => ad ⟨hi, by omega⟩
      rw [bBit, bBit] at this
      revert this
      cases τ.ov.testBit i <;> cases T.ov.testBit i <;> simp
    · rw [Nat.testBit_lt_two_pow (Nat.lt_of_lt_of_le L1 (Nat.pow_le_pow_right (by decide) (by omega))), Nat.testBit_lt_two_pow (Nat.lt_of_lt_of_le L2 (Nat.pow_le_pow_right (by decide) (by omega)))]
  · rw [p3', List.length_append, List.length_append]
    show 2 + (K.length + n.length) ≤ 318
    omega
  · rw [p2', Ng_lo_S, Ng_S_app, Ng_S_app, ← Ng_lo_S, ← Ng_lo_S, ← Ng_lo_S]
    have e1 : Ng_end x [100 * A + e, 100 * A + e] = y2 := hy
    have e2 : Ng_lo x [100 * A + e, 100 * A + e] ≤ 1 := by
      show Ng_lf x (100 * A + e) + (Ng_lf (Ng_go x (100 * A + e)) (100 * A + e) + 0) ≤ 1
      rw [Ng_lf0 a2 a3 d1]
      unfold Ng_lf; split <;> omega
    rw [e1, q8]
    omega
/-- no loaf behind a loaf in a least row -/
theorem Ng_lo_le {φ : Nat → Nat → Nat} (O : yOk φ) (hl : 0 < φ 0 0) {b : Nat} {σ : ySt} (S : ySok φ σ) {l : List Nat} (W : bLe φ b σ l) : lo l ≤ cr l + 1 := by
  have aux : ∀ (l : List Nat), (∀ i, i + 1 < l.length → ac l i = 200 → ac l (i + 1) ≠ 200) → lo l ≤ cr l + 1 ∧ (ac l 0 ≠ 200 → lo l ≤ cr l) := by
    intro l
    induction l with
    | nil => intro _; exact ⟨Nat.zero_le _, fun _ => Nat.le_refl _⟩
    | cons a l ih =>
      intro h
      obtain ⟨i1, i2⟩ := ih fun i hi e => by
        have := h (i + 1) (by show i + 1 + 1 < l.length + 1; omega)
        exact this e
      by_cases g : a = 200
      · refine ⟨?_, fun n => absurd g n⟩
        show (if a = 200 then 1 else 0) + lo l ≤ (if a = 200 then 0 else 1) + cr l + 1
        rw [if_pos g, if_pos g]
        by_cases n : l = []
        · rw [n]; exact Nat.le_refl _
        · have : ac l 0 ≠ 200 := by
            have := h 0 (by show 0 + 1 < l.length + 1; have := List.length_pos_iff.mpr n; omega) g
            exact this
          have := i2 this
          omega
      · have : lo (a :: l) ≤ cr (a :: l) := by
          show (if a = 200 then 1 else 0) + lo l ≤ (if a = 200 then 0 else 1) + cr l
          rw [if_neg g, if_neg g]; omega
        exact ⟨by omega, fun _ => this⟩
  obtain ⟨⟨τ, r, E⟩, _⟩ := id W
  refine (aux l fun i hi e1 e2 => ?_).1
  have s1 := bAt_step r (i := i) (by omega)
  have s2 := bAt_step r (i := i + 1) hi
  rw [← ac_get (by omega), e1] at s1
  rw [← ac_get hi, e2] at s2
  have Si := bAt_ok O S r i
  exact bAt_ne hl W (i := i) (j := i + 2) (by omega) (by omega) (by rw [s2.2, s1.2, bLoaf2 Si])
/-- THE BOUND BY DAYS AND BY CROSSINGS, NOT COMPARING, where a post asks for no looks -/
theorem Ng_bd {φ : Nat → Nat → Nat} (O : yOk φ) (hl : 0 < φ 0 0) (hc : φ 0 7 = 0) {A : Nat} (hA : A < φ 0 3) (h0 : φ 5 A = 0) {d : Nat} (hd : yAd φ d) {l0 : List Nat} {σ : ySt} (r0 : yRun φ yFirst l0 = some σ) {b : Nat} (hb : b = 0 ∨ b = 2) : yBd1 φ b σ := by
  intro m τ rm em least
  have S := bRun_ok O _ _ _ (yFirst_ok φ) r0
  have hz := uTk_run O _ _ _ (fun w _ => Or.inl (by unfold ySt.z; split <;> rfl)) r0
  obtain ⟨m', W', len, sc, C⟩ := cDrop_least O S (⟨⟨τ, rm, em⟩, least⟩ : bLe φ b σ m)
  obtain ⟨⟨τ', r', E'⟩, least'⟩ := id W'
  obtain ⟨V, T, r1, e1, p1, l1, c1⟩ := uShort (φ := Ng_rx φ) (Ng_rx_ok O) (fun k _ => rfl) b S (fun h => absurd hc h) hz (cr m') m' τ' (Nat.le_refl _) (Ng_rx_run _ _ _ r') C
  obtain ⟨n, τn, n1, n2, n3, n4⟩ := Ng_short O hc hA h0 hd r0 r1 c1
  have le := least' n τn n1 (by unfold yIsE; rw [n2, e1]; exact E')
  have lo2 := Ng_lo_le O hl S W'
  have cl := cr_lo m'
  have lam := O.loaf
  have mul := Nat.mul_le_mul lam n4
  rcases hb with h | h
  · subst h
    have z : ∀ l, yPr φ 0 l = 0 := by
      intro l
      induction l with
      | nil => rfl
      | cons a l ih => show yPr1 φ 0 a + yPr φ 0 l = 0; rw [ih]; rfl
    rw [z, z, Cg_days φ (by decide), Cg_days φ (by decide)] at le
    rw [Cg_days φ (by decide)] at sc
    have ge : lo m' ≤ φ 0 0 * lo m' := Nat.le_mul_of_pos_left _ hl
    rw [Cg_days φ (by decide)]
    rw [Cg_days φ (by decide)] at sc
    have : cr m' + φ 0 0 * lo m' ≤ 318 + 9 * 7 := by
      rcases le with le | ⟨_, le⟩
      · omega
      · omega
    refine ⟨by omega, fun _ => by omega⟩
  · subst h
    rw [kPr, kPr] at le
    rw [kSc] at sc ⊢
    rw [kSc] at sc
    have : cr m' ≤ 318 := by
      rcases le with le | ⟨le, _⟩ <;> omega
    refine ⟨by omega, fun h => absurd h (by decide)⟩
/-- WHAT IS OWED OF THE BOUND NOW: risk alone -/
def zHard4 : Prop := ∀ φ, yOk φ → 0 < φ 0 0 → zMix φ → (∃ p, yAd φ p) → (φ 0 7 ≠ 0 → ∀ k, k < φ 0 3 → φ 5 k = 0 → ∃ k', k' < φ 0 3 ∧ (φ 3 k' < φ 3 k ∨ φ 4 k < φ 4 k')) → ∀ l σ, yRun φ yFirst l = some σ → yBd1 φ 1 σ
theorem hard3_of (h : zHard4) : zHard3 := by
  intro φ O hl mix ad hc l σ r b hb h2 lk
  obtain ⟨d, hd⟩ := ad
  obtain ⟨k, k', hk, hk', h0, hk1⟩ := id mix
  by_cases b1 : b = 1
  · subst b1; exact h φ O hl mix ⟨d, hd⟩ hc l σ r
  · by_cases c : φ 0 7 = 0
    · exact Ng_bd O hl c hk h0 hd r (by omega)
    · have : b = 0 := by
        refine Classical.byContradiction fun n => ?_
        exact c (h2 (by omega))
      subst this
      exact Cg_bd0 O hl c hk h0 r
