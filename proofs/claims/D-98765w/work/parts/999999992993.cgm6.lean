set_option maxRecDepth 100000
/-! by days, comparing: a row with the fewest loafs, then the fewest acts, is short -/
def Cg_zr (c : Nat → Nat → Nat) : Prop := ∀ x l, Cg_S c x l = 0
theorem Cg_lo7 {φ : Nat → Nat → Nat} (O : yOk φ) {A : Nat} (hA : A < φ 0 3) (h0 : φ 5 A = 0) {c1 : Nat → Nat → Nat} (Z : Cg_zr c1) {x : CgS} {T : Nat} {l : List Nat} (W : Cg_W φ c1 (fun f _ => f) (fun _ _ => 1) x T l) (kd : Cg_kid l) : Cg_lo x l ≤ 7 := by
  cases l with
  | nil => exact Nat.zero_le _
  | cons a l =>
    have g := Cg_g_go W.1.1.1
    have fl : Cg_lf x a ≤ 1 := by unfold Cg_lf; split <;> omega
    by_cases h7 : 7 ≤ Cg_lo (Cg_go x a) l
    · exfalso
      obtain ⟨m, m1, m2, m3, m4⟩ := Cg_seven O hA h0 g W.1.1.2 (fun b hb => kd b (List.mem_cons_of_mem _ hb)) h7
      have e : a :: l = [a] ++ (l ++ []) := by simp
      rw [e] at W
      have := Cg_win W (m := m) m1 m2
      unfold Cg_lx at this
      rw [Z, Z] at this
      have l1 : Cg_S (fun f _ => f) (Cg_end x [a]) l = Cg_lo (Cg_go x a) l := (Cg_lo_S l _).symm
      have l2 : Cg_S (fun f _ => f) (Cg_end x [a]) m = Cg_lo (Cg_go x a) m := (Cg_lo_S m _).symm
      rw [l1, l2] at this
      omega
    · show Cg_lf x a + Cg_lo (Cg_go x a) l ≤ 7
      omega
/-- the bit e taken out -/
def Cg_cm (e s : Nat) : Nat := s % 2 ^ e + s / 2 ^ (e + 1) * 2 ^ e
theorem Cg_cm_lt : ∀ e, e < 6 → ∀ s, s < 64 → Cg_cm e s < 32 := by decide +kernel
theorem Cg_cm_all : ((List.range 6).all fun e => (List.range 64).all fun s => (List.range 64).all fun s' => !(Cg_cm e s == Cg_cm e s') || s == s' || s' == s ^^^ 2 ^ e) = true := by decide +kernel
theorem Cg_cm_inj {e s s' : Nat} (he : e < 6) (h1 : s < 64) (h2 : s' < 64) (h : Cg_cm e s = Cg_cm e s') : s = s' ∨ s' = s ^^^ 2 ^ e := by
  have := List.all_eq_true.mp (List.all_eq_true.mp (List.all_eq_true.mp Cg_cm_all e (List.mem_range.mpr he)) s (List.mem_range.mpr h1)) s' (List.mem_range.mpr h2)
  rw [h] at this
  simpa using this
/-- a person at an end of the noses -/
def Cg_E (φ : Nat → Nat → Nat) (e : Nat) : Prop := ∀ u q k k', u < φ 0 2 → q < φ 0 2 → k < φ 0 3 → k' < φ 0 3 → u ≠ e → q ≠ e → yBeh φ (u + 1) e k = true → yBeh φ (e + 1) q k' = true → ∃ K, K < φ 0 3 ∧ yBeh φ (u + 1) q K = true
theorem Cg_beh {φ : Nat → Nat → Nat} {u p k : Nat} (h : u ≠ p) : yBeh φ (u + 1) p k = true ↔ φ 2 u ≤ φ 2 p + φ 4 k ∧ φ 2 p ≤ φ 2 u + φ 4 k := by
  unfold yBeh
  simp [h]
theorem Cg_E_min {φ : Nat → Nat → Nat} {e : Nat} (h : ∀ p, p < φ 0 2 → φ 2 e ≤ φ 2 p) : Cg_E φ e := by
  intro u q k k' hu hq hk hk' nu nq b1 b2
  by_cases uq : u = q
  · exact ⟨k, hk, by unfold yBeh; simp [uq]⟩
  rw [Cg_beh nu] at b1
  rw [Cg_beh (Ne.symm nq)] at b2
  have := h u hu
  have := h q hq
  by_cases c : φ 4 k ≤ φ 4 k'
  · exact ⟨k', hk', (Cg_beh uq).mpr ⟨by omega, by omega⟩⟩
  · exact ⟨k, hk, (Cg_beh uq).mpr ⟨by omega, by omega⟩⟩
theorem Cg_E_max {φ : Nat → Nat → Nat} {e : Nat} (h : ∀ p, p < φ 0 2 → φ 2 p ≤ φ 2 e) : Cg_E φ e := by
  intro u q k k' hu hq hk hk' nu nq b1 b2
  by_cases uq : u = q
  · exact ⟨k, hk, by unfold yBeh; simp [uq]⟩
  rw [Cg_beh nu] at b1
  rw [Cg_beh (Ne.symm nq)] at b2
  have := h u hu
  have := h q hq
  by_cases c : φ 4 k ≤ φ 4 k'
  · exact ⟨k', hk', (Cg_beh uq).mpr ⟨by omega, by omega⟩⟩
  · exact ⟨k, hk, (Cg_beh uq).mpr ⟨by omega, by omega⟩⟩
theorem Cg_argmax (f : Nat → Nat) : ∀ n, 0 < n → ∃ e, e < n ∧ ∀ p, p < n → f p ≤ f e := by
  intro n
  induction n with
  | zero => intro h; omega
  | succ n ih =>
    intro _
    by_cases h : n = 0
    · subst h; exact ⟨0, by omega, fun p hp => by have : p = 0 := by omega
                                                  rw [this]; exact Nat.le_refl _⟩
    · obtain ⟨e, e1, e2⟩ := ih (by omega)
      by_cases c : f n ≤ f e
      · exact ⟨e, by omega, fun p hp => by
          by_cases g : p = n
          · rw [g]; exact c
          · exact e2 p (by omega)⟩
      · exact ⟨n, by omega, fun p hp => by
          by_cases g : p = n
          · rw [g]; exact Nat.le_refl _
          · have := e2 p (by omega); omega⟩
theorem Cg_argmin (f : Nat → Nat) : ∀ n, 0 < n → ∃ e, e < n ∧ ∀ p, p < n → f e ≤ f p := by
  intro n
  induction n with
  | zero => intro h; omega
  | succ n ih =>
    intro _
    by_cases h : n = 0
    · subst h; exact ⟨0, by omega, fun p hp => by have : p = 0 := by omega
                                                  rw [this]; exact Nat.le_refl _⟩
    · obtain ⟨e, e1, e2⟩ := ih (by omega)
      by_cases c : f e ≤ f n
      · exact ⟨e, by omega, fun p hp => by
          by_cases g : p = n
          · rw [g]; exact c
          · exact e2 p (by omega)⟩
      · exact ⟨n, by omega, fun p hp => by
          by_cases g : p = n
          · rw [g]; exact Nat.le_refl _
          · have := e2 p (by omega); omega⟩
theorem Cg_ends {φ : Nat → Nat → Nat} (h : 2 ≤ φ 0 2) : ∃ e e', e < φ 0 2 ∧ e' < φ 0 2 ∧ e ≠ e' ∧ Cg_E φ e ∧ Cg_E φ e' := by
  obtain ⟨e, e1, e2⟩ := Cg_argmin (fun p => φ 2 p) (φ 0 2) (by omega)
  obtain ⟨e', f1, f2⟩ := Cg_argmax (fun p => φ 2 p) (φ 0 2) (by omega)
  by_cases c : e = e'
  · subst c
    refine ⟨e, if e = 0 then 1 else 0, e1, by split <;> omega, by split <;> omega, Cg_E_min e2, Cg_E_min fun p hp => ?_⟩
    exact Nat.le_trans (f2 (if e = 0 then 1 else 0) (by split <;> omega)) (e2 p hp)
  · exact ⟨e, e', e1, f1, c, Cg_E_min e2, Cg_E_max f2⟩
theorem Cg_s_go {x : CgS} {a : Nat} (h : a % 100 / 10 = 0) : Cg_s (Cg_go x a) = Cg_s x ^^^ 2 ^ (a % 10) := by
  show Cg_s x ^^^ Cg_fl a = _; rw [Cg_fl0 h]
theorem Cg_xx (s b : Nat) : s ^^^ b ^^^ b = s := by rw [Nat.xor_assoc, Nat.xor_self, Nat.xor_zero]
theorem Cg_ac_kid {l : List Nat} (kd : Cg_kid l) {i : Nat} (h : i < l.length) : ac l i % 100 / 10 = 0 := by
  rw [ac_get h]; exact kd _ (List.getElem_mem h)
/-- to and fro at an end person, hot before and behind, does not occur -/
theorem Cg_no_dbl {φ : Nat → Nat → Nat} (O : yOk φ) {c1 : Nat → Nat → Nat} (Z : Cg_zr c1) {x : CgS} {T : Nat} {l : List Nat} (W : Cg_W φ c1 (fun f _ => f) (fun _ _ => 1) x T l) (kd : Cg_kid l) {e : Nat} (E : Cg_E φ e) {i : Nat} (hi : 2 ≤ i) (hN : i + 1 < l.length)
    (t1 : Cg_t (Cg_at x l i) = e + 1) (a1 : ac l i % 10 = e) (r0 : Cg_r (Cg_at x l (i - 1)) = 3) (r1 : Cg_r (Cg_at x l i) = 3) (r2 : Cg_r (Cg_at x l (i + 1)) = 3) (cn : Cg_C x l (i + 1) = false) : False := by
  obtain ⟨j, rfl⟩ : ∃ j, i = j + 1 := ⟨i - 1, by omega⟩
  rw [show j + 1 - 1 = j by omega] at r0
  have k := W.1.1
  have g0 := Cg_at_g k (i := j) (by omega) (by omega)
  have g1 := Cg_at_g k (i := j + 1) (by omega) (by omega)
  have g2 := Cg_at_g k (i := j + 2) (by omega) (by omega)
  have g3 := Cg_at_g k (i := j + 3) (by omega) (by omega)
  have s1 := Cg_at_succ (x := x) (l := l) (i := j) (by omega)
  have s2 := Cg_at_succ (x := x) (l := l) (i := j + 1) (by omega)
  have s3 := Cg_at_succ (x := x) (l := l) (i := j + 2) (by omega)
  have ej : ac l j % 10 = e := by
    have : Cg_t (Cg_at x l (j + 1)) = ac l j % 10 + 1 := by rw [s1]; rfl
    omega
  have q1 : Cg_s (Cg_at x l (j + 1)) = Cg_s (Cg_at x l j) ^^^ 2 ^ e := by rw [s1, Cg_s_go (Cg_ac_kid kd (by omega)), ej]
  have q2 : Cg_s (Cg_at x l (j + 2)) = Cg_s (Cg_at x l j) := by rw [s2, Cg_s_go (Cg_ac_kid kd (by omega)), a1, q1, Cg_xx]
  have t2 : Cg_t (Cg_at x l (j + 2)) = e + 1 := by rw [s2]; show ac l (j + 1) % 10 + 1 = _; rw [a1]
  by_cases ue : Cg_t (Cg_at x l j) = e + 1
  · exact Cg_hot_ne W (i := j) (j := j + 2) (by omega) (by omega) (by omega) (by rw [r0]; exact g2.2.2.2) (by rw [ue, t2]) q2.symm
  by_cases qe : ac l (j + 2) % 10 = e
  · refine Cg_hot_ne W (i := j + 1) (j := j + 3) (by omega) (by omega) (by omega) (by rw [r1]; exact g3.2.2.2) ?_ ?_
    · rw [t1, s3]; show _ = ac l (j + 2) % 10 + 1; rw [qe]
    · rw [s3, Cg_s_go (Cg_ac_kid kd (by omega)), qe, q2, q1]
  have c0 := Cg_at_can k (i := j) (by omega)
  have c2 := Cg_at_can k (i := j + 2) (by omega)
  obtain ⟨h1, h2, h3, h4, h5, h6, h7⟩ := Cg_can_iff.mp c0
  obtain ⟨v1, v2, v3, v4, v5, v6, v7⟩ := Cg_can_iff.mp c2
  have tj : Cg_t (Cg_at x l j) = Cg_t (Cg_at x l j) - 1 + 1 := by have := g0.1; omega
  rw [ej, tj] at h6
  rw [t2] at v6
  obtain ⟨K, K1, K2⟩ := E _ _ _ _ g0.2.2.1.1 v3.1 h2 v2 (by omega) qe h6 v6
  -- with the boat
  have nc : Cg_cx (Cg_at x l j) (ac l j) = false := by
    cases z : Cg_cx (Cg_at x l j) (ac l j) with
    | false => rfl
    | true => have : Cg_r (Cg_at x l (j + 1)) = 1 := by rw [s1, Cg_r_go, if_pos z]
              omega
  have ar0 : yBit (Cg_s (Cg_at x l j)) e = Cg_ar (Cg_at x l j) := by
    unfold Cg_cx at nc
    rw [ej] at nc
    have := g0.1
    simpa [this] using nc
  have ar2 : Cg_ar (Cg_at x l (j + 2)) = Cg_ar (Cg_at x l j) := by
    rw [← ar0, ← q2]; unfold Cg_ar; rw [if_neg g2.1, t2]; rfl
  have bq : yBit (Cg_s (Cg_at x l j)) (ac l (j + 2) % 10) = Cg_ar (Cg_at x l j) := by
    have : Cg_cx (Cg_at x l (j + 2)) (ac l (j + 2)) = false := cn
    unfold Cg_cx at this
    rw [q2, ar2] at this
    have w := g2.1
    simpa [w] using this
  have p6 := O.persons
  have p2 := O.posts
  have vq := v3.1
  have d1 : (100 * K + ac l (j + 2) % 10) % 10 = ac l (j + 2) % 10 := by omega
  have d2 : (100 * K + ac l (j + 2) % 10) / 100 = K := by omega
  have d3 : (100 * K + ac l (j + 2) % 10) % 100 / 10 = 0 := by omega
  have lk := O.looks K K1
  have can : Cg_can φ (Cg_at x l j) (100 * K + ac l (j + 2) % 10) = true := by
    refine Cg_can_iff.mpr ⟨by omega, by rw [d2]; exact K1, by rw [d1]; exact v3, by rw [d3]; exact Nat.zero_le _, Or.inl d3, by rw [d1, d2, tj]; exact K2, Or.inr (Or.inr ⟨by rw [d1]; exact bq, by rw [d2, r0]; omega⟩)⟩
  have gm := Cg_g_go can
  have := Cg_wn W (i := j) (j := j + 3) (by omega) (m := [100 * K + ac l (j + 2) % 10]) ⟨can, trivial⟩ (by
    show Cg_le (Cg_at x l (j + 3)) (Cg_go (Cg_at x l j) (100 * K + ac l (j + 2) % 10))
    have e1 : Cg_t (Cg_at x l (j + 3)) = Cg_t (Cg_go (Cg_at x l j) (100 * K + ac l (j + 2) % 10)) := by
      rw [s3]; show ac l (j + 2) % 10 + 1 = (100 * K + ac l (j + 2) % 10) % 10 + 1; rw [d1]
    have e2 : Cg_s (Cg_at x l (j + 3)) = Cg_s (Cg_go (Cg_at x l j) (100 * K + ac l (j + 2) % 10)) := by
      rw [s3, Cg_s_go (Cg_ac_kid kd (by omega)), Cg_s_go d3, d1, q2]
    refine ⟨e1, e2, ?_, ?_⟩
    · rw [g3.2.1, gm.2.1]; unfold Cg_ar; rw [if_neg g3.1, if_neg gm.1, e1, e2]
    · refine Nat.le_trans g3.2.2.2 ?_
      rw [Cg_r_go]
      have : Cg_cx (Cg_at x l j) (100 * K + ac l (j + 2) % 10) = false := by unfold Cg_cx; rw [d1, bq]; simp
      rw [if_neg (by rw [this]; decide), r0]; decide)
  rw [Cg_len_win (by omega) (by omega), Z, Z] at this
  have lm : Cg_S (fun f _ => f) (Cg_at x l j) [100 * K + ac l (j + 2) % 10] = 0 := by
    show Cg_lf (Cg_at x l j) (100 * K + ac l (j + 2) % 10) + 0 = 0
    unfold Cg_lf; rw [d1, bq, g0.2.1, if_pos rfl]
  have lm1 : Cg_S (fun _ _ => 1) (Cg_at x l j) [100 * K + ac l (j + 2) % 10] = 1 := rfl
  rw [lm, lm1] at this
  unfold Cg_lx at this
  omega
