set_option maxRecDepth 100000
/-! by days, comparing: the count -/
def Cg_tk (l : List Nat) (i : Nat) : Nat := ac l i % 10
theorem Cg_at_t {x : CgS} {l : List Nat} {i : Nat} (h : i < l.length) : Cg_t (Cg_at x l (i + 1)) = Cg_tk l i + 1 := by rw [Cg_at_succ h]; rfl
theorem Cg_H_iff {x : CgS} {l : List Nat} {i : Nat} : Cg_H x l i = true ↔ Cg_r (Cg_at x l (i + 1)) = 3 := by unfold Cg_H; simp
/-- to and fro by one of two, hot behind -/
def Cg_SP (x : CgS) (l : List Nat) (e e' i : Nat) : Bool := Cg_H x l i && decide (Cg_t (Cg_at x l i) = Cg_tk l i + 1) && (decide (Cg_tk l i = e) || decide (Cg_tk l i = e'))
theorem Cg_SP_cn {φ : Nat → Nat → Nat} (O : yOk φ) {c1 : Nat → Nat → Nat} (Z : Cg_zr c1) {x : CgS} (r1 : 1 ≤ Cg_r x) (r3 : Cg_r x ≤ 3) {T : Nat} {l : List Nat} (W : Cg_W φ c1 (fun f _ => f) (fun _ _ => 1) x T l) (kd : Cg_kid l) {e e' : Nat} (E : Cg_E φ e) (E' : Cg_E φ e') :
    yCn (Cg_SP x l e e') l.length ≤ 5 * yCn (Cg_C x l) l.length + 5 := by
  have k := W.1.1
  have cold := Cg_cold k r1 r3
  have a1 := yCn_is 0 l.length
  have a2 := yCn_is 1 l.length
  have a3 := yCn_is (l.length - 1) l.length
  have a4 := yCn_sh1 (fun i => !Cg_H x l i) l.length
  have a5 := yCn_sh2 (fun i => !Cg_H x l i) l.length
  have a6 := yCn_up (Cg_C x l) l.length
  have b1 : yCn (Cg_SP x l e e') l.length ≤ yCn (fun i => decide (i = 0)) l.length + yCn (fun i => Cg_SP x l e e' i && decide (i ≠ 0)) l.length := yCn_or' _ fun i _ h => by
    by_cases z : i = 0
    · left; simp [z]
    · right; simp [z, h]
  have b2 : yCn (fun i => Cg_SP x l e e' i && decide (i ≠ 0)) l.length ≤ yCn (fun i => decide (i = 1)) l.length + yCn (fun i => Cg_SP x l e e' i && decide (2 ≤ i)) l.length := yCn_or' _ fun i _ h => by
    simp only [Bool.and_eq_true, decide_eq_true_eq] at h ⊢
    by_cases z : i = 1
    · exact Or.inl z
    · exact Or.inr ⟨h.1, by omega⟩
  have b3 : yCn (fun i => Cg_SP x l e e' i && decide (2 ≤ i)) l.length ≤ yCn (fun i => decide (i = l.length - 1)) l.length + yCn (fun i => Cg_SP x l e e' i && decide (2 ≤ i) && decide (i + 1 < l.length)) l.length := yCn_or' _ fun i hi h => by
    simp only [Bool.and_eq_true, decide_eq_true_eq] at h ⊢
    by_cases z : i = l.length - 1
    · exact Or.inl z
    · exact Or.inr ⟨h, by omega⟩
  have b4 : yCn (fun i => Cg_SP x l e e' i && decide (2 ≤ i) && decide (i + 1 < l.length)) l.length ≤ yCn (fun i => decide (1 ≤ i) && !Cg_H x l (i - 1)) l.length + yCn (fun i => Cg_SP x l e e' i && decide (2 ≤ i) && decide (i + 1 < l.length) && Cg_H x l (i - 1)) l.length := yCn_or' _ fun i _ h => by
    simp only [Bool.and_eq_true, decide_eq_true_eq] at h ⊢
    cases z : Cg_H x l (i - 1)
    · exact Or.inl ⟨by omega, rfl⟩
    · exact Or.inr ⟨h, rfl⟩
  have b5 : yCn (fun i => Cg_SP x l e e' i && decide (2 ≤ i) && decide (i + 1 < l.length) && Cg_H x l (i - 1)) l.length ≤ yCn (fun i => decide (2 ≤ i) && !Cg_H x l (i - 2)) l.length + yCn (fun i => decide (i + 1 < l.length) && Cg_C x l (i + 1)) l.length := yCn_or' _ fun i hi h => by
    simp only [Bool.and_eq_true, decide_eq_true_eq] at h ⊢
    obtain ⟨⟨⟨sp, h2⟩, hN⟩, hh⟩ := h
    cases z : Cg_H x l (i - 2)
    · exact Or.inl ⟨h2, rfl⟩
    · right
      refine ⟨hN, ?_⟩
      cases cn : Cg_C x l (i + 1)
      · exfalso
        unfold Cg_SP at sp
        simp only [Bool.and_eq_true, Bool.or_eq_true, decide_eq_true_eq] at sp
        obtain ⟨⟨p1, p2⟩, p3⟩ := sp
        have w0 : Cg_r (Cg_at x l (i - 1)) = 3 := by have := Cg_H_iff.mp z; rw [show i - 2 + 1 = i - 1 by omega] at this; exact this
        have w1 : Cg_r (Cg_at x l i) = 3 := by have := Cg_H_iff.mp hh; rw [show i - 1 + 1 = i by omega] at this; exact this
        have w2 := Cg_H_iff.mp p1
        rcases p3 with p3 | p3
        · exact Cg_no_dbl O Z W kd E h2 hN (by rw [p2, p3]) p3 w0 w1 w2 cn
        · exact Cg_no_dbl O Z W kd E' h2 hN (by rw [p2, p3]) p3 w0 w1 w2 cn
      · rfl
  omega
theorem Cg_hot {φ : Nat → Nat → Nat} (O : yOk φ) {A : Nat} (hA : A < φ 0 3) (h0 : φ 5 A = 0) {c1 : Nat → Nat → Nat} (Z : Cg_zr c1) {x : CgS} (r1 : 1 ≤ Cg_r x) (r3 : Cg_r x ≤ 3) (s6 : Cg_s x < 64) {T : Nat} {l : List Nat} (W : Cg_W φ c1 (fun f _ => f) (fun _ _ => 1) x T l) (kd : Cg_kid l) :
    yCn (Cg_H x l) l.length ≤ 5 * yCn (Cg_C x l) l.length + 325 := by
  have k := W.1.1
  have p6 := O.persons
  have tk : ∀ i, i < l.length → Cg_tk l i < φ 0 2 := fun i hi => (Cg_can_iff.mp (Cg_at_can k hi)).2.2.1.1
  by_cases n5 : φ 0 2 ≤ 5
  · have : yCn (Cg_H x l) l.length ≤ 320 := by
      refine yPig2 (g := fun i => 64 * Cg_tk l i + Cg_s (Cg_at x l (i + 1))) (fun i hi _ => ?_) (fun i j hij hj h h' e => ?_)
      · have := tk i hi
        have := Cg_at_s O k s6 (i + 1)
        omega
      · have s1 := Cg_at_s O k s6 (i + 1)
        have s2 := Cg_at_s O k s6 (j + 1)
        refine Cg_hot_ne W (i := i + 1) (j := j + 1) (by omega) (by omega) (by omega) (by rw [Cg_H_iff.mp h, Cg_H_iff.mp h']; exact Nat.le_refl _) ?_ (by omega)
        rw [Cg_at_t (by omega), Cg_at_t hj]; omega
    omega
  · obtain ⟨e, e', he, he', ne, E, E'⟩ := Cg_ends (φ := φ) (by omega)
    have sp := Cg_SP_cn O Z r1 r3 W kd E E'
    -- at the end e, not to and fro
    have one : ∀ d, d < φ 0 2 → yCn (fun i => Cg_H x l i && decide (Cg_tk l i = d) && !decide (Cg_t (Cg_at x l i) = Cg_tk l i + 1)) l.length ≤ 32 := by
      intro d hd
      refine yPig2 (g := fun i => Cg_cm d (Cg_s (Cg_at x l (i + 1)))) (fun i hi _ => Cg_cm_lt d (by omega) _ (Cg_at_s O k s6 (i + 1))) (fun i j hij hj h h' e => ?_)
      simp only [Bool.and_eq_true, decide_eq_true_eq, Bool.not_eq_true', decide_eq_false_iff_not] at h h'
      obtain ⟨⟨u1, u2⟩, u3⟩ := h
      obtain ⟨⟨w1, w2⟩, w3⟩ := h'
      have ti : Cg_t (Cg_at x l (i + 1)) = Cg_t (Cg_at x l (j + 1)) := by rw [Cg_at_t (by omega), Cg_at_t hj, u2, w2]
      have hi' := Cg_H_iff.mp u1
      have hj' := Cg_H_iff.mp w1
      rcases Cg_cm_inj (by omega : d < 6) (Cg_at_s O k s6 (i + 1)) (Cg_at_s O k s6 (j + 1)) e with s | s
      · exact Cg_hot_ne W (i := i + 1) (j := j + 1) (by omega) (by omega) (by omega) (by rw [hi', hj']; exact Nat.le_refl _) ti s
      · have gi := Cg_at_g k (i := i + 1) (by omega) (by omega)
        have gj := Cg_at_g k (i := j + 1) (by omega) (by omega)
        obtain ⟨f1, f2, f3, f4, f5, f6, f7, f8⟩ := Cg_sf_can O hA h0 gi
        have gm := Cg_g_go f1
        have td : Cg_t (Cg_at x l (i + 1)) - 1 = d := by rw [Cg_at_t (by omega), u2]; omega
        have := Cg_wn W (i := i + 1) (j := j + 1) (by omega) (m := [Cg_sf A (Cg_at x l (i + 1))]) ⟨f1, trivial⟩ (by
          show Cg_le (Cg_at x l (j + 1)) (Cg_go (Cg_at x l (i + 1)) (Cg_sf A (Cg_at x l (i + 1))))
          have e1 : Cg_t (Cg_at x l (j + 1)) = Cg_t (Cg_go (Cg_at x l (i + 1)) (Cg_sf A (Cg_at x l (i + 1)))) := by rw [f5, ti]
          have e2 : Cg_s (Cg_at x l (j + 1)) = Cg_s (Cg_go (Cg_at x l (i + 1)) (Cg_sf A (Cg_at x l (i + 1)))) := by rw [f6, td, s]
          refine ⟨e1, e2, ?_, ?_⟩
          · rw [gj.2.1, gm.2.1]; unfold Cg_ar; rw [if_neg gj.1, if_neg gm.1, e1, e2]
          · rw [f7, hi', hj']; decide)
        rw [Cg_len_win (by omega) (by omega), Z, Z] at this
        have lm : Cg_S (fun f _ => f) (Cg_at x l (i + 1)) [Cg_sf A (Cg_at x l (i + 1))] = 0 := by
          show Cg_lf _ _ + 0 = 0; rw [f4]
        have lm1 : Cg_S (fun _ _ => 1) (Cg_at x l (i + 1)) [Cg_sf A (Cg_at x l (i + 1))] = 1 := rfl
        rw [lm, lm1] at this
        unfold Cg_lx at this
        have ij : j = i + 1 := by omega
        apply w3
        rw [ij, Cg_at_t (by omega), u2, ← w2, ij]
    have oth : yCn (fun i => Cg_H x l i && !decide (Cg_tk l i = e) && !decide (Cg_tk l i = e')) l.length ≤ 256 := by
      refine yPig2 (g := fun i => 64 * (Cg_tk l i - (if e < Cg_tk l i then 1 else 0) - (if e' < Cg_tk l i then 1 else 0)) + Cg_s (Cg_at x l (i + 1))) (fun i hi h => ?_) (fun i j hij hj h h' eq => ?_)
      · simp only [Bool.and_eq_true, Bool.not_eq_true', decide_eq_false_iff_not] at h
        have := tk i hi
        have := Cg_at_s O k s6 (i + 1)
        have : Cg_tk l i - (if e < Cg_tk l i then 1 else 0) - (if e' < Cg_tk l i then 1 else 0) < 4 := by split <;> split <;> omega
        omega
      · simp only [Bool.and_eq_true, Bool.not_eq_true', decide_eq_false_iff_not] at h h'
        have s1 := Cg_at_s O k s6 (i + 1)
        have s2 := Cg_at_s O k s6 (j + 1)
        refine Cg_hot_ne W (i := i + 1) (j := j + 1) (by omega) (by omega) (by omega) (by rw [Cg_H_iff.mp h.1.1, Cg_H_iff.mp h'.1.1]; exact Nat.le_refl _) ?_ (by omega)
        rw [Cg_at_t (by omega), Cg_at_t hj]
        have : Cg_tk l i - (if e < Cg_tk l i then 1 else 0) - (if e' < Cg_tk l i then 1 else 0) = Cg_tk l j - (if e < Cg_tk l j then 1 else 0) - (if e' < Cg_tk l j then 1 else 0) := by omega
        obtain ⟨⟨_, q1⟩, q2⟩ := h
        obtain ⟨⟨_, q3⟩, q4⟩ := h'
        revert this
        split <;> split <;> split <;> split <;> omega
    have a1 : yCn (Cg_H x l) l.length ≤ yCn (fun i => Cg_H x l i && !decide (Cg_tk l i = e) && !decide (Cg_tk l i = e')) l.length + yCn (fun i => Cg_H x l i && (decide (Cg_tk l i = e) || decide (Cg_tk l i = e'))) l.length := yCn_or' _ fun i _ h => by
      rw [h]
      cases decide (Cg_tk l i = e) <;> cases decide (Cg_tk l i = e') <;> simp
    have a2 : yCn (fun i => Cg_H x l i && (decide (Cg_tk l i = e) || decide (Cg_tk l i = e'))) l.length ≤ yCn (Cg_SP x l e e') l.length + yCn (fun i => Cg_H x l i && (decide (Cg_tk l i = e) || decide (Cg_tk l i = e')) && !decide (Cg_t (Cg_at x l i) = Cg_tk l i + 1)) l.length := yCn_or' _ fun i _ h => by
      unfold Cg_SP
      simp only [Bool.and_eq_true] at h
      rw [h.1, h.2]
      cases decide (Cg_t (Cg_at x l i) = Cg_tk l i + 1) <;> simp
    have a3 : yCn (fun i => Cg_H x l i && (decide (Cg_tk l i = e) || decide (Cg_tk l i = e')) && !decide (Cg_t (Cg_at x l i) = Cg_tk l i + 1)) l.length ≤ yCn (fun i => Cg_H x l i && decide (Cg_tk l i = e) && !decide (Cg_t (Cg_at x l i) = Cg_tk l i + 1)) l.length + yCn (fun i => Cg_H x l i && decide (Cg_tk l i = e') && !decide (Cg_t (Cg_at x l i) = Cg_tk l i + 1)) l.length := yCn_or' _ fun i _ h => by
      simp only [Bool.and_eq_true, Bool.or_eq_true] at h ⊢
      rcases h with ⟨⟨h1, h2 | h2⟩, h3⟩
      · exact Or.inl ⟨⟨h1, h2⟩, h3⟩
      · exact Or.inr ⟨⟨h1, h2⟩, h3⟩
    have := one e he
    have := one e' he'
    omega
theorem yCn_not (p : Nat → Bool) : ∀ n, yCn p n + yCn (fun i => !p i) n = n := by
  intro n
  induction n with
  | zero => rfl
  | succ n ih =>
    show yCn p n + _ + (yCn (fun i => !p i) n + (if (!p n) = true then 1 else 0)) = n + 1
    cases p n <;> simp <;> omega
/-- no children: a row with the fewest loafs, then the fewest acts, has at most 400 acts -/
theorem Cg_days0 {φ : Nat → Nat → Nat} (O : yOk φ) {A : Nat} (hA : A < φ 0 3) (h0 : φ 5 A = 0) {c1 : Nat → Nat → Nat} (Z : Cg_zr c1) {x : CgS} (r1 : 1 ≤ Cg_r x) (r3 : Cg_r x ≤ 3) (s6 : Cg_s x < 64) {T : Nat} {l : List Nat} (W : Cg_W φ c1 (fun f _ => f) (fun _ _ => 1) x T l) (kd : Cg_kid l) :
    l.length + Cg_lo x l ≤ 400 ∧ l.length + 9 * Cg_lo x l < 1000 := by
  have h1 := Cg_hot O hA h0 Z r1 r3 s6 W kd
  have h2 := Cg_cold W.1.1 r1 r3
  have h3 := Cg_C_lo W.1.1
  have h4 := Cg_lo7 O hA h0 Z W kd
  have h5 := yCn_not (Cg_H x l) l.length
  omega
