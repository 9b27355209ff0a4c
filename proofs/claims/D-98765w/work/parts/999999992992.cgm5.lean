set_option maxRecDepth 100000
/-! the places of a way -/
def Cg_at (x : CgS) (l : List Nat) (i : Nat) : CgS := Cg_end x (l.take i)
theorem Cg_at_0 (x : CgS) (l : List Nat) : Cg_at x l 0 = x := rfl
theorem Cg_at_succ {x : CgS} {l : List Nat} {i : Nat} (h : i < l.length) : Cg_at x l (i + 1) = Cg_go (Cg_at x l i) (ac l i) := by
  unfold Cg_at
  rw [List.take_succ_eq_append_getElem h, Cg_end_app, ac_get h]
  rfl
theorem Cg_at_can {φ : Nat → Nat → Nat} {x : CgS} {l : List Nat} (k : Cg_ok φ x l) {i : Nat} (h : i < l.length) : Cg_can φ (Cg_at x l i) (ac l i) = true := by
  have e : l = l.take i ++ l.drop i := (List.take_append_drop i l).symm
  rw [e] at k
  have := ((Cg_ok_app _ _ _).mp k).2
  rw [List.drop_eq_getElem_cons h] at this
  rw [ac_get h]
  exact this.1
theorem Cg_at_g {φ : Nat → Nat → Nat} {x : CgS} {l : List Nat} (k : Cg_ok φ x l) {i : Nat} (h1 : 1 ≤ i) (h : i ≤ l.length) : Cg_g φ (Cg_at x l i) := by
  obtain ⟨j, rfl⟩ : ∃ j, i = j + 1 := ⟨i - 1, by omega⟩
  rw [Cg_at_succ (by omega)]
  exact Cg_g_go (Cg_at_can k (by omega))
theorem yCn_front (p : Nat → Bool) : ∀ n, yCn p (n + 1) = (if p 0 = true then 1 else 0) + yCn (fun i => p (i + 1)) n := by
  intro n
  induction n with
  | zero => exact Nat.add_comm _ _
  | succ n ih =>
    show yCn p (n + 1) + (if p (n + 1) = true then 1 else 0) = _ + (yCn (fun i => p (i + 1)) n + (if p (n + 1) = true then 1 else 0))
    rw [ih]; omega
theorem Cg_lo_cn : ∀ (l : List Nat) (x : CgS), Cg_lo x l = yCn (fun i => decide (Cg_lf (Cg_at x l i) (ac l i) = 1)) l.length := by
  intro l
  induction l with
  | nil => intro x; rfl
  | cons a l ih =>
    intro x
    show Cg_lf x a + Cg_lo (Cg_go x a) l = yCn _ (l.length + 1)
    rw [yCn_front, ih]
    have e0 : (if decide (Cg_lf (Cg_at x (a :: l) 0) (ac (a :: l) 0) = 1) = true then 1 else 0) = Cg_lf x a := by
      show (if decide (Cg_lf x a = 1) = true then 1 else 0) = Cg_lf x a
      unfold Cg_lf
      split <;> simp
    rw [e0]
    rfl
theorem yCn_or' {p q r : Nat → Bool} : ∀ n, (∀ i, i < n → p i = true → q i = true ∨ r i = true) → yCn p n ≤ yCn q n + yCn r n := by
  intro n
  induction n with
  | zero => intro _; exact Nat.le_refl _
  | succ n ih =>
    intro h
    have := ih fun i hi => h i (by omega)
    have hn := h n (by omega)
    show yCn p n + _ ≤ (yCn q n + _) + (yCn r n + _)
    by_cases g : p n = true
    · rw [if_pos g]
      rcases hn g with g' | g'
      · rw [if_pos g']; omega
      · rw [if_pos g']; omega
    · rw [if_neg g]; omega
theorem yCn_sh1 (p : Nat → Bool) : ∀ n, yCn (fun i => decide (1 ≤ i) && p (i - 1)) n ≤ yCn p n := by
  intro n
  cases n with
  | zero => exact Nat.le_refl _
  | succ n =>
    rw [yCn_front]
    show 0 + yCn (fun i => decide (1 ≤ i + 1) && p (i + 1 - 1)) n ≤ yCn p n + _
    have : yCn (fun i => decide (1 ≤ i + 1) && p (i + 1 - 1)) n = yCn p n := yCn_eq n fun i _ => by simp
    omega
theorem yCn_sh2 (p : Nat → Bool) (n : Nat) : yCn (fun i => decide (2 ≤ i) && p (i - 2)) n ≤ yCn p n := by
  refine Nat.le_trans (Nat.le_of_eq (yCn_eq n fun i _ => ?_)) (Nat.le_trans (yCn_sh1 (fun i => decide (1 ≤ i) && p (i - 1)) n) (yCn_sh1 p n))
  show (decide (2 ≤ i) && p (i - 2)) = (decide (1 ≤ i) && (decide (1 ≤ i - 1) && p (i - 1 - 1)))
  by_cases h : 2 ≤ i
  · have e : i - 1 - 1 = i - 2 := by omega
    rw [e]; simp [h, show 1 ≤ i by omega, show 1 ≤ i - 1 by omega]
  · by_cases h' : 1 ≤ i
    · simp [h, h', show ¬ 1 ≤ i - 1 by omega]
    · simp [h, h']
theorem yCn_up (p : Nat → Bool) : ∀ n, yCn (fun i => decide (i + 1 < n) && p (i + 1)) n ≤ yCn p n := by
  intro n
  cases n with
  | zero => exact Nat.le_refl _
  | succ n =>
    rw [yCn_front p n]
    show yCn (fun i => decide (i + 1 < n + 1) && p (i + 1)) n + (if (decide (n + 1 < n + 1) && p (n + 1)) = true then 1 else 0) ≤ _
    have : yCn (fun i => decide (i + 1 < n + 1) && p (i + 1)) n = yCn (fun i => p (i + 1)) n := yCn_eq n fun i hi => by simp [hi]
    rw [this]
    simp
theorem yCn_is (k : Nat) : ∀ n, yCn (fun i => decide (i = k)) n ≤ 1 := by
  intro n
  have : ∀ n, n ≤ k → yCn (fun i => decide (i = k)) n = 0 := by
    intro n
    induction n with
    | zero => intro _; rfl
    | succ n ih =>
      intro h
      show yCn _ n + (if decide (n = k) = true then 1 else 0) = 0
      rw [ih (by omega), if_neg (by simp; omega)]
  induction n with
  | zero => exact Nat.zero_le _
  | succ n ih =>
    show yCn _ n + (if decide (n = k) = true then 1 else 0) ≤ 1
    by_cases h : n = k
    · rw [this n (by omega), if_pos (by simp [h])]; exact Nat.le_refl _
    · rw [if_neg (by simp [h])]; exact ih
/-- a crossing against the boat -/
def Cg_cx (x : CgS) (a : Nat) : Bool := decide (Cg_t x ≠ 0) && decide (yBit (Cg_s x) (a % 10) ≠ Cg_ar x)
theorem Cg_r_go (x : CgS) (a : Nat) : Cg_r (Cg_go x a) = if Cg_cx x a = true then 1 else min 3 (Cg_r x + 1) := by
  show (if Cg_t x = 0 ∨ yBit (Cg_s x) (a % 10) = Cg_ar x then min 3 (Cg_r x + 1) else 1) = _
  unfold Cg_cx
  by_cases h : Cg_t x = 0
  · rw [if_pos (Or.inl h)]; simp [h]
  · by_cases g : yBit (Cg_s x) (a % 10) = Cg_ar x
    · rw [if_pos (Or.inr g)]; simp [g]
    · rw [if_neg (fun v => v.elim h g)]; simp [h, g]
theorem Cg_cx_lf {φ : Nat → Nat → Nat} {x : CgS} (g : Cg_g φ x) {a : Nat} : Cg_cx x a = decide (Cg_lf x a = 1) := by
  unfold Cg_cx Cg_lf
  rw [g.2.1]
  by_cases h : yBit (Cg_s x) (a % 10) = Cg_ar x
  · simp [h]
  · simp [h, g.1]
theorem Cg_at_r {φ : Nat → Nat → Nat} {x : CgS} {l : List Nat} (k : Cg_ok φ x l) (r1 : 1 ≤ Cg_r x) (r3 : Cg_r x ≤ 3) : ∀ i, i ≤ l.length → 1 ≤ Cg_r (Cg_at x l i) ∧ Cg_r (Cg_at x l i) ≤ 3 := by
  intro i hi
  cases i with
  | zero => exact ⟨r1, r3⟩
  | succ i =>
    have g := Cg_at_g k (i := i + 1) (by omega) hi
    refine ⟨?_, g.2.2.2⟩
    rw [Cg_at_succ (by omega), Cg_r_go]
    split
    · exact Nat.le_refl _
    · exact Nat.le_min.mpr ⟨by decide, by omega⟩
/-- crossings against the boat -/
def Cg_C (x : CgS) (l : List Nat) (i : Nat) : Bool := Cg_cx (Cg_at x l i) (ac l i)
/-- places that are hot -/
def Cg_H (x : CgS) (l : List Nat) (i : Nat) : Bool := decide (Cg_r (Cg_at x l (i + 1)) = 3)
theorem Cg_C_lo {φ : Nat → Nat → Nat} {x : CgS} {l : List Nat} (k : Cg_ok φ x l) : yCn (Cg_C x l) l.length ≤ Cg_lo x l + 1 := by
  rw [Cg_lo_cn]
  refine Nat.le_trans (yCn_or' (q := fun i => decide (Cg_lf (Cg_at x l i) (ac l i) = 1)) (r := fun i => decide (i = 0)) _ fun i hi h => ?_) (Nat.add_le_add_left (yCn_is 0 _) _)
  by_cases z : i = 0
  · right; simp [z]
  · left
    rw [← Cg_cx_lf (Cg_at_g k (by omega) (by omega))]; exact h
theorem Cg_cold {φ : Nat → Nat → Nat} {x : CgS} {l : List Nat} (k : Cg_ok φ x l) (r1 : 1 ≤ Cg_r x) (r3 : Cg_r x ≤ 3) : yCn (fun i => !Cg_H x l i) l.length ≤ 2 * yCn (Cg_C x l) l.length + 1 := by
  have s1 := yCn_sh1 (Cg_C x l) l.length
  have s0 := yCn_is 0 l.length
  have : yCn (fun i => !Cg_H x l i) l.length ≤ yCn (Cg_C x l) l.length + yCn (fun i => decide (i = 0) || (decide (1 ≤ i) && Cg_C x l (i - 1))) l.length := by
    refine yCn_or' _ fun i hi h => ?_
    by_cases c : Cg_C x l i = true
    · exact Or.inl c
    · right
      by_cases z : i = 0
      · simp [z]
      · have e : Cg_r (Cg_at x l (i + 1)) = min 3 (Cg_r (Cg_at x l i) + 1) := by rw [Cg_at_succ hi, Cg_r_go, if_neg (show ¬Cg_cx (Cg_at x l i) (ac l i) = true from c)]
        unfold Cg_H at h
        rw [e] at h
        obtain ⟨j, rfl⟩ : ∃ j, i = j + 1 := ⟨i - 1, by omega⟩
        have e2 : Cg_r (Cg_at x l (j + 1)) = if Cg_C x l j = true then 1 else min 3 (Cg_r (Cg_at x l j) + 1) := by rw [Cg_at_succ (by omega), Cg_r_go]; rfl
        by_cases c2 : Cg_C x l j = true
        · simp [c2]
        · exfalso
          rw [if_neg c2] at e2
          have := (Cg_at_r k r1 r3 j (by omega)).1
          have e3 : Cg_r (Cg_at x l (j + 1)) ≥ 2 := by rw [e2]; exact Nat.le_min.mpr ⟨by decide, by omega⟩
          have e4 : min 3 (Cg_r (Cg_at x l (j + 1)) + 1) = 3 := Nat.min_eq_left (by omega)
          rw [e4] at h
          simp at h
  have o := yCn_or' (p := fun i => decide (i = 0) || (decide (1 ≤ i) && Cg_C x l (i - 1))) (q := fun i => decide (i = 0)) (r := fun i => decide (1 ≤ i) && Cg_C x l (i - 1)) l.length fun i _ h => by
    simpa using h
  omega
/-- windows, by places -/
theorem Cg_wn {φ : Nat → Nat → Nat} {c1 c2 c3 : Nat → Nat → Nat} {x : CgS} {T : Nat} {l : List Nat} (W : Cg_W φ c1 c2 c3 x T l) {i j : Nat} (hij : i ≤ j) {m : List Nat} (hm : Cg_ok φ (Cg_at x l i) m)
    (hl : Cg_le (Cg_at x l j) (Cg_end (Cg_at x l i) m)) :
    Cg_lx (Cg_S c1 (Cg_at x l i) ((l.drop i).take (j - i))) (Cg_S c2 (Cg_at x l i) ((l.drop i).take (j - i))) (Cg_S c3 (Cg_at x l i) ((l.drop i).take (j - i))) (Cg_S c1 (Cg_at x l i) m) (Cg_S c2 (Cg_at x l i) m) (Cg_S c3 (Cg_at x l i) m) := by
  have e := bTd (l := l) (i := i) (j := j) hij
  rw [e] at W
  refine Cg_win W hm ?_
  have : Cg_end (Cg_end x (l.take i)) ((l.drop i).take (j - i)) = Cg_at x l j := by
    unfold Cg_at
    rw [← Cg_end_app, ← List.take_add]
    congr 2; omega
  rw [this]; exact hl
theorem Cg_len_win {l : List Nat} {i j : Nat} (hij : i ≤ j) (hj : j ≤ l.length) (x : CgS) : Cg_S (fun _ _ => 1) x ((l.drop i).take (j - i)) = j - i := by
  rw [← Cg_len_S, List.length_take, List.length_drop]; omega
/-- hot places differ -/
theorem Cg_hot_ne {φ : Nat → Nat → Nat} {c1 c2 : Nat → Nat → Nat} {x : CgS} {T : Nat} {l : List Nat} (W : Cg_W φ c1 c2 (fun _ _ => 1) x T l) {i j : Nat} (h1 : 1 ≤ i) (hij : i < j) (hj : j ≤ l.length)
    (hr : Cg_r (Cg_at x l j) ≤ Cg_r (Cg_at x l i)) (ht : Cg_t (Cg_at x l i) = Cg_t (Cg_at x l j)) (hs : Cg_s (Cg_at x l i) = Cg_s (Cg_at x l j)) : False := by
  have gi := Cg_at_g W.1.1 h1 (by omega : i ≤ l.length)
  have gj := Cg_at_g W.1.1 (by omega : 1 ≤ j) hj
  have ar : Cg_ar (Cg_at x l i) = Cg_ar (Cg_at x l j) := by unfold Cg_ar; rw [if_neg gi.1, if_neg gj.1, ht, hs]
  have := Cg_wn W (i := i) (j := j) (by omega) (m := []) trivial ⟨ht.symm, hs.symm, by show Cg_d _ = Cg_d (Cg_at x l i); rw [gi.2.1, gj.2.1, ar], hr⟩
  rw [Cg_len_win (by omega) hj] at this
  unfold Cg_lx at this
  have z : ∀ c, Cg_S c (Cg_at x l i) [] = 0 := fun _ => rfl
  rw [z, z, z] at this
  omega
theorem Cg_s_lt {φ : Nat → Nat → Nat} (O : yOk φ) : ∀ (l : List Nat) (x : CgS), Cg_ok φ x l → Cg_s x < 64 → Cg_s (Cg_end x l) < 64 := by
  intro l
  induction l with
  | nil => intro x _ h; exact h
  | cons a l ih =>
    intro x k h
    refine ih _ k.2 ?_
    obtain ⟨h1, h2, h3, h4, _⟩ := Cg_can_iff.mp k.1
    have p6 := O.persons
    have := h3.1
    show Cg_s x ^^^ Cg_fl a < 64
    refine Nat.xor_lt_two_pow (n := 6) h ?_
    unfold Cg_fl
    refine Nat.or_lt_two_pow (Nat.pow_lt_pow_right (by decide) (by omega)) ?_
    split
    · decide
    · exact Nat.pow_lt_pow_right (by decide) (by omega)
theorem Cg_at_s {φ : Nat → Nat → Nat} (O : yOk φ) {x : CgS} {l : List Nat} (k : Cg_ok φ x l) (h : Cg_s x < 64) (i : Nat) : Cg_s (Cg_at x l i) < 64 := by
  have e : l = l.take i ++ l.drop i := (List.take_append_drop i l).symm
  rw [e] at k
  exact Cg_s_lt O _ _ ((Cg_ok_app _ _ _).mp k).1 h
