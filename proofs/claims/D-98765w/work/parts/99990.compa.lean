set_option maxRecDepth 100000
/-! part 99990: what the twin's completes needs of plain numbers -/
/-- what else an act needs at a stamp, but the looks -/
def yHz (φ : Nat → Nat → Nat) (w : Nat → Nat) (i κ p c : Nat) : Bool := decide (yBit (κ / 49) p = w i % 10) && (decide (¬ yBit (φ 0 4) p = 1) && (yBeh φ (if w i / 10 = 0 then κ / 7 % 7 else κ % 7) p (w i / 10) && (decide (c = 0) || (decide (yBit (φ 0 4) (c - 1) = 1) && decide (yBit (κ / 49) (c - 1) = w i % 10)))))
theorem yOz_H {φ : Nat → Nat → Nat} (O : yOk φ) {w : Nat → Nat} {i κ p c : Nat} (hp : p < φ 0 2) (hc : c ≤ φ 0 2) (hk : w i / 10 < φ 0 3) (V : yVz φ κ) : yOz φ w i κ (10 * c + p) = (yFit (φ 5 (w i / 10)) (w i % 10) (yMz w i) && yHz φ w i κ p c) := by
  have h6 := O.persons
  have h22 := O.posts
  have m1 : (10 * c + p) % 10 = p := by omega
  have m2 : (10 * c + p) / 10 = c := by omega
  obtain ⟨d1, d2, d3, d4⟩ := yAz_d (w := w) (i := i) (e := 10 * c + p) (by omega)
  rw [m1] at d3
  rw [m2] at d4
  have lt : yAz w i (10 * c + p) < 200 := by unfold yAz; omega
  have gd : yGd φ (yAz w i (10 * c + p)) = true := by
    unfold yGd
    rw [d1, d3, d4, decide_eq_true hk, decide_eq_true hc, decide_eq_true hp]
    rfl
  have e0 : decide (yAz w i (10 * c + p) = 200) = false := decide_eq_false (by omega)
  unfold yOz yCan
  rw [yVzD_iff.mpr V, decide_eq_true (show 10 * c + p < 100 by omega), gd, e0, d1, d3, d4, Bool.false_or, Bool.true_and, Bool.true_and, Bool.true_and]
  unfold yWhy yHz
  have ov : (yBz w i κ).ov = κ / 49 := rfl
  have sd : (yBz w i κ).sd = w i % 10 := rfl
  have mk : (yBz w i κ).mk = yMz w i := rfl
  have z : (yBz w i κ).z (w i / 10) = if w i / 10 = 0 then κ / 7 % 7 else κ % 7 := rfl
  rw [ov, sd, mk, z]
  generalize yBeh φ (if w i / 10 = 0 then κ / 7 % 7 else κ % 7) p (w i / 10) = b
  generalize yFit (φ 5 (w i / 10)) (w i % 10) (yMz w i) = f
  by_cases g1 : yBit (κ / 49) p = w i % 10
  · rw [if_pos g1, decide_eq_true g1]
    by_cases g2 : yBit (φ 0 4) p = 1
    · rw [if_pos g2, decide_eq_false (show ¬ ¬ yBit (φ 0 4) p = 1 from fun h => h g2)]
      cases f <;> rfl
    · rw [if_neg g2, decide_eq_true g2]
      by_cases g3 : c = 0
      · rw [if_pos g3, decide_eq_true g3]
        cases f <;> cases b <;> rfl
      · rw [if_neg g3, decide_eq_false g3]
        by_cases g4 : yBit (φ 0 4) (c - 1) = 1
        · rw [if_pos g4, decide_eq_true g4]
          by_cases g5 : yBit (κ / 49) (c - 1) = w i % 10
          · rw [if_pos g5, decide_eq_true g5]
            cases f <;> cases b <;> rfl
          · rw [if_neg g5, decide_eq_false g5]
            cases f <;> cases b <;> rfl
        · rw [if_neg g4, decide_eq_false g4]
          cases f <;> cases b <;> rfl
  · rw [if_neg g1, decide_eq_false g1]
    cases f <;> rfl
/-- the twin's next scene is the component's -/
theorem yCz_N {φ : Nat → Nat → Nat} (O : yOk φ) {w : Nat → Nat} {i κ p c : Nat} (hp : p < φ 0 2) (hc : c ≤ φ 0 2) (hk : w i / 10 < φ 0 3) (hT : φ 0 3 ≤ 1 → κ % 7 = 0) : yCz φ κ p c (w i / 10) = yTz φ (yNz φ w i κ (10 * c + p)) := by
  have h6 := O.persons
  have h22 := O.posts
  have m1 : (10 * c + p) % 10 = p := by omega
  have m2 : (10 * c + p) / 10 = c := by omega
  obtain ⟨d1, d2, d3, d4⟩ := yAz_d (w := w) (i := i) (e := 10 * c + p) (by omega)
  rw [m1] at d3
  rw [m2] at d4
  have lt : yAz w i (10 * c + p) ≠ 200 := by unfold yAz; omega
  unfold yNz yCz
  rw [yDo_cr φ _ lt, d1, d3, d4]
  unfold yCr yTz yKzc
  simp only [ySt.of_ov, ySt.of_z0, ySt.of_z1]
  have ov : (yBz w i κ).ov = κ / 49 := rfl
  have z0 : (yBz w i κ).z0 = κ / 7 % 7 := rfl
  have z1 : (yBz w i κ).z1 = κ % 7 := rfl
  rw [ov, z0, z1]
  generalize (κ / 49) ^^^ (2 ^ p ||| (if c = 0 then 0 else 2 ^ (c - 1))) = o
  by_cases g : φ 0 3 ≤ 1
  · have h0 := hT g
    rw [if_pos g, if_pos g]
    have z0l : (if w i / 10 = 0 ∨ φ 0 7 ≠ 0 then p + 1 else κ / 7 % 7) ≤ 6 := by split <;> omega
    have z1l : (if w i / 10 = 1 ∨ φ 0 7 ≠ 0 then p + 1 else κ % 7) ≤ 6 := by split <;> omega
    generalize (if w i / 10 = 0 ∨ φ 0 7 ≠ 0 then p + 1 else κ / 7 % 7) = x at *
    generalize (if w i / 10 = 1 ∨ φ 0 7 ≠ 0 then p + 1 else κ % 7) = y at *
    omega
  · rw [if_neg g, if_neg g]
/-- the lists' lengths -/
theorem yQm_lenB {n B : Nat} {f : Nat → List (Nat × Nat)} (h : ∀ k, k < n → (f k).length ≤ B) : (yQm n f).length ≤ n * B := by
  induction n with
  | zero => exact Nat.zero_le _
  | succ n ih =>
    rw [yQm_s, List.length_append, Nat.add_mul, Nat.one_mul]
    have := ih (fun k hk => h k (by omega))
    have := h n (by omega)
    omega
theorem yQm_lenC {n B q : Nat} (hq : q < n + 1) {f : Nat → List (Nat × Nat)} (h : ∀ k, k < n + 1 → (f k).length ≤ B) (z : f q = []) : (yQm (n + 1) f).length ≤ n * B := by
  induction n with
  | zero =>
    have : q = 0 := by omega
    subst this
    rw [yQm_s, yQm_0, z]
    exact Nat.zero_le _
  | succ n ih =>
    rw [yQm_s, List.length_append, Nat.add_mul, Nat.one_mul]
    by_cases y : q = n + 1
    · rw [← y, z]
      have := yQm_lenB (n := n + 1) (fun k hk => h k (by omega))
      rw [Nat.add_mul, Nat.one_mul] at this
      rw [y]
      show (yQm (n + 1) f).length + 0 ≤ _
      omega
    · have := ih (by omega) (fun k hk => h k (by omega))
      have := h (n + 1) (by omega)
      omega
theorem yWz_len {φ : Nat → Nat → Nat} (O : yOk φ) (w : Nat → Nat) (n : Nat) : ∀ r κ, (yWz φ w n r κ).length ≤ 36 ^ r
  | 0, _ => Nat.le_refl 1
  | r + 1, κ => by
    have h6 := O.persons
    have step : ∀ p, p < φ 0 2 → (yQm (φ 0 2 + 1) fun c => if yOz φ w (n - (r + 1)) κ (10 * c + p) = true then (yWz φ w n r (yTz φ (yNz φ w (n - (r + 1)) κ (10 * c + p)))).map fun x => (x.1, yRz φ w (n - (r + 1)) (10 * c + p) + x.2) else []).length ≤ φ 0 2 * 36 ^ r := fun p hp => by
      refine yQm_lenC (q := p + 1) (by omega) (fun c hc => ?_) ?_
      · split
        · rw [List.length_map]; exact yWz_len O w n r _
        · exact Nat.zero_le _
      · refine if_neg fun q => ?_
        have := (yOz_act O q).2.2.2.2.2
        omega
    have : (yWz φ w n (r + 1) κ).length ≤ φ 0 2 * (φ 0 2 * 36 ^ r) := yQm_lenB step
    have a : φ 0 2 * (φ 0 2 * 36 ^ r) ≤ 6 * (6 * 36 ^ r) := Nat.mul_le_mul h6 (Nat.mul_le_mul_right _ h6)
    rw [Nat.pow_succ]
    omega
theorem yWz_63 {φ : Nat → Nat → Nat} (O : yOk φ) (w : Nat → Nat) (n : Nat) {r : Nat} (hr : r ≤ 12) (κ : Nat) : (yWz φ w n r κ).length < 2 ^ 63 := by
  have := yWz_len O w n r κ
  have c : 36 ^ r ≤ 36 ^ 12 := Nat.pow_le_pow_right (by decide) hr
  have d : (36 : Nat) ^ 12 < 2 ^ 63 := by decide
  omega
/-- folds over what an act adds -/
def yMnT (a : Nat) (L : List (Nat × Nat)) : Nat := L.foldl (fun a x => min a x.2) a
def yAnT (a : Nat) (L : List (Nat × Nat)) : Nat := L.foldl (fun a x => a &&& x.1) a
def yOrT (a : Nat) (L : List (Nat × Nat)) : Nat := L.foldl (fun a x => a ||| x.1) a
theorem yMnT_mv (ρ : Nat) : ∀ (L : List (Nat × Nat)) (a y : Nat), yMnT (min a (ρ + y)) (L.map fun x => (x.1, ρ + x.2)) = min a (ρ + yMnT y L)
  | [], _, _ => rfl
  | x :: L, a, y => by
    show yMnT (min (min a (ρ + y)) (ρ + x.2)) (L.map fun x => (x.1, ρ + x.2)) = min a (ρ + yMnT (min y x.2) L)
    rw [← yMnT_mv ρ L a (min y x.2)]
    congr 1
    omega
theorem yMnT_le : ∀ (L : List (Nat × Nat)) (a : Nat), yMnT a L ≤ a
  | [], _ => Nat.le_refl _
  | x :: L, a => Nat.le_trans (yMnT_le L (min a x.2)) (Nat.min_le_left _ _)
theorem yMnT_add {a ρ b : Nat} (L : List (Nat × Nat)) (h : a ≤ ρ + b) : yMnT a (L.map fun x => (x.1, ρ + x.2)) = min a (ρ + yMnT b L) := by
  rw [← yMnT_mv ρ L a b, Nat.min_eq_left h]
theorem yAnT_add (ρ : Nat) : ∀ (L : List (Nat × Nat)) (a b : Nat), yAnT (a &&& b) (L.map fun x => (x.1, ρ + x.2)) = a &&& yAnT b L
  | [], _, _ => rfl
  | x :: L, a, b => by
    show yAnT ((a &&& b) &&& x.1) (L.map fun x => (x.1, ρ + x.2)) = a &&& yAnT (b &&& x.1) L
    rw [← yAnT_add ρ L a (b &&& x.1), Nat.and_assoc]
theorem yOrT_add (ρ : Nat) : ∀ (L : List (Nat × Nat)) (a b : Nat), yOrT (a ||| b) (L.map fun x => (x.1, ρ + x.2)) = a ||| yOrT b L
  | [], _, _ => rfl
  | x :: L, a, b => by
    show yOrT ((a ||| b) ||| x.1) (L.map fun x => (x.1, ρ + x.2)) = a ||| yOrT (b ||| x.1) L
    rw [← yOrT_add ρ L a (b ||| x.1), Nat.or_assoc]
theorem yAnT_63 : ∀ (L : List (Nat × Nat)) (a : Nat), a &&& 63 = a → yAnT a L &&& 63 = yAnT a L
  | [], _, h => h
  | x :: L, a, h => yAnT_63 L (a &&& x.1) (by rw [Nat.and_assoc, Nat.and_comm x.1, ← Nat.and_assoc, h])
