set_option maxRecDepth 100000
/-! part 99988: stamps without a row; the twin's whyNoStamps and looksAt -/
theorem lN_ltz {a b : Nat} (ha : a < 2 ^ 63) (hb : b < 2 ^ 63) : (lN a < lN b) = (a < b) := propext ⟨fun h => by
  have := Int64.lt_iff_toInt_lt.mp h
  rw [lN_toInt63 ha, lN_toInt63 hb] at this
  omega, fun h => Int64.lt_iff_toInt_lt.mpr (by rw [lN_toInt63 ha, lN_toInt63 hb]; omega)⟩
theorem ym_in64 (v : Int64) {n : Nat} (hn : n < 2 ^ 30) (N : Nat) (μ : wMem) : fX6_in N v 0 (nI n).toInt64 μ = some (yB (decide (0 ≤ v.toInt ∧ v.toInt ≤ n)), μ) := yc_isIn64 v hn N μ
theorem yI64_l {v : Int64} {b : Nat} (h : 0 ≤ v.toInt ∧ v.toInt ≤ b) (hb : b < 2 ^ 30) : v.toInt.toNat ≤ b ∧ v = lN v.toInt.toNat := by
  obtain ⟨l, e, _⟩ := yI64_of h hb
  refine ⟨l, ?_⟩
  rw [xI_l (by omega)] at e
  exact e
theorem ym_whyst_loop {φ : Nat → Nat → Nat} {μ μm : wMem} (O : yOk φ) (F : yFM φ 0 μm) (N : Nat) {c0 t n i : Nat} (X : ySl c0 t n i μ μm) (K : wMem → Option (Int32 × wMem)) : ∀ (d M j : Nat), d < M → j + d = n →
    gX6_whyNoStamps_46 N (nI i) K M (nI j) μm = if yAvz φ (wAt μ c0 t) j d = true then K μm else some (-2, μm) := by
  obtain ⟨h1, h2, h3, h4, h5, h6⟩ := id X
  have h22 := O.posts
  have q3 : μm.1 7 (Int32.toNatClampNeg (3 : Int32)) = nI (φ 0 3) := F.posts
  intro d
  induction d with
  | zero =>
    intro M j hM hj
    obtain ⟨M, rfl⟩ : ∃ q, M = q + 1 := ⟨M - 1, by omega⟩
    show gbX6_whyNoStamps_46 N _ _ _ _ _ = _
    unfold gbX6_whyNoStamps_46
    rw [yG (xI_in (by omega) (by decide)), xI_cl (by omega), h5, yIf (xI_le (a := n) (b := j) (by omega) (by omega)), if_pos (by omega)]
    rfl
  | succ d ih =>
    intro M j hM hj
    obtain ⟨M, rfl⟩ : ∃ q, M = q + 1 := ⟨M - 1, by omega⟩
    have add1 : nI j + (1 : Int32) = nI (j + 1) := nI_add j 1
    have ih1 := ih M (j + 1) (by omega) (by omega)
    have ea : yAvz φ (wAt μ c0 t) j (d + 1) = (ySvz φ (wAt μ c0 t j) && yAvz φ (wAt μ c0 t) (j + 1) d) := rfl
    have em2 : ∀ b, (if (false && b) = true then K μm else some ((-2 : Int32), μm)) = some (-2, μm) := fun b => if_neg (by simp)
    rw [ea]
    show gbX6_whyNoStamps_46 N _ _ _ _ _ = _
    unfold gbX6_whyNoStamps_46
    rw [yG (xI_in (by omega) (by decide)), xI_cl (by omega), h5, yIf (xI_le (a := n) (b := j) (by omega) (by omega)), if_neg (by omega), ym_cell X N (by omega), yBd]
    generalize wAt μ c0 t j = v
    have i11 : fX6_in N v 0 11 μm = some (yB (decide (0 ≤ v.toInt ∧ v.toInt ≤ (11 : Nat))), μm) := ym_in64 v (n := 11) (by decide) N μm
    rw [i11, yBd, yWL]
    by_cases g1 : 0 ≤ v.toInt ∧ v.toInt ≤ (11 : Nat)
    · obtain ⟨l, e⟩ := yI64_l g1 (by omega)
      have sv : ySvz φ v = (decide (v.toInt.toNat % 10 ≤ 1) && decide (v.toInt.toNat / 10 < φ 0 3)) := by
        unfold ySvz
        by_cases q : v.toInt.toNat / 10 < φ 0 3
        · rw [decide_eq_true q, decide_eq_true (show 0 ≤ v.toInt ∧ v.toInt ≤ 10 * φ 0 3 + 1 by omega)]
          simp
        · rw [decide_eq_false q]
          simp
      rw [sv, yB1 g1]
      clear sv i11 g1
      generalize v.toInt.toNat = x at *
      subst e
      have hr : lN x - lN x / (10 : Int64) * (10 : Int64) = lN (x % 10) := lN_rem (b := 10) (by omega) (by decide)
      have hd : lN x / (10 : Int64) = lN (x / 10) := lN_div (b := 10) (by omega) (by decide)
      have l1 : ((1 : Int64) < lN (x % 10)) = (1 < x % 10) := lN_ltz (a := 1) (by decide) (by omega)
      rw [hr, yIf l1, hd]
      by_cases g2 : 1 < x % 10
      · rw [if_pos g2, decide_eq_false (by omega)]
        exact (em2 _).symm
      · rw [if_neg g2, decide_eq_true (show x % 10 ≤ 1 by omega), yG (show ok_in (3 : Int32) 35 = true by decide), q3, xI_l (by omega), yIf (lN_ltz (by omega) (by omega))]
        by_cases g3 : x / 10 < φ 0 3
        · rw [if_pos g3, decide_eq_true g3, yWL, add1]
          exact ih1
        · rw [if_neg g3, decide_eq_false g3]
          exact (em2 _).symm
    · have sv : ySvz φ v = false := by
        unfold ySvz
        by_cases q : 0 ≤ v.toInt ∧ v.toInt ≤ 10 * φ 0 3 + 1
        · by_cases q2 : v.toInt.toNat / 10 < φ 0 3
          · rw [decide_eq_false (show ¬ v.toInt.toNat % 10 ≤ 1 by omega)]
            simp
          · rw [decide_eq_false q2]
            simp
        · rw [decide_eq_false q]
          simp
      rw [sv, yB2 g1]
      exact (em2 _).symm
theorem ym_whyst {φ : Nat → Nat → Nat} {μ μm : wMem} (O : yOk φ) (F : yFM φ 0 μm) {N : Nat} (hN : 100 ≤ N) {c0 t n i : Nat} (X : ySl c0 t n i μ μm) : fX6_whyNoStamps N (nI i) μm = some (if yCsz φ (wAt μ c0 t) n (nI i) 1 = true then 0 else -2, μm) := by
  obtain ⟨h1, h2, h3, h4, h5, h6⟩ := id X
  have s4 : yIs (nI i) 4 := yIs_n h2 (by decide)
  unfold fX6_whyNoStamps yCsz
  rw [ym_isSlot, yBd, yWL, yB1 s4, ym_isFamily O F, yBd, decide_eq_true s4]
  by_cases g2 : φ 0 1 ≠ 0
  · rw [yB1 g2, decide_eq_true g2, yG (xI_in h2 (by decide)), xI_cl (by omega), if_neg h6, yG (xI_in h2 (by decide)), h5]
    show (if nI n ≤ nI 12 then _ else _) = _
    rw [yIf (xI_le (b := 12) (by omega) (by decide)), decide_eq_true (show (1 : Int32) ≠ 0 by decide)]
    by_cases g5 : n ≤ 12
    · rw [if_pos g5, decide_eq_true g5]
      refine (ym_whyst_loop O F N X _ n N 0 (by omega) (by omega)).trans ?_
      by_cases g4 : yAvz φ (wAt μ c0 t) 0 n = true
      · rw [if_pos g4, g4]; rfl
      · rw [Bool.not_eq_true] at g4
        rw [g4, if_neg (by decide)]; rfl
    · rw [if_neg g5, decide_eq_false g5, if_neg (by simp)]
  · rw [yB2 g2, decide_eq_false g2, if_neg (by simp)]
/-- the marks before a stamp, as digits -/
theorem yMk_dig : ∀ m, m < 16 → ∀ s, s < 2 → (m < 8 → yMk m s = 2 * m + s) ∧ (¬ m < 8 → yMk m s = 8 + (2 * (m % 4) + s)) := by decide
theorem yMz_dig {w : Nat → Nat} (hw : ∀ i, w i % 10 < 2) : yMz w 0 = 1 ∧ yMz w 1 = 2 + w 0 % 10 ∧ yMz w 2 = 4 + 2 * (w 0 % 10) + w 1 % 10 ∧ ∀ i, yMz w (i + 3) = 8 + 4 * (w i % 10) + 2 * (w (i + 1) % 10) + w (i + 2) % 10 := by
  have a0 := hw 0
  have a1 := hw 1
  have a2 := hw 2
  have e1 : yMz w 1 = 2 + w 0 % 10 := ((yMk_dig 1 (by decide) _ a0).1 (by decide)).trans (by omega)
  have e2 : yMz w 2 = 4 + 2 * (w 0 % 10) + w 1 % 10 := by
    show yMk (yMz w 1) _ = _
    rw [(yMk_dig _ (yMz_ok hw 1).2 _ a1).1 (by omega), e1]
    omega
  refine ⟨rfl, e1, e2, fun i => ?_⟩
  induction i with
  | zero =>
    show yMk (yMz w 2) (w 2 % 10) = 8 + 4 * (w 0 % 10) + 2 * (w 1 % 10) + w 2 % 10
    rw [(yMk_dig _ (yMz_ok hw 2).2 _ a2).1 (by omega), e2]
    omega
  | succ i ih =>
    have b0 := hw i
    have b1 := hw (i + 1)
    have b2 := hw (i + 2)
    have b3 := hw (i + 3)
    show yMk (yMz w (i + 3)) _ = _
    rw [(yMk_dig _ (yMz_ok hw (i + 3)).2 _ b3).2 (by omega), ih]
    show 8 + (2 * ((8 + 4 * (w i % 10) + 2 * (w (i + 1) % 10) + w (i + 2) % 10) % 4) + w (i + 3) % 10) = 8 + 4 * (w (i + 1) % 10) + 2 * (w (i + 2) % 10) + w (i + 3) % 10
    omega
theorem yMz_at {w : Nat → Nat} (hw : ∀ i, w i % 10 < 2) {i d : Nat} (hd : d < 3) : (i ≤ d → yMz w i / 2 ^ d ≤ 1) ∧ (d < i → 1 < yMz w i / 2 ^ d ∧ yMz w i / 2 ^ d % 2 = w (i - d - 1) % 10) := by
  obtain ⟨e0, e1, e2, e3⟩ := yMz_dig hw
  have p1 : (2 : Nat) ^ 1 = 2 := rfl
  have p2 : (2 : Nat) ^ 2 = 4 := rfl
  have hd3 : d = 0 ∨ d = 1 ∨ d = 2 := by omega
  have hi3 : i = 0 ∨ i = 1 ∨ i = 2 ∨ ∃ j, i = j + 3 := by
    by_cases q : i < 3
    · omega
    · exact Or.inr (Or.inr (Or.inr ⟨i - 3, by omega⟩))
  have a0 := hw 0
  have a1 := hw 1
  rcases hi3 with rfl | rfl | rfl | ⟨j, rfl⟩
  · rw [e0]; rcases hd3 with rfl | rfl | rfl <;> exact ⟨fun _ => by decide, fun h => absurd h (by omega)⟩
  · rw [e1]
    rcases hd3 with rfl | rfl | rfl
    · exact ⟨fun h => absurd h (by omega), fun _ => ⟨by omega, by show (2 + w 0 % 10) / 1 % 2 = w 0 % 10; omega⟩⟩
    · exact ⟨fun _ => by omega, fun h => absurd h (by omega)⟩
    · exact ⟨fun _ => by omega, fun h => absurd h (by omega)⟩
  · rw [e2]
    rcases hd3 with rfl | rfl | rfl
    · exact ⟨fun h => absurd h (by omega), fun _ => ⟨by omega, by show (4 + 2 * (w 0 % 10) + w 1 % 10) / 1 % 2 = w 1 % 10; omega⟩⟩
    · exact ⟨fun h => absurd h (by omega), fun _ => ⟨by omega, by show (4 + 2 * (w 0 % 10) + w 1 % 10) / 2 % 2 = w 0 % 10; omega⟩⟩
    · exact ⟨fun _ => by omega, fun h => absurd h (by omega)⟩
  · rw [e3]
    have b0 := hw j
    have b1 := hw (j + 1)
    have b2 := hw (j + 2)
    rcases hd3 with rfl | rfl | rfl
    · exact ⟨fun h => absurd h (by omega), fun _ => ⟨by omega, by
        show (8 + 4 * (w j % 10) + 2 * (w (j + 1) % 10) + w (j + 2) % 10) / 1 % 2 = w (j + 2) % 10
        omega⟩⟩
    · exact ⟨fun h => absurd h (by omega), fun _ => ⟨by omega, by
        show (8 + 4 * (w j % 10) + 2 * (w (j + 1) % 10) + w (j + 2) % 10) / 2 % 2 = w (j + 1) % 10
        omega⟩⟩
    · exact ⟨fun h => absurd h (by omega), fun _ => ⟨by omega, by
        show (8 + 4 * (w j % 10) + 2 * (w (j + 1) % 10) + w (j + 2) % 10) / 4 % 2 = w j % 10
        omega⟩⟩
/-- the twin's numbers in the slot i are the stamps w -/
def yWm (φ : Nat → Nat → Nat) (w : Nat → Nat) (n i : Nat) (μ : wMem) : Prop := i < 4 ∧ n ≤ 12 ∧ μ.1 2 i = nI n ∧ (∀ j, j < n → μ.2 3 (60 * i + j) = lN (w j) ∧ w j / 10 < φ 0 3) ∧ ∀ j, w j % 10 < 2
theorem yWm.cell {φ : Nat → Nat → Nat} {w : Nat → Nat} {n i : Nat} {μ : wMem} (X : yWm φ w n i μ) (N : Nat) {j : Nat} (hj : j < n) : fX6_cellOf N (nI i) (nI j) μ = some (lN (w j), μ) := by
  obtain ⟨h1, h2, h3, h4, h5⟩ := X
  have e : (60 : Int32) * nI i + nI j = nI (60 * i + j) := by
    have : (60 : Int32) * nI i = nI (60 * i) := xI_mul 60 i
    rw [this, nI_add]
  unfold fX6_cellOf
  rw [e, yG (xI_in (by omega) (by decide)), xI_cl (by omega), (h4 j hj).1]
theorem yWm.lt {φ : Nat → Nat → Nat} {w : Nat → Nat} {n i : Nat} {μ : wMem} (O : yOk φ) (X : yWm φ w n i μ) {j : Nat} (hj : j < n) : w j < 20 := by
  have := (X.2.2.2.1 j hj).2
  have := O.posts
  omega
theorem ym_looksAt_loop {φ : Nat → Nat → Nat} {μ : wMem} (O : yOk φ) (F : yFM φ 0 μ) {w : Nat → Nat} {n i : Nat} (X : yWm φ w n i μ) (N : Nat) {q k : Nat} (hq : q < n) (hk : k < φ 0 3) : ∀ (j M : Nat), j < M → j ≤ q → q - j ≤ φ 5 k →
    gX6_looksAt_15 N (nI i) (nI q) (nI k) (fun μ => some (1, μ)) M (nI j) μ = some (yB (yFit (φ 5 k - (q - j)) (w j % 10) (yMz w q / 2 ^ (q - j))), μ) := by
  have n12 := X.2.1
  have hw := X.2.2.2.2
  have l3 := O.looks k hk
  have h22 := O.posts
  have t : yFit 0 = fun _ _ => true := rfl
  intro j
  induction j with
  | zero =>
    intro M hM hj hl
    obtain ⟨M, rfl⟩ : ∃ q, M = q + 1 := ⟨M - 1, by omega⟩
    show gbX6_looksAt_15 N _ _ _ _ _ _ _ = _
    unfold gbX6_looksAt_15
    show (if nI 0 ≤ nI 0 then _ else _) = _
    rw [yIf (xI_le (a := 0) (b := 0) (by decide) (by decide)), if_pos (Nat.le_refl _)]
    cases hr : φ 5 k - (q - 0) with
    | zero => rfl
    | succ r =>
      have z := (yMz_at hw (i := q) (d := q - 0) (by omega)).1 (by omega)
      show some (1, μ) = some (yB (if yMz w q / 2 ^ (q - 0) ≤ 1 then true else _), μ)
      rw [if_pos z]
      rfl
  | succ j ih =>
    intro M hM hj hl
    obtain ⟨M, rfl⟩ : ∃ q, M = q + 1 := ⟨M - 1, by omega⟩
    have e1 : nI (j + 1) - (1 : Int32) = nI j := xI_sub (a := j + 1) (b := 1) (by omega)
    have e2 : nI (j + 1) + (-1 : Int32) = nI j := by
      rw [← Int32.sub_eq_add_neg]; exact e1
    have e3 : nI q - nI (j + 1) = nI (q - (j + 1)) := xI_sub (by omega)
    have e4 : (3 : Int32) * nI k + (2 : Int32) = nI (3 * k + 2) := by
      have : (3 : Int32) * nI k = nI (3 * k) := xI_mul 3 k
      rw [this]; exact nI_add _ 2
    have w1 := X.lt O (j := j + 1) (by omega)
    have w0 := X.lt O (j := j) (by omega)
    have r : ∀ x, x < 20 → lN x - lN x / (10 : Int64) * (10 : Int64) = lN (x % 10) := fun x hx => lN_rem (b := 10) (by omega) (by decide)
    show gbX6_looksAt_15 N _ _ _ _ _ _ _ = _
    unfold gbX6_looksAt_15
    show (if nI (j + 1) ≤ nI 0 then _ else _) = _
    rw [yIf (xI_le (a := j + 1) (b := 0) (by omega) (by decide)), if_neg (by omega), e4, yG (xI_in (by omega) (by decide)), xI_cl (by omega), F.looks hk, e3, yIf (xI_le (by omega) (by omega))]
    by_cases g : φ 5 k ≤ q - (j + 1)
    · rw [if_pos g, show φ 5 k - (q - (j + 1)) = 0 by omega]
      rfl
    · obtain ⟨p, hp⟩ : ∃ p, φ 5 k - (q - (j + 1)) = p + 1 := ⟨φ 5 k - (q - (j + 1)) - 1, by omega⟩
      have z := (yMz_at hw (i := q) (d := q - (j + 1)) (by omega)).2 (by omega)
      have e5 : q - (q - (j + 1)) - 1 = j := by omega
      rw [e5] at z
      have lq : (lN (w (j + 1) % 10) = lN (w j % 10)) = (w j % 10 = w (j + 1) % 10) := propext ⟨fun h => by
        have := congrArg Int64.toInt h
        rw [lN_toInt63 (by omega), lN_toInt63 (by omega)] at this
        omega, fun h => by rw [h]⟩
      rw [if_neg g, X.cell N (by omega), yBd, e1, X.cell N (by omega), yBd, r _ w1, r _ w0, yIf lq, hp]
      show _ = some (yB (if yMz w q / 2 ^ (q - (j + 1)) ≤ 1 then true else if yMz w q / 2 ^ (q - (j + 1)) % 2 = w (j + 1) % 10 then false else yFit p (yMz w q / 2 ^ (q - (j + 1)) % 2) (yMz w q / 2 ^ (q - (j + 1)) / 2)), μ)
      rw [if_neg (show ¬ yMz w q / 2 ^ (q - (j + 1)) ≤ 1 by omega), z.2]
      by_cases g2 : w j % 10 = w (j + 1) % 10
      · rw [if_pos g2, if_pos g2]; rfl
      · rw [if_neg g2, if_neg g2, yWL, e2, ih M (by omega) (by omega) (by omega)]
        have e6 : q - j = (q - (j + 1)) + 1 := by omega
        have e7 : φ 5 k - (q - j) = p := by omega
        rw [e7, e6, Nat.pow_succ, Nat.div_div_eq_div_mul]
theorem ym_looksAt {φ : Nat → Nat → Nat} {μ : wMem} (O : yOk φ) (F : yFM φ 0 μ) {w : Nat → Nat} {n i : Nat} (X : yWm φ w n i μ) {N : Nat} (hN : 100 ≤ N) {q : Nat} (hq : q < n) :
    fX6_looksAt N (nI i) (nI q) μ = some (yB (yFit (φ 5 (w q / 10)) (w q % 10) (yMz w q)), μ) := by
  have wl := X.lt O hq
  have n12 := X.2.1
  have hd : (lN (w q) / (10 : Int64)).toInt32 = nI (w q / 10) := by
    have : lN (w q) / (10 : Int64) = lN (w q / 10) := lN_div (b := 10) (by omega) (by decide)
    rw [this, lN_i]
  unfold fX6_looksAt
  rw [X.cell N hq, yBd, yWL, hd]
  refine (ym_looksAt_loop O F X N hq (X.2.2.2.1 q hq).2 q N (by omega) (Nat.le_refl _) (by omega)).trans ?_
  rw [Nat.sub_self, Nat.sub_zero]
  show some (yB (yFit _ _ (yMz w q / 1)), μ) = _
  rw [Nat.div_one]
