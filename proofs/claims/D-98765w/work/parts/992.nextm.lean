set_option maxRecDepth 100000
/-! part 992: the twin's next act; acts, may -/
theorem yGd_posts {φ : Nat → Nat → Nat} {a : Nat} (h : 100 * φ 0 3 ≤ a) : yGd φ a = false := by
  unfold yGd
  have : ¬ a / 100 < φ 0 3 := by omega
  simp [this]
theorem yNext_end {φ : Nat → Nat → Nat} (σ : ySt) : ∀ n a, 100 * φ 0 3 ≤ a → yNext φ σ n a = a + n
  | 0, _, _ => rfl
  | n + 1, a, h => by
    show (if (yGd φ a && yCan φ σ a) = true then a else yNext φ σ n (a + 1)) = _
    rw [yGd_posts h, if_neg (by simp), yNext_end σ n (a + 1) (by omega)]
    omega
theorem yNext_le (φ : Nat → Nat → Nat) (σ : ySt) : ∀ n a, a ≤ yNext φ σ n a ∧ yNext φ σ n a ≤ a + n
  | 0, a => ⟨Nat.le_refl _, Nat.le_refl _⟩
  | n + 1, a => by
    show a ≤ (if (yGd φ a && yCan φ σ a) = true then a else yNext φ σ n (a + 1)) ∧ (if (yGd φ a && yCan φ σ a) = true then a else yNext φ σ n (a + 1)) ≤ _
    have := yNext_le φ σ n (a + 1)
    split <;> omega
theorem ym_next_loop {φ : Nat → Nat → Nat} {μ : wMem} {σ : ySt} (O : yOk φ) (F : yFM φ 0 μ) (S : ySok φ σ) {N : Nat} (hN : 4 ≤ N) (x1 : Int32) (K : wMem → Option (Int32 × wMem)) (hK : K (yTut μ (yT φ σ)) = some (nI 200, yTut μ (yT φ σ))) : ∀ (n M a : Nat), n < M → a + n = 200 →
    gX6_nextAct_2 N x1 K M (nI a) (yTut μ (yT φ σ)) = some (nI (yNext φ σ n a), yTut μ (yT φ σ)) := by
  have h2 := O.posts
  have q3 : (yTut μ (yT φ σ)).1 7 (Int32.toNatClampNeg (3 : Int32)) = nI (φ 0 3) := by rw [yTut_c _ _ (by decide)]; exact F.posts
  have x3 : (100 : Int32) * nI (φ 0 3) = nI (100 * φ 0 3) := xI_mul 100 _
  intro n
  induction n with
  | zero =>
    intro M a hM ha
    obtain ⟨M, rfl⟩ : ∃ q, M = q + 1 := ⟨M - 1, by omega⟩
    show gbX6_nextAct_2 N x1 K _ _ _ = _
    unfold gbX6_nextAct_2
    rw [yG (show ok_in (3 : Int32) 35 = true by decide), q3, x3, yIf (xI_le (by omega) (by omega)), if_pos (by omega), hK]
    have : a = 200 := by omega
    rw [this]
    rfl
  | succ n ih =>
    intro M a hM ha
    obtain ⟨M, rfl⟩ : ∃ q, M = q + 1 := ⟨M - 1, by omega⟩
    show gbX6_nextAct_2 N x1 K _ _ _ = _
    unfold gbX6_nextAct_2 wLet
    dsimp only
    have ei : nI a + (1 : Int32) = nI (a + 1) := nI_add a 1
    have nx := ih M (a + 1) (by omega) (by omega)
    rw [yG (show ok_in (3 : Int32) 35 = true by decide), q3, x3, yIf (xI_le (by omega) (by omega)), ei]
    by_cases g0 : 100 * φ 0 3 ≤ a
    · rw [if_pos g0, hK, yNext_end σ _ _ g0, ha]
    · rw [if_neg g0, ym_isActN O (yFM_put F _) N (by omega), yBd, yIf (yB_0 _)]
      show _ = some (nI (if (yGd φ a && yCan φ σ a) = true then a else yNext φ σ n (a + 1)), yTut μ (yT φ σ))
      by_cases g1 : yGd φ a = false
      · rw [if_pos g1, if_neg (by simp [g1])]
        exact nx
      · have g1' : yGd φ a = true := by simpa using g1
        rw [if_neg g1, ym_mayAct O F S hN (yGd_act (by omega) g1'), yBd, yIf (yB_0 _)]
        by_cases g2 : yCan φ σ a = false
        · rw [if_pos g2, if_neg (by simp [g2])]
          exact nx
        · have g2' : yCan φ σ a = true := by simpa using g2
          rw [if_neg g2, if_pos (by simp [g1', g2'])]
theorem ym_nextAct {φ : Nat → Nat → Nat} {μ : wMem} {σ : ySt} (O : yOk φ) (F : yFM φ 0 μ) (S : ySok φ σ) {N : Nat} (hN : 202 ≤ N) {a : Nat} (ha : a ≤ 200) : fX6_nextAct N (nI a) (yTut μ (yT φ σ)) = some (nI (yNext φ σ (200 - a) a), yTut μ (yT φ σ)) := by
  have e : ((200 : Int32) < nI a) = (200 < a) := xI_lt (a := 200) (by decide) (by omega)
  unfold fX6_nextAct
  refine ym_next_loop O F S (by omega) _ _ ?_ (200 - a) N a (by omega) (by omega)
  rw [yIf e, if_neg (by omega)]
  rfl
/-- behind the last act: none -/
theorem ym_nextNo {φ : Nat → Nat → Nat} {μ : wMem} {σ : ySt} (O : yOk φ) (F : yFM φ 0 μ) {N : Nat} (hN : 1 ≤ N) : fX6_nextAct N (nI 201) (yTut μ (yT φ σ)) = some (-1, yTut μ (yT φ σ)) := by
  have h2 := O.posts
  have q3 : (yTut μ (yT φ σ)).1 7 (Int32.toNatClampNeg (3 : Int32)) = nI (φ 0 3) := by rw [yTut_c _ _ (by decide)]; exact F.posts
  have x3 : (100 : Int32) * nI (φ 0 3) = nI (100 * φ 0 3) := xI_mul 100 _
  unfold fX6_nextAct
  obtain ⟨N, rfl⟩ : ∃ q, N = q + 1 := ⟨N - 1, by omega⟩
  show gbX6_nextAct_2 _ _ _ _ _ _ = _
  unfold gbX6_nextAct_2
  rw [yG (show ok_in (3 : Int32) 35 = true by decide), q3, x3, yIf (xI_le (by omega) (by omega)), if_pos (by omega)]
  rfl
theorem yc_nextNo {μ : wMem} {N : Nat} (hN : 1 ≤ N) : fX0_nextAct N (nI 201) μ = some (nI 201, μ) := by
  obtain ⟨N, rfl⟩ : ∃ q, N = q + 1 := ⟨N - 1, by omega⟩
  unfold fX0_nextAct
  show gbX0_nextAct_2 _ _ _ _ _ = _
  unfold gbX0_nextAct_2
  rw [if_pos (by decide)]
/-- how many acts can be, from a on (n = 201 - a at most) -/
def yCount (φ : Nat → Nat → Nat) (σ : ySt) : Nat → Nat → Nat
  | 0, _ => 0
  | n + 1, a => if 200 < a then 0 else 1 + yCount φ σ n (if a = 200 then 201 else yNext φ σ (200 - (a + 1)) (a + 1))
theorem yc_acts_loop {φ : Nat → Nat → Nat} {μ : wMem} {σ : ySt} (O : yOk φ) (F : yFC φ μ) (S : ySok φ σ) {N : Nat} (hN : 202 ≤ N) (K : Int32 → wMem → Option (Int32 × wMem)) : ∀ (n M x a : Nat), n < M → 201 ≤ a + n → a ≤ 201 →
    gX0_acts_22 N K M (nI x) (nI a) (yPut μ σ) = K (nI (x + yCount φ σ n a)) (yPut μ σ) := by
  intro n
  induction n with
  | zero =>
    intro M x a hM ha h1
    obtain ⟨M, rfl⟩ : ∃ q, M = q + 1 := ⟨M - 1, by omega⟩
    show gbX0_acts_22 N K _ _ _ _ = _
    unfold gbX0_acts_22
    have e : ((200 : Int32) < nI a) = (200 < a) := xI_lt (a := 200) (by decide) (by omega)
    rw [yIf e, if_pos (by omega)]
    rfl
  | succ n ih =>
    intro M x a hM ha h1
    obtain ⟨M, rfl⟩ : ∃ q, M = q + 1 := ⟨M - 1, by omega⟩
    show gbX0_acts_22 N K _ _ _ _ = _
    unfold gbX0_acts_22 wLet
    dsimp only
    have e : ((200 : Int32) < nI a) = (200 < a) := xI_lt (a := 200) (by decide) (by omega)
    have ei : nI a + (1 : Int32) = nI (a + 1) := nI_add a 1
    have ex : nI x + (1 : Int32) = nI (x + 1) := nI_add x 1
    rw [yIf e, ei, ex]
    show _ = K (nI (x + (if 200 < a then 0 else 1 + yCount φ σ n (if a = 200 then 201 else yNext φ σ (200 - (a + 1)) (a + 1))))) (yPut μ σ)
    by_cases g : 200 < a
    · rw [if_pos g, if_pos g]; rfl
    · rw [if_neg g, if_neg g]
      by_cases g2 : a = 200
      · rw [if_pos g2, g2, yc_nextNo (by omega), yBd, ih M (x + 1) 201 (by omega) (by omega) (by omega)]
        rw [Nat.add_assoc]
      · rw [if_neg g2, yc_nextAct O F S hN (by omega), yBd]
        have := yNext_le φ σ (200 - (a + 1)) (a + 1)
        rw [ih M (x + 1) _ (by omega) (by omega) (by omega), Nat.add_assoc]
theorem ym_acts_loop {φ : Nat → Nat → Nat} {μ : wMem} {σ : ySt} (O : yOk φ) (F : yFM φ 0 μ) (S : ySok φ σ) {N : Nat} (hN : 202 ≤ N) (K : Int32 → wMem → Option (Int32 × wMem)) : ∀ (n M x a : Nat), n < M → 201 ≤ a + n → a ≤ 201 →
    gX6_acts_27 N K M (nI x) (if a = 201 then -1 else nI a) (yTut μ (yT φ σ)) = K (nI (x + yCount φ σ n a)) (yTut μ (yT φ σ)) := by
  have m1 : ∀ a, a ≤ 200 → ¬ nI a = (-1 : Int32) := fun a ha h => by
    have := congrArg Int32.toInt h
    rw [nI_toInt (by omega)] at this
    have q : (-1 : Int32).toInt = -1 := by decide
    omega
  intro n
  induction n with
  | zero =>
    intro M x a hM ha h1
    obtain ⟨M, rfl⟩ : ∃ q, M = q + 1 := ⟨M - 1, by omega⟩
    show gbX6_acts_27 N K _ _ _ _ = _
    unfold gbX6_acts_27
    rw [if_pos (show a = 201 by omega), if_pos rfl]
    rfl
  | succ n ih =>
    intro M x a hM ha h1
    obtain ⟨M, rfl⟩ : ∃ q, M = q + 1 := ⟨M - 1, by omega⟩
    show gbX6_acts_27 N K _ _ _ _ = _
    unfold gbX6_acts_27 wLet
    dsimp only
    have ei : nI a + (1 : Int32) = nI (a + 1) := nI_add a 1
    have ex : nI x + (1 : Int32) = nI (x + 1) := nI_add x 1
    show _ = K (nI (x + (if 200 < a then 0 else 1 + yCount φ σ n (if a = 200 then 201 else yNext φ σ (200 - (a + 1)) (a + 1))))) (yTut μ (yT φ σ))
    by_cases g : 200 < a
    · rw [if_pos (show a = 201 by omega), if_pos rfl, if_pos g]; rfl
    · rw [if_neg (show ¬ a = 201 by omega), if_neg (m1 a (by omega)), if_neg g, ei, ex]
      by_cases g2 : a = 200
      · rw [if_pos g2, g2, ym_nextNo O F (by omega), yBd]
        have := ih M (x + 1) 201 (by omega) (by omega) (by omega)
        rw [if_pos rfl] at this
        rw [this, Nat.add_assoc]
      · rw [if_neg g2, ym_nextAct O F S hN (by omega), yBd]
        have b := yNext_le φ σ (200 - (a + 1)) (a + 1)
        have := ih M (x + 1) (yNext φ σ (200 - (a + 1)) (a + 1)) (by omega) (by omega) (by omega)
        rw [if_neg (by omega)] at this
        rw [this, Nat.add_assoc]
theorem yq_acts {φ : Nat → Nat → Nat} {μ μm : wMem} (O : yOk φ) (G : yGo φ) (F : yFC φ μ) (M : yFM φ 0 μm) {N : Nat} (hN : 203 ≤ N) : yBth (fX0_acts N) (fX6_acts N) μ μm := by
  have M1 := (yKM_0 μm 0).fm M
  have L := yLay_ok O G (φ 0 6) (Nat.le_refl _)
  have lc : fX0_asItIs N μ = some (yCl φ μ) := yc_lay O F G (by omega)
  have lm : fX6_lays N (wSI μm 0 0 0) = some (yMl φ μm) := ym_lay O M1 G (by omega)
  have nc : fX0_nextAct N 0 (yCl φ μ) = some (nI (yNext φ (yLay φ (φ 0 6)) 200 0), yCl φ μ) := yc_nextAct (a := 0) O (yFC_DR F _ _) L (by omega) (by decide)
  have nm : fX6_nextAct N 0 (yMl φ μm) = some (nI (yNext φ (yLay φ (φ 0 6)) 200 0), yMl φ μm) := ym_nextAct (a := 0) O (yFM_LM M1 _) L (by omega) (by decide)
  have b := yNext_le φ (yLay φ (φ 0 6)) 200 0
  by_cases g : φ 0 1 ≠ 0
  · refine yBth.mk' (v := nI (0 + yCount φ (yLay φ (φ 0 6)) 201 (yNext φ (yLay φ (φ 0 6)) 200 0))) (μ1 := yCl φ μ) (μm1 := yMl φ μm) ?_ ?_ (yCl_k φ μ) (yMl_k φ μm)
    · unfold fX0_acts
      rw [yc_isFamily O F, yBd, yB1 g, lc, yBV, nc, yBd]
      exact yc_acts_loop O (yFC_DR F _ _) L (by omega) _ 201 N 0 _ (by omega) (by omega) (by omega)
    · unfold fX6_acts wLet
      dsimp only
      rw [ym_isFamily O M1, yBd, yB1 g, lm, yBV, nm, yBd]
      have := ym_acts_loop O (yFM_LM (φ := φ) M1 (φ 0 6)) L (N := N) (by omega) (fun x17 μ16 => some (x17, μ16)) 201 N 0 (yNext φ (yLay φ (φ 0 6)) 200 0) (by omega) (by omega) (by omega)
      rw [if_neg (by omega)] at this
      exact this
  · refine yBth.mk' (v := -2) (μ1 := μ) (μm1 := wSI μm 0 0 0) ?_ ?_ (yKC.rfl' _) (yKM_0 _ _)
    · unfold fX0_acts
      rw [yc_isFamily O F, yBd, yB2 g]
    · unfold fX6_acts wLet
      dsimp only
      rw [ym_isFamily O M1, yBd, yB2 g]
