set_option maxRecDepth 100000
/-! part 993: may -/
theorem xI_ne_m1 {a : Nat} (ha : a < 2 ^ 31) : ¬ nI a = (-1 : Int32) := fun h => by
  have := congrArg Int32.toInt h
  rw [nI_toInt ha] at this
  have q : (-1 : Int32).toInt = -1 := by decide
  omega
def yNth (φ : Nat → Nat → Nat) (σ : ySt) : Nat → Nat → Nat → Nat
  | 0, _, _ => 201
  | n + 1, a, i => if 200 < a then 201 else if i = 0 then a else yNth φ σ n (if a = 200 then 201 else yNext φ σ (200 - (a + 1)) (a + 1)) (i - 1)
def yOr (r : Nat) : Int32 := if r = 201 then -1 else nI r
theorem yc_may_loop {φ : Nat → Nat → Nat} {μ : wMem} {σ : ySt} (O : yOk φ) (F : yFC φ μ) (S : ySok φ σ) {N : Nat} (hN : 202 ≤ N) {i : Nat} (hi : i < 2 ^ 31) : ∀ (n M x a : Nat), n < M → 201 ≤ a + n → a ≤ 201 → x ≤ i →
    gX0_may_22 N (nI i) (fun μ16 => some (-1, μ16)) M (nI x) (nI a) (yPut μ σ) = some (yOr (yNth φ σ n a (i - x)), yPut μ σ) := by
  intro n
  induction n with
  | zero =>
    intro M x a hM ha h1 hx
    obtain ⟨M, rfl⟩ : ∃ q, M = q + 1 := ⟨M - 1, by omega⟩
    show gbX0_may_22 N _ _ _ _ _ _ = _
    unfold gbX0_may_22
    have e : ((200 : Int32) < nI a) = (200 < a) := xI_lt (a := 200) (by decide) (by omega)
    rw [yIf e, if_pos (by omega)]
    rfl
  | succ n ih =>
    intro M x a hM ha h1 hx
    obtain ⟨M, rfl⟩ : ∃ q, M = q + 1 := ⟨M - 1, by omega⟩
    show gbX0_may_22 N _ _ _ _ _ _ = _
    unfold gbX0_may_22 wLet
    dsimp only
    have e : ((200 : Int32) < nI a) = (200 < a) := xI_lt (a := 200) (by decide) (by omega)
    have ei : nI a + (1 : Int32) = nI (a + 1) := nI_add a 1
    have ex : nI x + (1 : Int32) = nI (x + 1) := nI_add x 1
    rw [yIf e, ei, ex, yIf (xI_e (by omega) hi)]
    show _ = some (yOr (if 200 < a then 201 else if i - x = 0 then a else yNth φ σ n (if a = 200 then 201 else yNext φ σ (200 - (a + 1)) (a + 1)) (i - x - 1)), yPut μ σ)
    by_cases g : 200 < a
    · rw [if_pos g, if_pos g]; rfl
    · rw [if_neg g, if_neg g]
      by_cases g1 : x = i
      · rw [if_pos g1, if_pos (by omega)]
        unfold yOr
        rw [if_neg (by omega)]
      · rw [if_neg g1, if_neg (show ¬ i - x = 0 by omega)]
        have r : i - x - 1 = i - (x + 1) := by omega
        rw [r]
        by_cases g2 : a = 200
        · rw [if_pos g2, g2, yc_nextNo (by omega), yBd, ih M (x + 1) 201 (by omega) (by omega) (by omega) (by omega)]
        · rw [if_neg g2, yc_nextAct O F S hN (by omega), yBd]
          have := yNext_le φ σ (200 - (a + 1)) (a + 1)
          rw [ih M (x + 1) _ (by omega) (by omega) (by omega) (by omega)]
/-- no number below nought is come to -/
theorem yc_may_neg {φ : Nat → Nat → Nat} {μ : wMem} {σ : ySt} (O : yOk φ) (F : yFC φ μ) (S : ySok φ σ) {N : Nat} (hN : 202 ≤ N) {b : Int32} (hb : b.toInt < 0) : ∀ (n M x a : Nat), n < M → 201 ≤ a + n → a ≤ 201 → x + n < 2 ^ 31 →
    gX0_may_22 N b (fun μ16 => some (-1, μ16)) M (nI x) (nI a) (yPut μ σ) = some (-1, yPut μ σ) := by
  intro n
  induction n with
  | zero =>
    intro M x a hM ha h1 hx
    obtain ⟨M, rfl⟩ : ∃ q, M = q + 1 := ⟨M - 1, by omega⟩
    show gbX0_may_22 N _ _ _ _ _ _ = _
    unfold gbX0_may_22
    have e : ((200 : Int32) < nI a) = (200 < a) := xI_lt (a := 200) (by decide) (by omega)
    rw [yIf e, if_pos (by omega)]
  | succ n ih =>
    intro M x a hM ha h1 hx
    obtain ⟨M, rfl⟩ : ∃ q, M = q + 1 := ⟨M - 1, by omega⟩
    show gbX0_may_22 N _ _ _ _ _ _ = _
    unfold gbX0_may_22 wLet
    dsimp only
    have e : ((200 : Int32) < nI a) = (200 < a) := xI_lt (a := 200) (by decide) (by omega)
    have ei : nI a + (1 : Int32) = nI (a + 1) := nI_add a 1
    have ex : nI x + (1 : Int32) = nI (x + 1) := nI_add x 1
    have ne : ¬ nI x = b := fun h => by rw [← h, nI_toInt (by omega)] at hb; omega
    rw [yIf e, ei, ex, if_neg ne]
    by_cases g : 200 < a
    · rw [if_pos g]
    · rw [if_neg g]
      by_cases g2 : a = 200
      · rw [g2, yc_nextNo (by omega), yBd, ih M (x + 1) 201 (by omega) (by omega) (by omega) (by omega)]
      · rw [yc_nextAct O F S hN (by omega), yBd]
        have := yNext_le φ σ (200 - (a + 1)) (a + 1)
        rw [ih M (x + 1) _ (by omega) (by omega) (by omega) (by omega)]
theorem ym_may_loop {φ : Nat → Nat → Nat} {μ : wMem} {σ : ySt} (O : yOk φ) (F : yFM φ 0 μ) (S : ySok φ σ) {N : Nat} (hN : 202 ≤ N) {i : Nat} (hi : i < 2 ^ 31) : ∀ (n M x a : Nat), n < M → 201 ≤ a + n → a ≤ 201 → x ≤ i →
    gX6_may_33 N (nI i) (fun x19 μ18 => some (x19, μ18)) M (yOr a) (nI x) (yTut μ (yT φ σ)) = some (yOr (yNth φ σ n a (i - x)), yTut μ (yT φ σ)) := by
  intro n
  induction n with
  | zero =>
    intro M x a hM ha h1 hx
    obtain ⟨M, rfl⟩ : ∃ q, M = q + 1 := ⟨M - 1, by omega⟩
    show gbX6_may_33 N _ _ _ _ _ _ = _
    unfold gbX6_may_33
    have q : a = 201 := by omega
    rw [q]
    show (if nI i ≤ nI x then some (yOr 201, _) else if yOr 201 = -1 then some (yOr 201, _) else _) = some (yOr 201, _)
    split
    · rfl
    · rw [if_pos (show yOr 201 = -1 from rfl)]
  | succ n ih =>
    intro M x a hM ha h1 hx
    obtain ⟨M, rfl⟩ : ∃ q, M = q + 1 := ⟨M - 1, by omega⟩
    show gbX6_may_33 N _ _ _ _ _ _ = _
    unfold gbX6_may_33 wLet
    have ei : nI a + (1 : Int32) = nI (a + 1) := nI_add a 1
    have ex : nI x + (1 : Int32) = nI (x + 1) := nI_add x 1
    rw [yIf (xI_le hi (by omega)), ex]
    show _ = some (yOr (if 200 < a then 201 else if i - x = 0 then a else yNth φ σ n (if a = 200 then 201 else yNext φ σ (200 - (a + 1)) (a + 1)) (i - x - 1)), yTut μ (yT φ σ))
    by_cases g : 200 < a
    · have q : a = 201 := by omega
      rw [if_pos g, q]
      by_cases g1 : i ≤ x
      · rw [if_pos g1]
      · rw [if_neg g1, if_pos (show yOr 201 = -1 from rfl)]
    · have q : yOr a = nI a := by unfold yOr; rw [if_neg (by omega)]
      rw [if_neg g, q]
      by_cases g1 : i ≤ x
      · rw [if_pos g1, if_pos (show i - x = 0 by omega), q]
      · rw [if_neg g1, if_neg (xI_ne_m1 (by omega)), if_neg (show ¬ i - x = 0 by omega), ei]
        have r : i - x - 1 = i - (x + 1) := by omega
        rw [r]
        by_cases g2 : a = 200
        · rw [if_pos g2, g2, ym_nextNo O F (by omega), yBd]
          exact ih M (x + 1) 201 (by omega) (by omega) (by omega) (by omega)
        · rw [if_neg g2, ym_nextAct O F S hN (by omega), yBd]
          have b := yNext_le φ σ (200 - (a + 1)) (a + 1)
          have := ih M (x + 1) (yNext φ σ (200 - (a + 1)) (a + 1)) (by omega) (by omega) (by omega) (by omega)
          have q2 : yOr (yNext φ σ (200 - (a + 1)) (a + 1)) = nI (yNext φ σ (200 - (a + 1)) (a + 1)) := by
            show (if _ = 201 then _ else _) = _
            rw [if_neg (by omega)]
          rw [q2] at this
          exact this
theorem yq_may {φ : Nat → Nat → Nat} {μ μm : wMem} (O : yOk φ) (G : yGo φ) (F : yFC φ μ) (M : yFM φ 0 μm) {N : Nat} (hN : 203 ≤ N) (a1 : Int32) : yBth (fX0_may N a1) (fX6_may N a1) μ μm := by
  have M1 := (yKM_0 μm 0).fm M
  have L := yLay_ok O G (φ 0 6) (Nat.le_refl _)
  have lc : fX0_asItIs N μ = some (yCl φ μ) := yc_lay O F G (by omega)
  have lm : fX6_lays N (wSI μm 0 0 0) = some (yMl φ μm) := ym_lay O M1 G (by omega)
  have nc : fX0_nextAct N 0 (yCl φ μ) = some (nI (yNext φ (yLay φ (φ 0 6)) 200 0), yCl φ μ) := yc_nextAct (a := 0) O (yFC_DR F _ _) L (by omega) (by decide)
  have nm : fX6_nextAct N 0 (yMl φ μm) = some (nI (yNext φ (yLay φ (φ 0 6)) 200 0), yMl φ μm) := ym_nextAct (a := 0) O (yFM_LM M1 _) L (by omega) (by decide)
  have b := yNext_le φ (yLay φ (φ 0 6)) 200 0
  by_cases g : φ 0 1 ≠ 0
  · by_cases g1 : 0 ≤ a1.toInt
    · have z0 : (0 : Int32).toInt = 0 := by decide
      have p1 : (0 : Int32) ≤ a1 := Int32.le_iff_toInt_le.mpr (by omega)
      obtain ⟨i, hi, e1⟩ : ∃ i, i < 2 ^ 31 ∧ a1 = nI i := by
        refine ⟨a1.toInt.toNat, ?_, ?_⟩
        · have := Int32.toInt_lt a1; omega
        · apply Int32.toInt_inj.mp
          have := Int32.toInt_lt a1
          rw [nI_toInt (by omega)]
          omega
      refine yBth.mk' (v := yOr (yNth φ (yLay φ (φ 0 6)) 201 (yNext φ (yLay φ (φ 0 6)) 200 0) (i - 0))) (μ1 := yCl φ μ) (μm1 := yMl φ μm) ?_ ?_ (yCl_k φ μ) (yMl_k φ μm)
      · unfold fX0_may
        rw [yc_isFamily O F, yBd, yB1 g, lc, yBV, nc, yBd, e1]
        exact yc_may_loop O (yFC_DR F _ _) L (by omega) hi 201 N 0 _ (by omega) (by omega) (by omega) (Nat.zero_le _)
      · unfold fX6_may wLet
        dsimp only
        rw [ym_isFamily O M1, yBd, yB1 g, if_pos p1, lm, yBV, nm, yBd, e1]
        have := ym_may_loop O (yFM_LM (φ := φ) M1 (φ 0 6)) L (N := N) (by omega) hi 201 N 0 (yNext φ (yLay φ (φ 0 6)) 200 0) (by omega) (by omega) (by omega) (Nat.zero_le _)
        have q2 : yOr (yNext φ (yLay φ (φ 0 6)) 200 0) = nI (yNext φ (yLay φ (φ 0 6)) 200 0) := by
          show (if _ = 201 then _ else _) = _
          rw [if_neg (by omega)]
        rw [q2] at this
        exact this
    · have z0 : (0 : Int32).toInt = 0 := by decide
      have p1 : ¬ (0 : Int32) ≤ a1 := by
        intro h
        have := Int32.le_iff_toInt_le.mp h
        omega
      refine yBth.mk' (v := -1) (μ1 := yCl φ μ) (μm1 := wSI μm 0 0 0) ?_ ?_ (yCl_k φ μ) (yKM_0 _ _)
      · unfold fX0_may
        rw [yc_isFamily O F, yBd, yB1 g, lc, yBV, nc, yBd]
        exact yc_may_neg O (yFC_DR F _ _) L (by omega) (by omega) 201 N 0 _ (by omega) (by omega) (by omega) (by omega)
      · unfold fX6_may wLet
        dsimp only
        rw [ym_isFamily O M1, yBd, yB1 g, if_neg p1]
  · refine yBth.mk' (v := -2) (μ1 := μ) (μm1 := wSI μm 0 0 0) ?_ ?_ (yKC.rfl' _) (yKM_0 _ _)
    · unfold fX0_may
      rw [yc_isFamily O F, yBd, yB2 g]
    · unfold fX6_may wLet
      dsimp only
      rw [ym_isFamily O M1, yBd, yB2 g]
