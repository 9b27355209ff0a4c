set_option maxRecDepth 100000
/-! part 87: the twin's stamps, whyOf, marks, crosses, mayAct, does, numberOf, begin -/
def yMany (m : Nat) : Nat := if m ≤ 1 then 0 else if m ≤ 3 then 1 else if m ≤ 7 then 2 else 3
theorem yMany_bits : ∀ m, m < 16 → 0 < m → nI (m - 1) - ((1 : Int32) <<< (nI (yMany m) &&& 31)) + 1 = nI (m - 2 ^ yMany m) := by decide +kernel
theorem yMany_le : ∀ m, m < 16 → ∀ i, i < 4 → (yMany m ≤ i) = (m / 2 ^ i ≤ 1) := by decide +kernel
theorem yMany_bit : ∀ m, m < 16 → ∀ i, i < 4 → i < yMany m → (nI (m - 2 ^ yMany m) >>> (nI i &&& 31)) &&& (1 : Int32) = nI (m / 2 ^ i % 2) := by decide +kernel
theorem ym_many {m : Nat} (h0 : 0 < m) (h : m < 16) {α : Type} (J : Int32 → wMem → α) (μ : wMem) :
    (if nI (m - 1) = 0 then J 0 μ else if (3 : Int32) ≤ nI (m - 1) then if (7 : Int32) ≤ nI (m - 1) then J 3 μ else J 2 μ else J 1 μ) = J (nI (yMany m)) μ := by
  have e3 : ((3 : Int32) ≤ nI (m - 1)) = (3 ≤ m - 1) := xI_le (a := 3) (by decide) (by omega)
  have e7 : ((7 : Int32) ≤ nI (m - 1)) = (7 ≤ m - 1) := xI_le (a := 7) (by decide) (by omega)
  rw [yIf (xI_e0 (by omega)), yIf e3, yIf e7]
  unfold yMany
  by_cases g1 : m - 1 = 0
  · rw [if_pos g1, if_pos (by omega)]; rfl
  · rw [if_neg g1, if_neg (show ¬ m ≤ 1 by omega)]
    by_cases g2 : 3 ≤ m - 1
    · rw [if_pos g2, if_neg (show ¬ m ≤ 3 by omega)]
      by_cases g3 : 7 ≤ m - 1
      · rw [if_pos g3, if_neg (show ¬ m ≤ 7 by omega)]; rfl
      · rw [if_neg g3, if_pos (show m ≤ 7 by omega)]; rfl
    · rw [if_neg g2, if_pos (show m ≤ 3 by omega)]; rfl
theorem ym_stamps_loop {φ : Nat → Nat → Nat} {μ : wMem} (O : yOk φ) (F : yFM φ 0 μ) (N : Nat) {k m : Nat} (hk : k < φ 0 3) (hm0 : 0 < m) (hm : m < 16) : ∀ (n M i now : Nat), n < M → i + n = φ 5 k → now < 2 →
    gX6_stamps_56 N (nI k) (nI (yMany m)) (nI (m - 2 ^ yMany m)) (fun μ => some (1, μ)) M (nI now) (nI i) μ = some (yB (yFit n now (m / 2 ^ i)), μ) := by
  have h2 := O.posts
  have h3 := O.looks k hk
  have e3 : (3 : Int32) * nI k + (2 : Int32) = nI (3 * k + 2) := by
    have : (3 : Int32) * nI k = nI (3 * k) := xI_mul 3 k
    rw [this]; exact nI_add _ 2
  have hM3 : yMany m ≤ 3 := by unfold yMany; repeat' split
                               all_goals decide
  intro n
  induction n with
  | zero =>
    intro M i now hM hi hn
    obtain ⟨M, rfl⟩ : ∃ q, M = q + 1 := ⟨M - 1, by omega⟩
    show gbX6_stamps_56 N (nI k) _ _ _ _ _ _ μ = _
    unfold gbX6_stamps_56
    rw [e3, yG (xI_in (by omega) (by omega)), xI_cl (by omega), F.looks hk, yIf (xI_le (by omega) (by omega)), if_pos (by omega)]
    rfl
  | succ n ih =>
    intro M i now hM hi hn
    obtain ⟨M, rfl⟩ : ∃ q, M = q + 1 := ⟨M - 1, by omega⟩
    show gbX6_stamps_56 N (nI k) _ _ _ _ _ _ μ = _
    unfold gbX6_stamps_56 wLet
    have ei : nI i + (1 : Int32) = nI (i + 1) := nI_add i 1
    rw [e3, yG (xI_in (by omega) (by omega)), xI_cl (by omega), F.looks hk, yIf (xI_le (by omega) (by omega)), if_neg (by omega), yIf (xI_le (by omega) (by omega)), ei]
    show _ = some (yB (if m / 2 ^ i ≤ 1 then true else if m / 2 ^ i % 2 = now then false else yFit n (m / 2 ^ i % 2) (m / 2 ^ i / 2)), μ)
    have eq := yMany_le m hm i (by omega)
    by_cases c1 : yMany m ≤ i
    · rw [if_pos c1, if_pos (by rw [← eq]; exact c1)]; rfl
    · have c1' : ¬ m / 2 ^ i ≤ 1 := by rw [← eq]; exact c1
      rw [if_neg c1, if_neg c1', yMany_bit m hm i (by omega) (by omega), yIf (xI_e (by omega) (by omega))]
      by_cases c2 : m / 2 ^ i % 2 = now
      · rw [if_pos c2, if_pos c2]; rfl
      · rw [if_neg c2, if_neg c2]
        have := ih M (i + 1) (m / 2 ^ i % 2) (by omega) (by omega) (by omega)
        have e2 : m / 2 ^ (i + 1) = m / 2 ^ i / 2 := by rw [Nat.pow_succ, Nat.div_div_eq_div_mul]
        rw [e2] at this
        exact this
theorem ym_stamps {φ : Nat → Nat → Nat} {μ : wMem} {σ : ySt} (O : yOk φ) (F : yFM φ 0 μ) (S : ySok φ σ) {N : Nat} (hN : 4 ≤ N) {k w : Nat} (hk : k < φ 0 3) (hw : w < 2) :
    fX6_stamps N (nI k) (nI w) (yTut μ (yT φ σ)) = some (yB (yFit (φ 5 k) w σ.mk), yTut μ (yT φ σ)) := by
  have h3 := O.looks k hk
  unfold fX6_stamps wLet
  dsimp only
  rw [yTut_27]
  show (if nI (σ.mk - 1) = 0 then _ else if _ then if _ then _ else _ else _) = _
  refine (ym_many S.mk0 S.mk1 (fun v2 μ1 => gX6_stamps_56 N (nI k) v2 (μ1.1 0 27 - 1 <<< (v2 &&& 31) + 1) (fun μ10 => some (1, μ10)) N (nI w) 0 μ1) (yTut μ (yT φ σ))).trans ?_
  rw [yTut_27]
  show gX6_stamps_56 N (nI k) (nI (yMany σ.mk)) (nI (σ.mk - 1) - 1 <<< (nI (yMany σ.mk) &&& 31) + 1) _ N (nI w) (nI 0) _ = _
  rw [yMany_bits _ S.mk1 S.mk0]
  have := ym_stamps_loop O (yFM_put F (yT φ σ)) N hk S.mk0 S.mk1 (φ 5 k) N 0 w (by omega) (by omega) hw
  rw [Nat.pow_zero, Nat.div_one] at this
  exact this
theorem ym_bit {a p : Nat} (ha : a < 2 ^ 31) (hp : p < 32) (N : Nat) (μ : wMem) : fX6_isBit N (nI a) (nI p) μ = some (yB (decide (yBit a p = 1)), μ) := by
  have := yBit_lt a p
  unfold fX6_isBit
  rw [xI_bit ha hp]
  show (if nI (yBit a p) = 1 then _ else _) = _
  rw [yIf (xI_e1 (by omega))]
  by_cases h : yBit a p = 1
  · rw [if_pos h]; simp [yB, h]
  · rw [if_neg h]; simp [yB, h]
theorem ym_side {φ : Nat → Nat → Nat} {σ : ySt} (O : yOk φ) (S : ySok φ σ) (μ : wMem) (N : Nat) {p : Nat} (hp : p < 32) : fX6_sideOf N (nI p) (yTut μ (yT φ σ)) = some (nI (yBit σ.ov p), yTut μ (yT φ σ)) := by
  have h64 := yOv64 O S
  unfold fX6_sideOf
  rw [yTut_23]
  show some ((nI σ.ov >>> _) &&& 1, _) = _
  rw [xI_bit (by omega) hp]
  rfl
theorem ym_z {φ : Nat → Nat → Nat} {σ : ySt} {k : Nat} (hk : k < φ 0 3) (h2 : φ 0 3 ≤ 2) (J : Int32 → Option (Int32 × wMem)) (μ : wMem) : (if nI k = 0 then J ((yTut μ (yT φ σ)).1 0 25) else J ((yTut μ (yT φ σ)).1 0 26)) = J (nI (σ.z k)) := by
  rw [yIf (xI_e0 (by omega)), yTut_25, yTut_26]
  unfold ySt.z
  by_cases h : k = 0
  · rw [if_pos h, if_pos h]; rfl
  · rw [if_neg h, if_neg h]
    unfold yT
    rw [ySt.of_z1, if_neg (by omega)]
theorem ym_whyElse {φ : Nat → Nat → Nat} {μ : wMem} {σ : ySt} (O : yOk φ) (F : yFM φ 0 μ) (S : ySok φ σ) {N : Nat} (hN : 4 ≤ N) {p c k w : Nat} (hp : p < φ 0 2) (hc : c ≤ φ 0 2) (hk : k < φ 0 3) (hw : w < 2) :
    fX6_whyElse N (nI p) (nI c - 1) (nI k) (nI w) (yTut μ (yT φ σ)) = some (nI (
      if yBit (φ 0 4) p = 1 then 2
      else if c = 0 then (if yBeh φ (σ.z k) p k = false then 4 else if yFit (φ 5 k) w σ.mk = false then 5 else 0)
      else if yBit (φ 0 4) (c - 1) = 1 then
        if yBit σ.ov (c - 1) = w then (if yBeh φ (σ.z k) p k = false then 4 else if yFit (φ 5 k) w σ.mk = false then 5 else 0)
        else 3
      else 3), yTut μ (yT φ σ)) := by
  have h6 := O.persons
  have h2 := O.posts
  have hch := O.children
  have b2 := yBit_lt σ.ov (c - 1)
  have T : (if nI k = 0 then (fun v8 => wBind (fX6_noses N (nI p) v8 (nI k) (yTut μ (yT φ σ))) fun v12 μ11 => if v12 = 0 then some (4, μ11) else wBind (fX6_stamps N (nI k) (nI w) μ11) fun v16 μ15 => if v16 = 0 then some ((5 : Int32), μ15) else some (0, μ15)) ((yTut μ (yT φ σ)).1 0 25) else (fun v8 => wBind (fX6_noses N (nI p) v8 (nI k) (yTut μ (yT φ σ))) fun v12 μ11 => if v12 = 0 then some (4, μ11) else wBind (fX6_stamps N (nI k) (nI w) μ11) fun v16 μ15 => if v16 = 0 then some ((5 : Int32), μ15) else some (0, μ15)) ((yTut μ (yT φ σ)).1 0 26)) =
      some (nI (if yBeh φ (σ.z k) p k = false then 4 else if yFit (φ 5 k) w σ.mk = false then 5 else 0), yTut μ (yT φ σ)) := by
    rw [ym_z hk h2 (fun v8 => wBind (fX6_noses N (nI p) v8 (nI k) (yTut μ (yT φ σ))) fun v12 μ11 => if v12 = 0 then some (4, μ11) else wBind (fX6_stamps N (nI k) (nI w) μ11) fun v16 μ15 => if v16 = 0 then some ((5 : Int32), μ15) else some (0, μ15)) μ]
    rw [ym_noses O (yFM_put F _) N (ySz S k) hp hk, yBd, yIf (yB_0 _)]
    by_cases h : yBeh φ (σ.z k) p k = false
    · rw [if_pos h, if_pos h]; rfl
    · rw [if_neg h, if_neg h, ym_stamps O F S hN hk hw, yBd, yIf (yB_0 _)]
      by_cases h : yFit (φ 5 k) w σ.mk = false
      · rw [if_pos h, if_pos h]; rfl
      · rw [if_neg h, if_neg h]; rfl
  have c4 : (yTut μ (yT φ σ)).1 7 (Int32.toNatClampNeg (4 : Int32)) = nI (φ 0 4) := by
    rw [yTut_c μ _ (by decide)]; exact F.children
  unfold fX6_whyElse wLet
  dsimp only
  rw [yG (show ok_in (4 : Int32) 35 = true by decide), c4, ym_bit (by omega) (by omega), yBd, yIf (yB_0 _)]
  by_cases g2 : yBit (φ 0 4) p = 1
  · rw [if_neg (by simp [g2]), if_pos g2]; rfl
  · rw [if_pos (by simp [g2]), if_neg g2, yIf (xI_m1 (by omega))]
    by_cases g3 : c = 0
    · rw [if_pos g3, if_pos g3]
      exact T
    · rw [if_neg g3, if_neg g3, xI_pred (by omega), yG (show ok_in (4 : Int32) 35 = true by decide), c4, ym_bit (by omega) (by omega), yBd, yIf (yB_0 _)]
      by_cases g4 : yBit (φ 0 4) (c - 1) = 1
      · rw [if_neg (by simp [g4]), if_pos g4, ym_side O S μ N (by omega), yBd, yIf (xI_e (by omega) (by omega))]
        by_cases g5 : yBit σ.ov (c - 1) = w
        · rw [if_pos g5, if_pos g5]
          exact T
        · rw [if_neg g5, if_neg g5]; rfl
      · rw [if_pos (by simp [g4]), if_neg g4]; rfl
theorem ym_whyOf {φ : Nat → Nat → Nat} {μ : wMem} {σ : ySt} (O : yOk φ) (F : yFM φ 0 μ) (S : ySok φ σ) {N : Nat} (hN : 4 ≤ N) {p c k : Nat} (hp : p < φ 0 2) (hc : c ≤ φ 0 2) (hk : k < φ 0 3) :
    fX6_whyOf N (nI p) (nI c - 1) (nI k) (yTut μ (yT φ σ)) = some (nI (yWhy φ σ p c k), yTut μ (yT φ σ)) := by
  have h6 := O.persons
  have b1 := yBit_lt σ.ov p
  have hsd := S.sd
  have e24 : (yTut μ (yT φ σ)).1 0 24 = nI σ.sd := yTut_24 μ _
  unfold fX6_whyOf
  rw [ym_side O S μ N (by omega), yBd, e24, yIf (xI_e (by omega) (by omega))]
  unfold yWhy
  by_cases g1 : yBit σ.ov p = σ.sd
  · rw [if_pos g1, if_pos g1, ym_whyElse O F S hN hp hc hk hsd, yBd]
  · rw [if_neg g1, if_neg g1]; rfl
theorem ym_mayAct {φ : Nat → Nat → Nat} {μ : wMem} {σ : ySt} (O : yOk φ) (F : yFM φ 0 μ) (S : ySok φ σ) {N : Nat} (hN : 4 ≤ N) {a : Nat} (ha : yAct φ a) :
    fX6_mayAct N (nI a) (yTut μ (yT φ σ)) = some (yB (yCan φ σ a), yTut μ (yT φ σ)) := by
  have hl := ha.le
  unfold fX6_mayAct wLet
  dsimp only
  rw [yIf (xI_e200 (by omega))]
  by_cases h : a = 200
  · rw [if_pos h]; simp [yCan, h, yB]
  · rw [if_neg h]
    obtain ⟨h1, h2, h3, h4⟩ := ha.resolve_left h
    rw [xI_r10 (by omega), xI_rd (by omega), xI_d100 (by omega), ym_whyOf O F S hN h4 h3 h2, yBd]
    have := yWhy_lt φ σ (a % 10) (a % 100 / 10) (a / 100)
    rw [yIf (xI_e0 (by omega))]
    by_cases g : yWhy φ σ (a % 10) (a % 100 / 10) (a / 100) = 0
    · rw [if_pos g]; simp [yCan, h, yB, g]
    · rw [if_neg g]; simp [yCan, h, yB, g]
