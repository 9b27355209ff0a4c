set_option maxRecDepth 100000
/-! part 991: the next act that can be -/
def yGd (φ : Nat → Nat → Nat) (a : Nat) : Bool := decide (a / 100 < φ 0 3) && (decide (a % 100 / 10 ≤ φ 0 2) && decide (a % 10 < φ 0 2))
theorem yGd_act {φ : Nat → Nat → Nat} {a : Nat} (ha : a < 200) (h : yGd φ a = true) : yAct φ a := by
  unfold yGd at h
  simp only [Bool.and_eq_true, decide_eq_true_eq] at h
  exact Or.inr ⟨ha, h.1, h.2.1, h.2.2⟩
/-- from a on, n steps at most -/
def yNext (φ : Nat → Nat → Nat) (σ : ySt) : Nat → Nat → Nat
  | 0, a => a
  | n + 1, a => if (yGd φ a && yCan φ σ a) = true then a else yNext φ σ n (a + 1)
theorem yL_r10 : ∀ a, a < 200 → lN a - lN a / (10 : Int64) * (10 : Int64) = lN (a % 10) := by decide +kernel
theorem yL_rd : ∀ a, a < 200 → (lN a - lN a / (100 : Int64) * (100 : Int64)) / (10 : Int64) = lN (a % 100 / 10) := by decide +kernel
theorem yIs_iff {p n : Nat} (hp : p < 2 ^ 31) : yIs (nI p) n = (p < n) := by
  unfold yIs
  rw [nI_toInt hp]
  apply propext
  omega
theorem yc_isAct {φ : Nat → Nat → Nat} {μ : wMem} (O : yOk φ) (F : yFC φ μ) (N : Nat) {a : Nat} (ha : a < 200) : fX0_isAct N (nI a).toInt64 μ = some (yB (yGd φ a), μ) := by
  have h6 := O.persons
  have h2 := O.posts
  have e200 : ((nI a).toInt64 = (200 : Int64)) = False := by
    rw [xI_l (by omega)]
    apply propext
    constructor
    · intro h
      have := (lN_eq (a := a) (b := 200) (by omega) (by decide)).mp h
      omega
    · exact False.elim
  have e199 : (199 : Int64) = (nI 200 - 1).toInt64 := by decide
  have bk : Int64.toInt32 (nI a).toInt64 = nI a := by rw [xI_l (by omega)]; exact xL_i
  have g0 : yIs (nI a) 200 := yIs_n ha (by decide)
  unfold fX0_isAct
  rw [yIf e200, if_neg (fun h => h), e199, yc_isIn _ (by decide), yBd, yB1 g0]
  unfold fX0_postIn fX0_childIn fX0_personIn
  rw [bk, xI_rd (by omega), xI_r10 (by omega), yBd, xI_d100 (by omega), yc_isPost O F, yBd]
  unfold yGd
  by_cases g1 : a / 100 < φ 0 3
  · rw [yB1 (show yIs (nI (a / 100)) (φ 0 3) from yIs_n g1 (by omega)), yBd]
    by_cases g2 : a % 100 / 10 ≤ φ 0 2
    · have pn : yPN (nI (a % 100 / 10) - 1) (φ 0 2) := by
        by_cases z : a % 100 / 10 = 0
        · rw [z]; exact Or.inl (by decide)
        · rw [xI_pred (by omega)]; exact Or.inr (yIs_n (by omega) (by omega))
      rw [(yc_pn O F N _).1 pn, yBd, if_neg (show ¬ (1 : Int32) = 0 by decide), yBd, yc_isPerson O F, yBd]
      by_cases g3 : a % 10 < φ 0 2
      · rw [yB1 (show yIs (nI (a % 10)) (φ 0 2) from yIs_n g3 (by omega))]
        simp [g1, g2, g3, yB]
      · rw [yB2 (show ¬ yIs (nI (a % 10)) (φ 0 2) by rw [yIs_iff (by omega)]; exact g3)]
        simp [g1, g2, g3, yB]
    · have pn : ¬ yPN (nI (a % 100 / 10) - 1) (φ 0 2) := by
        rw [xI_pred (by omega)]
        intro h
        rcases h with h | h
        · have := congrArg Int32.toInt h
          rw [nI_toInt (by omega)] at this
          have q : (-1 : Int32).toInt = -1 := by decide
          omega
        · rw [yIs_iff (by omega)] at h
          omega
      rw [(yc_pn O F N _).2 pn, yBd, if_pos rfl]
      simp [g1, g2, yB]
  · rw [yB2 (show ¬ yIs (nI (a / 100)) (φ 0 3) by rw [yIs_iff (by omega)]; exact g1)]
    simp [g1, yB]
theorem ym_isActN {φ : Nat → Nat → Nat} {μ : wMem} (O : yOk φ) (F : yFM φ 0 μ) (N : Nat) {a : Nat} (ha : a < 200) : fX6_isActNumber N (nI a).toInt64 μ = some (yB (yGd φ a), μ) := by
  have h6 := O.persons
  have h2 := O.posts
  have q2 : μ.1 7 (Int32.toNatClampNeg (2 : Int32)) = nI (φ 0 2) := F.persons
  have q3 : μ.1 7 (Int32.toNatClampNeg (3 : Int32)) = nI (φ 0 3) := F.posts
  have e200 : (lN a = (200 : Int64)) = False := by
    apply propext
    constructor
    · intro h
      have := (lN_eq (a := a) (b := 200) (by omega) (by decide)).mp h
      omega
    · exact False.elim
  have e0 : (lN a < (0 : Int64)) = False := by
    apply propext
    constructor
    · intro h
      have := (lN_lt (a := a) (b := 0) (by omega) (by decide)).mp h
      omega
    · exact False.elim
  have e3 : ((100 : Int64) * lN (φ 0 3) ≤ lN a) = (¬ a / 100 < φ 0 3) := by
    have x : (100 : Int64) * lN (φ 0 3) = lN (100 * φ 0 3) := lN_mul 100 _
    rw [x]
    apply propext
    rw [lN_le (by omega) (by omega)]
    omega
  have e1 : (lN (φ 0 2) ≤ lN (a % 10)) = (¬ a % 10 < φ 0 2) := by
    apply propext
    rw [lN_le (by omega) (by omega)]
    omega
  have e2 : (lN (φ 0 2) < lN (a % 100 / 10)) = (¬ a % 100 / 10 ≤ φ 0 2) := by
    apply propext
    rw [lN_lt (by omega) (by omega)]
    omega
  unfold fX6_isActNumber
  rw [xI_l (by omega), yIf e200, if_neg (fun h => h), yIf e0, if_neg (fun h => h), yG (show ok_in (3 : Int32) 35 = true by decide), yG (show ok_in (2 : Int32) 35 = true by decide), yG (show ok_in (2 : Int32) 35 = true by decide), q2, q3, xI_l (by omega), xI_l (by omega),
    yL_r10 a ha, yL_rd a ha, yIf e3, yIf e1, yIf e2]
  unfold yGd
  by_cases g1 : a / 100 < φ 0 3
  · rw [if_neg (fun h => h g1)]
    by_cases g3 : a % 10 < φ 0 2
    · rw [if_neg (fun h => h g3)]
      by_cases g2 : a % 100 / 10 ≤ φ 0 2
      · rw [if_neg (fun h => h g2)]
        simp [g1, g2, g3, yB]
      · rw [if_pos g2]
        simp [g1, g2, yB]
    · rw [if_pos g3]
      simp [g1, g3, yB]
  · rw [if_pos g1]
    simp [g1, yB]
theorem yc_next_loop {φ : Nat → Nat → Nat} {μ : wMem} {σ : ySt} (O : yOk φ) (F : yFC φ μ) (S : ySok φ σ) {N : Nat} (hN : 4 ≤ N) (K : Int32 → wMem → Option (Int32 × wMem)) : ∀ (n M a : Nat), n < M → a + n = 200 →
    gX0_nextAct_2 N K M (nI a) (yPut μ σ) = K (nI (yNext φ σ n a)) (yPut μ σ) := by
  intro n
  induction n with
  | zero =>
    intro M a hM ha
    obtain ⟨M, rfl⟩ : ∃ q, M = q + 1 := ⟨M - 1, by omega⟩
    show gbX0_nextAct_2 N K _ _ _ = _
    unfold gbX0_nextAct_2
    have e : ((200 : Int32) ≤ nI a) = (200 ≤ a) := xI_le (a := 200) (by decide) (by omega)
    rw [yIf e, if_pos (by omega)]
    rfl
  | succ n ih =>
    intro M a hM ha
    obtain ⟨M, rfl⟩ : ∃ q, M = q + 1 := ⟨M - 1, by omega⟩
    show gbX0_nextAct_2 N K _ _ _ = _
    unfold gbX0_nextAct_2 wLet
    dsimp only
    have e : ((200 : Int32) ≤ nI a) = (200 ≤ a) := xI_le (a := 200) (by decide) (by omega)
    have ei : nI a + (1 : Int32) = nI (a + 1) := nI_add a 1
    have nx := ih M (a + 1) (by omega) (by omega)
    rw [yIf e, if_neg (by omega), yc_isAct O (yFC_put F σ) N (by omega), yBd, yIf (yB_0 _), ei]
    show _ = K (nI (if (yGd φ a && yCan φ σ a) = true then a else yNext φ σ n (a + 1))) (yPut μ σ)
    by_cases g1 : yGd φ a = false
    · rw [if_pos g1, if_neg (by simp [g1])]
      exact nx
    · have g1' : yGd φ a = true := by simpa using g1
      rw [if_neg g1, yc_can O F S hN (yGd_act (by omega) g1'), yBd, yIf (yB_0 _)]
      by_cases g2 : yCan φ σ a = false
      · rw [if_pos g2, if_neg (by simp [g2])]
        exact nx
      · have g2' : yCan φ σ a = true := by simpa using g2
        rw [if_neg g2, if_pos (by simp [g1', g2'])]
theorem yc_nextAct {φ : Nat → Nat → Nat} {μ : wMem} {σ : ySt} (O : yOk φ) (F : yFC φ μ) (S : ySok φ σ) {N : Nat} (hN : 202 ≤ N) {a : Nat} (ha : a ≤ 200) : fX0_nextAct N (nI a) (yPut μ σ) = some (nI (yNext φ σ (200 - a) a), yPut μ σ) := by
  unfold fX0_nextAct
  exact yc_next_loop O F S (by omega) _ (200 - a) N a (by omega) (by omega)
