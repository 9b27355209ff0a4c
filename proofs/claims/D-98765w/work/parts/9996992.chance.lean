set_option maxRecDepth 100000
/-! part 9996992: chance -/
theorem lN_toInt63 {n : Nat} (h : n < 2 ^ 63) : (lN n).toInt = (n : Int) := Int64.toInt_ofNat_of_lt h
theorem lN_div {a b : Nat} (ha : a < 2 ^ 63) (hb : b < 2 ^ 63) : lN a / lN b = lN (a / b) := by
  apply Int64.toInt_inj.mp
  have h2 : a / b ≤ a := Nat.div_le_self a b
  rw [Int64.toInt_div, lN_toInt63 ha, lN_toInt63 hb, lN_toInt63 (Nat.lt_of_le_of_lt h2 ha)]
  have h1 : ((a : Int).tdiv (b : Int)) = ((a / b : Nat) : Int) := by
    rw [Int.tdiv_eq_ediv_of_nonneg (by omega)]
    exact (Int.natCast_ediv a b).symm
  rw [h1]
  generalize a / b = c at h2 ⊢
  exact Int.bmod_eq_of_le (by omega) (by omega)
theorem lN_rem {a b : Nat} (ha : a < 2 ^ 63) (hb : b < 2 ^ 63) : lN a - lN a / lN b * lN b = lN (a % b) := by
  rw [lN_div ha hb, lN_mul, lN_sub (Nat.div_mul_le_self a b)]
  congr 1
  have := Nat.div_add_mod a b
  rw [Nat.mul_comm] at this
  omega
theorem lN_z {a : Nat} (ha : a < 2 ^ 63) : (lN a = (0 : Int64)) = (a = 0) := by
  apply propext
  constructor
  · intro h
    have h1 : (lN a).toInt = (0 : Int64).toInt := congrArg Int64.toInt h
    rw [lN_toInt63 ha, show (0 : Int64).toInt = 0 by decide] at h1
    omega
  · intro h
    subst h
    rfl
theorem lN_nz {a : Nat} (ha : a < 2 ^ 63) (h : a ≠ 0) : ok_nzL (lN a) = true := by
  unfold ok_nzL
  have : ¬ lN a = 0 := by rw [lN_z ha]; exact h
  simp [this]
theorem yGcd (a b : Nat) : Nat.gcd a b = Nat.gcd b (a % b) := by rw [Nat.gcd_comm a b, Nat.gcd_rec b a, Nat.gcd_comm]
theorem yRem_half {b r k : Nat} (hr : r < b) (h0 : r ≠ 0) (hb : b < 2 ^ (k + 1)) : b % r < 2 ^ k := by
  have h1 : b % r < r := Nat.mod_lt _ (by omega)
  have h2 : r * (b / r) + b % r = b := Nat.div_add_mod b r
  have h3 : 1 ≤ b / r := Nat.div_pos (by omega) (by omega)
  have h4 : r * 1 ≤ r * (b / r) := Nat.mul_le_mul_left _ h3
  have h5 : 2 ^ (k + 1) = 2 * 2 ^ k := by rw [Nat.pow_succ]; omega
  omega
theorem yc_gcd (N : Nat) (μ : wMem) (K : Int64 → wMem → Option (Int64 × wMem)) : ∀ (k M a b : Nat), b < 2 ^ k → k ≤ 63 → a < 2 ^ 63 → 2 * k + 1 ≤ M → gX0_divisor_6 N K M (lN a) (lN b) μ = K (lN (Nat.gcd a b)) μ := by
  have zero : ∀ (M a : Nat), 1 ≤ M → gX0_divisor_6 N K M (lN a) (lN 0) μ = K (lN (Nat.gcd a 0)) μ := fun M a hM => by
    obtain ⟨M, rfl⟩ : ∃ q, M = q + 1 := ⟨M - 1, by omega⟩
    show gbX0_divisor_6 N _ _ _ _ _ = _
    unfold gbX0_divisor_6
    rw [if_pos (show lN 0 = 0 from rfl), Nat.gcd_zero_right]
  have one : ∀ (M a b : Nat), b ≠ 0 → a < 2 ^ 63 → b < 2 ^ 63 → gX0_divisor_6 N K (M + 1) (lN a) (lN b) μ = gX0_divisor_6 N K M (lN b) (lN (a % b)) μ := fun M a b h ha hb => by
    show gbX0_divisor_6 N _ _ _ _ _ = _
    unfold gbX0_divisor_6 wLet
    dsimp only
    rw [if_neg (by rw [lN_z hb]; exact h), yG (lN_nz hb h), lN_rem ha hb]
  intro k
  induction k with
  | zero =>
    intro M a b hb hk ha hM
    have : b = 0 := by omega
    subst this
    exact zero M a (by omega)
  | succ k ih =>
    intro M a b hb hk ha hM
    by_cases z : b = 0
    · subst z; exact zero M a (by omega)
    · have p63 : 2 ^ (k + 1) ≤ 2 ^ 63 := Nat.pow_le_pow_right (by decide) hk
      obtain ⟨M, rfl⟩ : ∃ q, M = q + 2 := ⟨M - 2, by omega⟩
      have rb : a % b < b := Nat.mod_lt _ (by omega)
      rw [one _ _ _ z ha (by omega), yGcd]
      by_cases y : a % b = 0
      · rw [y]; exact zero _ b (by omega)
      · rw [one _ _ _ y (by omega) (by omega), yGcd b]
        exact ih M _ _ (yRem_half rb y hb) (by omega) (by omega) (by omega)
theorem ym_gcd (N : Nat) (μ : wMem) : ∀ (k M a b : Nat), b < 2 ^ k → k ≤ 63 → a < 2 ^ 63 → 2 * k + 1 ≤ M → fX6_common N M (lN a) (lN b) μ = some (lN (Nat.gcd a b), μ) := by
  have zero : ∀ (M a : Nat), 1 ≤ M → fX6_common N M (lN a) (lN 0) μ = some (lN (Nat.gcd a 0), μ) := fun M a hM => by
    obtain ⟨M, rfl⟩ : ∃ q, M = q + 1 := ⟨M - 1, by omega⟩
    show fbX6_common N _ _ _ _ = _
    unfold fbX6_common
    rw [if_pos (show lN 0 = 0 from rfl), Nat.gcd_zero_right]
  have one : ∀ (M a b : Nat) (r : Int64 × wMem), b ≠ 0 → a < 2 ^ 63 → b < 2 ^ 63 → fX6_common N M (lN b) (lN (a % b)) μ = some r → fX6_common N (M + 1) (lN a) (lN b) μ = some r := fun M a b r h ha hb e => by
    show fbX6_common N _ _ _ _ = _
    unfold fbX6_common
    rw [if_neg (by rw [lN_z hb]; exact h), yG (lN_nz hb h), lN_rem ha hb, e, yBd]
  intro k
  induction k with
  | zero =>
    intro M a b hb hk ha hM
    have : b = 0 := by omega
    subst this
    exact zero M a (by omega)
  | succ k ih =>
    intro M a b hb hk ha hM
    by_cases z : b = 0
    · subst z; exact zero M a (by omega)
    · have p63 : 2 ^ (k + 1) ≤ 2 ^ 63 := Nat.pow_le_pow_right (by decide) hk
      obtain ⟨M, rfl⟩ : ∃ q, M = q + 2 := ⟨M - 2, by omega⟩
      have rb : a % b < b := Nat.mod_lt _ (by omega)
      refine one _ _ _ _ z ha (by omega) ?_
      rw [yGcd]
      by_cases y : a % b = 0
      · rw [y]; exact zero _ b (by omega)
      · refine one _ _ _ _ y (by omega) (by omega) ?_
        rw [yGcd b]
        exact ih M _ _ (yRem_half rb y hb) (by omega) (by omega) (by omega)
/-- crossings of a row; their chances multiplied -/
def yCc : List Nat → Nat
  | [] => 0
  | x :: l => (if x = 200 then 0 else 1) + yCc l
def yCh (φ : Nat → Nat → Nat) : List Nat → Nat → Nat
  | [], a => a
  | x :: l, a => yCh φ l (if x = 200 then a else a * (100 - yRisk φ (x % 10) (x / 100)))
theorem yCc_cons (x : Nat) (l : List Nat) : yCc (x :: l) = (if x = 200 then 0 else 1) + yCc l := rfl
theorem yCh_cons (φ : Nat → Nat → Nat) (x : Nat) (l : List Nat) (a : Nat) : yCh φ (x :: l) a = yCh φ l (if x = 200 then a else a * (100 - yRisk φ (x % 10) (x / 100))) := rfl
theorem yCh_le {φ : Nat → Nat → Nat} : ∀ (l : List Nat) (a n : Nat), a ≤ 100 ^ n → yCh φ l a ≤ 100 ^ (n + yCc l) := by
  intro l
  induction l with
  | nil => intro a n h; exact h
  | cons x l ih =>
    intro a n h
    show yCh φ l (if x = 200 then a else a * (100 - yRisk φ (x % 10) (x / 100))) ≤ 100 ^ (n + ((if x = 200 then 0 else 1) + yCc l))
    by_cases q : x = 200
    · rw [if_pos q, if_pos q, Nat.zero_add]
      exact ih a n h
    · rw [if_neg q, if_neg q, ← Nat.add_assoc]
      refine ih _ (n + 1) ?_
      have : a * (100 - yRisk φ (x % 10) (x / 100)) ≤ 100 ^ n * 100 := Nat.mul_le_mul h (by omega)
      rw [Nat.pow_succ]
      exact this
theorem yc_personIn {x : Nat} (h : x < 2 ^ 31) (N : Nat) (μ : wMem) : fX0_personIn N (nI x) μ = some (nI (x % 10), μ) := by
  unfold fX0_personIn
  rw [xI_r10 h]
theorem yc_postIn {x : Nat} (h : x < 2 ^ 31) (N : Nat) (μ : wMem) : fX0_postIn N (nI x) μ = some (nI (x / 100), μ) := by
  unfold fX0_postIn
  rw [xI_d100 h]
theorem yWL {α β : Type} (a : α) (k : α → β) : wLet a k = k a := rfl
theorem yc_chance_one {φ : Nat → Nat → Nat} (O : yOk φ) {N : Nat} {ρ : wMem} (F : yFC φ ρ) (x1 : Int32) (K : Int64 → Int64 → wMem → Option (Int64 × wMem)) (rec : Int64 → Int64 → Int32 → Int32 → wMem → Option (Int64 × wMem)) (A B : Int64) (n x : Nat) (l : List Nat) (τ : ySt) (hn : n ≤ 9) (h : yRd φ N 1 ρ τ (x :: l)) :
    gbX0_chance_52 N x1 K rec A B (nI n) (nI x) (yPut ρ τ) = if x = 200 then rec A B (nI n) (yHd l) (yPut ρ (yDo φ τ x)) else if n = 9 then some (-1, yPut ρ τ) else rec (A * (nI (100 - yRisk φ (x % 10) (x / 100))).toInt64) (B * 100) (nI (n + 1)) (yHd l) (yPut ρ (yDo φ τ x)) := by
  obtain ⟨S, ex, st, h2⟩ := h
  have hx := (yEb_act ex).1
  have hxl := hx.le
  have st2 : fX0_step N 20 (yPut ρ (yDo φ τ x)) = some (yHd l, yPut ρ (yDo φ τ x)) := h2.hd
  have dd := yc_does O F S N hx
  have e200 : (nI x = (200 : Int32)) = (x = 200) := xI_e200 (by omega)
  have e9 : (nI n = (9 : Int32)) = (n = 9) := xI_eq (b := 9) (by omega) (by decide)
  have add1 : nI n + (1 : Int32) = nI (n + 1) := nI_add n 1
  unfold gbX0_chance_52
  rw [yIf (xI_201 (x := x) hxl), if_neg (fun h => h), yWL, yIf e200]
  by_cases q : x = 200
  · rw [if_pos q, if_pos q]
    show wBindV (fX0_does N (nI x) (yPut ρ τ)) _ = _
    rw [dd, yBV, st2, yBd]
  · rw [if_neg q, if_neg q, yIf e9]
    by_cases g : n = 9
    · rw [if_pos g, if_pos g]
    · obtain ⟨h1, h2', h3, h4⟩ := hx.resolve_left q
      have rl := yRisk_le O h4 h2'
      have e1 : (100 : Int32) - nI (yRisk φ (x % 10) (x / 100)) = nI (100 - yRisk φ (x % 10) (x / 100)) := xI_sub (a := 100) rl
      rw [if_neg g, if_neg g, add1, yWL, yc_personIn (by omega), yBd, yc_postIn (by omega), yBd, yc_risk O (yFC_put F τ) N h4 h2', yBd, e1, yWL, yWL]
      show wBindV (fX0_does N (nI x) (yPut ρ τ)) _ = _
      rw [dd, yBV, st2, yBd]
theorem yc_chance_loop {φ : Nat → Nat → Nat} (O : yOk φ) {N : Nat} {ρ : wMem} (F : yFC φ ρ) (x1 : Int32) (K : Int64 → Int64 → wMem → Option (Int64 × wMem)) : ∀ (l : List Nat) (M a b n : Nat) (τ : ySt), l.length < M → n ≤ 9 → yRd φ N 1 ρ τ l →
    ∃ τ1, gX0_chance_52 N x1 K M (lN a) (lN b) (nI n) (yHd l) (yPut ρ τ) = if n + yCc l ≤ 9 then K (lN (yCh φ l a)) (lN (b * 100 ^ yCc l)) (yPut ρ τ1) else some (-1, yPut ρ τ1) := by
  intro l
  induction l with
  | nil =>
    intro M a b n τ hM hn h
    obtain ⟨M, rfl⟩ : ∃ q, M = q + 1 := ⟨M - 1, by omega⟩
    refine ⟨τ, ?_⟩
    show gbX0_chance_52 N _ _ _ _ _ _ _ _ = _
    unfold gbX0_chance_52
    rw [if_pos (show yHd [] = -1 from rfl), show yCc [] = 0 from rfl, Nat.add_zero, if_pos hn, Nat.pow_zero, Nat.mul_one]
    rfl
  | cons x l ih =>
    intro M a b n τ hM hn h
    obtain ⟨M, rfl⟩ : ∃ q, M = q + 1 := ⟨M - 1, by omega⟩
    have s1 : gX0_chance_52 N x1 K (M + 1) (lN a) (lN b) (nI n) (nI x) (yPut ρ τ) = _ := yc_chance_one O F x1 K (gX0_chance_52 N x1 K M) (lN a) (lN b) n x l τ hn h
    have e2 : lN b * (100 : Int64) = lN (b * 100) := lN_mul b 100
    rw [e2, nI_l (by omega), lN_mul] at s1
    have h2 := h.2.2.2
    have hM2 : l.length < M := by simp at hM; omega
    have hd : yHd (x :: l) = nI x := rfl
    by_cases q : x = 200
    · obtain ⟨τ1, e⟩ := ih M a b n (yDo φ τ x) hM2 hn h2
      refine ⟨τ1, ?_⟩
      rw [hd, s1, if_pos q, e, yCc_cons, yCh_cons, if_pos q, if_pos q, Nat.zero_add]
    · by_cases g : n = 9
      · refine ⟨τ, ?_⟩
        rw [hd, s1, if_neg q, if_pos g, yCc_cons, if_neg q, if_neg (by omega)]
      · obtain ⟨τ1, e⟩ := ih M (a * (100 - yRisk φ (x % 10) (x / 100))) (b * 100) (n + 1) (yDo φ τ x) hM2 (by omega) h2
        refine ⟨τ1, ?_⟩
        rw [hd, s1, if_neg q, if_neg g, e, yCc_cons, yCh_cons, if_neg q, if_neg q, Nat.pow_add, Nat.pow_one, ← Nat.mul_assoc, ← Nat.add_assoc]
theorem yRun_act {φ : Nat → Nat → Nat} : ∀ (l : List Nat) (τ ρ : ySt), yRun φ τ l = some ρ → ∀ x, x ∈ l → yAct φ x := by
  intro l
  induction l with
  | nil => intro τ ρ h x hx; cases hx
  | cons y l ih =>
    intro τ ρ h x hx
    replace h : (if yEb φ τ y = true then yRun φ (yDo φ τ y) l else none) = some ρ := h
    by_cases q : yEb φ τ y = true
    · rw [if_pos q] at h
      rcases List.mem_cons.mp hx with e | e
      · rw [e]; exact (yEb_act q).1
      · exact ih _ _ h x e
    · rw [if_neg q] at h; cases h
theorem yVal_get {L : List Nat} {k : Nat} (h : k < L.length) : yVal L k = nI L[k] := by
  unfold yVal
  rw [List.getElem?_eq_getElem h]
theorem yCc_le : ∀ l, yCc l ≤ l.length
  | [] => Nat.le_refl _
  | x :: l => by
    have := yCc_le l
    show (if x = 200 then 0 else 1) + yCc l ≤ l.length + 1
    split <;> omega
theorem ym_chance_cnt (N : Nat) {L : List Nat} {ν : wMem} (Q : yRl L ν) (hL : L.length ≤ 400) (hA : ∀ x, x ∈ L → x ≤ 200) (x1 : Int32) (x2 x4 : Int64) (K : Int32 → wMem → Option (Int64 × wMem)) : ∀ (d M c k : Nat), d < M → k + d = L.length →
    gX6_chance_49 N x1 x2 x4 K M (nI c) (nI k) ν = K (nI (c + yCc (L.drop k))) ν := by
  intro d
  induction d with
  | zero =>
    intro M c k hM hk
    obtain ⟨M, rfl⟩ : ∃ q, M = q + 1 := ⟨M - 1, by omega⟩
    show gbX6_chance_49 N _ _ _ _ _ _ _ _ = _
    unfold gbX6_chance_49
    rw [Q.1, yIf (xI_le (a := L.length) (b := k) (by omega) (by omega)), if_pos (by omega), List.drop_eq_nil_of_le (by omega)]
    rfl
  | succ d ih =>
    intro M c k hM hk
    obtain ⟨M, rfl⟩ : ∃ q, M = q + 1 := ⟨M - 1, by omega⟩
    have hk2 : k < L.length := by omega
    have ed : L.drop k = L[k] :: L.drop (k + 1) := List.drop_eq_getElem_cons hk2
    have ha := hA _ (List.getElem_mem hk2)
    have add1 : nI k + (1 : Int32) = nI (k + 1) := nI_add k 1
    have a1 : nI c + (1 : Int32) = nI (c + 1) := nI_add c 1
    have a0 : nI c + (0 : Int32) = nI (c + 0) := nI_add c 0
    show gbX6_chance_49 N _ _ _ _ _ _ _ _ = _
    unfold gbX6_chance_49 wLet
    dsimp only
    rw [Q.1, yIf (xI_le (a := L.length) (b := k) (by omega) (by omega)), if_neg (by omega), yG (xI_in (by omega) (by decide)), xI_cl (by omega), Q.2 k hk2, yVal_get hk2, yIf (xI_e200 (a := L[k]) (by omega)), ed]
    show _ = K (nI (c + ((if L[k] = 200 then 0 else 1) + yCc (L.drop (k + 1))))) ν
    by_cases q : L[k] = 200
    · rw [if_pos q, if_pos q, a0, add1, ih M (c + 0) (k + 1) (by omega) (by omega), Nat.add_assoc]
    · rw [if_neg q, if_neg q, a1, add1, ih M (c + 1) (k + 1) (by omega) (by omega), Nat.add_assoc]
theorem ym_chance_loop {φ : Nat → Nat → Nat} (O : yOk φ) (N : Nat) {L : List Nat} {ν : wMem} (F : yFM φ 0 ν) (Q : yRl L ν) (hL : L.length ≤ 400) (hA : ∀ x, x ∈ L → yAct φ x) (x1 : Int32) (K : Int64 → Int64 → wMem → Option (Int64 × wMem)) : ∀ (d M a b k : Nat), d < M → k + d = L.length →
    gX6_chance_101 N x1 K M (lN a) (lN b) (nI k) ν = K (lN (yCh φ (L.drop k) a)) (lN (b * 100 ^ yCc (L.drop k))) ν := by
  intro d
  induction d with
  | zero =>
    intro M a b k hM hk
    obtain ⟨M, rfl⟩ : ∃ q, M = q + 1 := ⟨M - 1, by omega⟩
    show gbX6_chance_101 N _ _ _ _ _ _ _ = _
    unfold gbX6_chance_101
    rw [Q.1, yIf (xI_le (a := L.length) (b := k) (by omega) (by omega)), if_pos (by omega), List.drop_eq_nil_of_le (by omega), show yCc [] = 0 from rfl, Nat.pow_zero, Nat.mul_one]
    rfl
  | succ d ih =>
    intro M a b k hM hk
    obtain ⟨M, rfl⟩ : ∃ q, M = q + 1 := ⟨M - 1, by omega⟩
    have hk2 : k < L.length := by omega
    have ed : L.drop k = L[k] :: L.drop (k + 1) := List.drop_eq_getElem_cons hk2
    have hx := hA _ (List.getElem_mem hk2)
    have ha := hx.le
    have add1 : nI k + (1 : Int32) = nI (k + 1) := nI_add k 1
    show gbX6_chance_101 N _ _ _ _ _ _ _ = _
    unfold gbX6_chance_101 wLet
    dsimp only
    rw [Q.1, yIf (xI_le (a := L.length) (b := k) (by omega) (by omega)), if_neg (by omega), yG (xI_in (by omega) (by decide)), xI_cl (by omega), Q.2 k hk2, yVal_get hk2, yIf (xI_e200 (a := L[k]) (by omega)), ed]
    show _ = K (lN (yCh φ (L.drop (k + 1)) (if L[k] = 200 then a else a * (100 - yRisk φ (L[k] % 10) (L[k] / 100))))) (lN (b * 100 ^ ((if L[k] = 200 then 0 else 1) + yCc (L.drop (k + 1))))) ν
    by_cases q : L[k] = 200
    · rw [if_pos q, if_pos q, if_pos q, add1, ih M a b (k + 1) (by omega) (by omega), Nat.zero_add]
    · obtain ⟨h1, h2', h3, h4⟩ := hx.resolve_left q
      have rl := yRisk_le O h4 h2'
      have e1 : (100 : Int32) - nI (yRisk φ (L[k] % 10) (L[k] / 100)) = nI (100 - yRisk φ (L[k] % 10) (L[k] / 100)) := xI_sub (a := 100) rl
      have e2 : lN b * (100 : Int64) = lN (b * 100) := lN_mul b 100
      rw [if_neg q, if_neg q, if_neg q, yG (xI_in (by omega) (by decide)), yG (xI_in (by omega) (by decide)), xI_r10 (by omega), xI_d100 (by omega), ym_risk O F N h4 h2', yBd, e1, nI_l (by omega), lN_mul, e2, add1, ih M _ (b * 100) (k + 1) (by omega) (by omega), Nat.pow_add, Nat.pow_one, ← Nat.mul_assoc]
def yBl3 (f g : wMem → Option (Int64 × wMem)) (μ μm : wMem) : Prop := ∃ v μ1 μm1, f μ = some (v, μ1) ∧ g μm = some (v, μm1) ∧ yKC μ μ1 ∧ yKN μm μm1 ∧ ySn μm1
theorem yBl3.mk' {f g : wMem → Option (Int64 × wMem)} {μ μm μ1 μm1 : wMem} {v : Int64} (h1 : f μ = some (v, μ1)) (h2 : g μm = some (v, μm1)) (h3 : yKC μ μ1) (h4 : yKN μm μm1) (h5 : ySn μm1) : yBl3 f g μ μm := ⟨v, μ1, μm1, h1, h2, h3, h4, h5⟩
theorem yq_chance {φ : Nat → Nat → Nat} {μ μm : wMem} (W : yBnd) (O : yOk φ) (hl : φ 0 1 ≠ 0 → 0 < φ 0 0) (G : yGo φ) (F : yFC φ μ) (M : yFM φ 0 μm) (Q : ySn μm) {N : Nat} (hN : 200000000000000 ≤ N) (a1 : Int32) : yBl3 (fX0_chance N a1) (fX6_chance N a1) μ μm := by
  have M1 := (yKM_0 μm 0).fm M
  have i0 : ∀ μ, fX0_isOneOf N a1 2 μ = some (yB (decide (yIs a1 2)), μ) := fun μ => yc_oneOf a1 2 (by decide) N μ
  have i6 : ∀ μ, fX6_in N a1.toInt64 0 1 μ = some (yB (decide (yIs a1 2)), μ) := fun μ => ym_in a1 (n := 2) (by decide) N μ
  by_cases g : φ 0 1 ≠ 0
  · by_cases w : yIs a1 2
    · obtain ⟨ρ, k1, r1⟩ := yc_marked W O (hl g) G F (N := N) (by omega) (b := 1) (by decide)
      obtain ⟨νm, k2, q2, r2⟩ := ym_isRow W O (hl g) G M Q hN (b := 1) (by decide)
      rcases r2 with ⟨no, e2⟩ | ⟨l, y1, ho, len, ⟨ρe, run⟩, e2, rl⟩
      · rcases r1 with ⟨_, ho, _⟩ | ⟨e1, _⟩
        · exact absurd ho no
        · refine yBl3.mk' (v := -1) (μ1 := ρ) ?_ ?_ k1 k2 q2
          · unfold fX0_chance wLet
            dsimp only
            rw [yc_isFamily O F, yBd, yB1 g, i0, yBd, yB1 w]
            refine Eq.trans (congrArg (fun z => wBind z _) e1) ?_
            rw [yBd, if_pos rfl]
          · unfold fX6_chance wLet
            dsimp only
            rw [ym_isFamily O M1, yBd, yB1 g, i6, yBd, yB1 w]
            refine Eq.trans (congrArg (fun z => wBind z _) e2) ?_
            rw [yBd, if_pos rfl]
      · rcases r1 with ⟨e1, _, F2, l2, y2, len2, rd⟩ | ⟨_, no⟩
        · have el := yRow.uniq l2 l _ y2 y1
          subst el
          have rd0 := rd ρ (yKv.rfl' _)
          have acts := yRun_act l2 _ _ run
          have F3 := k2.fm M
          have st : fX0_step N 20 (yPut ρ (yLay φ (φ 0 6))) = some (yHd l2, yPut ρ (yLay φ (φ 0 6))) := rd0.hd
          obtain ⟨τ1, lp⟩ := yc_chance_loop O (N := N) F2 a1 (fun (x42 : Int64) (x43 : Int64) (μ41 : wMem) => wLet (fun (v45 : Int64) (μ44 : wMem) => wBind (fX0_divisor N  x42 x43 μ44) fun v48 μ47 => wG (ok_nzL v48) (some (v45 / v48, μ47))) fun Jchance138 => if a1 = 0 then Jchance138 x42 μ41 else Jchance138 x43 μ41) l2 N 1 1 0 _ (by omega) (by omega) rd0
          rw [Nat.zero_add, Nat.one_mul] at lp
          have lc := ym_chance_cnt N rl len (fun x hx => (acts x hx).le) a1 1 1 (fun (x24 : Int32) (μ23 : wMem) => if x24 ≤ (9 : Int32) then gX6_chance_101 N  a1 (fun (x41 : Int64) (x42 : Int64) (μ40 : wMem) => wLet (fun (v44 : Int64) (μ43 : wMem) => wBind (fX6_common N 128  x41 x42 μ43) fun v47 μ46 => wG (ok_nzL v47) (some (v44 / v47, μ46))) fun Jchance181 => if a1 = 0 then Jchance181 x41 μ40 else Jchance181 x42 μ40) N 1 1 0 μ23 else some ((-1), μ23)) l2.length N 0 0 (by omega) (by omega)
          rw [List.drop_zero, Nat.zero_add] at lc
          have c9 : (nI (yCc l2) ≤ (9 : Int32)) = (yCc l2 ≤ 9) := xI_le (b := 9) (by have := yCc_le l2; omega) (by decide)
          have ec : ∀ r, (if yCc l2 ≤ 9 then (fun (x42 : Int64) (x43 : Int64) (μ41 : wMem) => wLet (fun (v45 : Int64) (μ44 : wMem) => wBind (fX0_divisor N  x42 x43 μ44) fun v48 μ47 => wG (ok_nzL v48) (some (v45 / v48, μ47))) fun Jchance138 => if a1 = 0 then Jchance138 x42 μ41 else Jchance138 x43 μ41) (lN (yCh φ l2 1)) (lN (100 ^ yCc l2)) (yPut ρ τ1) else some (-1, yPut ρ τ1)) = r → fX0_chance N a1 μ = r := fun r h => by
            unfold fX0_chance wLet
            dsimp only
            rw [yc_isFamily O F, yBd, yB1 g, i0, yBd, yB1 w]
            refine Eq.trans (congrArg (fun z => wBind z _) e1) ?_
            rw [yBd, if_neg (by decide), st, yBd]
            exact lp.trans h
          have em : ∀ r, (if yCc l2 ≤ 9 then gX6_chance_101 N  a1 (fun (x41 : Int64) (x42 : Int64) (μ40 : wMem) => wLet (fun (v44 : Int64) (μ43 : wMem) => wBind (fX6_common N 128  x41 x42 μ43) fun v47 μ46 => wG (ok_nzL v47) (some (v44 / v47, μ46))) fun Jchance181 => if a1 = 0 then Jchance181 x41 μ40 else Jchance181 x42 μ40) N 1 1 0 νm else some ((-1), νm)) = r → fX6_chance N a1 μm = r := fun r h => by
            unfold fX6_chance wLet
            dsimp only
            rw [ym_isFamily O M1, yBd, yB1 g, i6, yBd, yB1 w]
            refine Eq.trans (congrArg (fun z => wBind z _) e2) ?_
            rw [yBd, if_neg (by decide)]
            refine lc.trans ?_
            rw [yIf c9]
            exact h
          by_cases c : yCc l2 ≤ 9
          · have b1 : yCh φ l2 1 ≤ 100 ^ (0 + yCc l2) := yCh_le l2 1 0 (Nat.le_refl _)
            rw [Nat.zero_add] at b1
            have b2 : 100 ^ yCc l2 ≤ 100 ^ 9 := Nat.pow_le_pow_right (by decide) c
            have b3 : 0 < 100 ^ yCc l2 := Nat.pow_pos (by decide)
            have b4 : (100 : Nat) ^ 9 < 2 ^ 60 := by decide
            have lp2 := ym_chance_loop O N F3 rl len acts a1 (fun (x41 : Int64) (x42 : Int64) (μ40 : wMem) => wLet (fun (v44 : Int64) (μ43 : wMem) => wBind (fX6_common N 128  x41 x42 μ43) fun v47 μ46 => wG (ok_nzL v47) (some (v44 / v47, μ46))) fun Jchance181 => if a1 = 0 then Jchance181 x41 μ40 else Jchance181 x42 μ40) l2.length N 1 1 0 (by omega) (by omega)
            rw [List.drop_zero, Nat.one_mul] at lp2
            generalize 100 ^ yCc l2 = bb at *
            generalize yCh φ l2 1 = aa at *
            have gp : 0 < Nat.gcd aa bb := Nat.gcd_pos_of_pos_right _ b3
            have gl : Nat.gcd aa bb ≤ bb := Nat.gcd_le_right _ b3
            have nz : ok_nzL (lN (Nat.gcd aa bb)) = true := lN_nz (by omega) (by omega)
            have d0 : ∀ ν, fX0_divisor N (lN aa) (lN bb) ν = some (lN (Nat.gcd aa bb), ν) := fun ν => yc_gcd N ν (fun (x5 : Int64) (μ4 : wMem) => some (x5, μ4)) 60 N aa bb (by omega) (by decide) (by omega) (by omega)
            have d6 : ∀ ν, fX6_common N 128 (lN aa) (lN bb) ν = some (lN (Nat.gcd aa bb), ν) := fun ν => ym_gcd N ν 60 128 aa bb (by omega) (by decide) (by omega) (by decide)
            refine yBl3.mk' (v := if a1 = 0 then lN aa / lN (Nat.gcd aa bb) else lN bb / lN (Nat.gcd aa bb)) (ec _ ?_) (em _ ?_) (k1.trans (yKC_put ρ τ1)) k2 q2
            · rw [if_pos c]
              unfold wLet
              dsimp only
              rw [d0, yBd, yBd, yG nz, yG nz]
              split <;> rfl
            · rw [if_pos c]
              refine lp2.trans ?_
              unfold wLet
              dsimp only
              rw [d6, yBd, yBd, yG nz, yG nz]
              split <;> rfl
          · refine yBl3.mk' (v := -1) (ec _ ?_) (em _ ?_) (k1.trans (yKC_put ρ τ1)) k2 q2
            · rw [if_neg c]
            · rw [if_neg c]
        · exact absurd ho no
    · refine yBl3.mk' (v := -2) (μ1 := μ) (μm1 := wSI μm 0 0 0) ?_ ?_ (yKC.rfl' _) (yKM_0 _ _).kn (ySn_km Q (yKM_0 _ _))
      · unfold fX0_chance wLet
        dsimp only
        rw [yc_isFamily O F, yBd, yB1 g, i0, yBd, yB2 w]
      · unfold fX6_chance wLet
        dsimp only
        rw [ym_isFamily O M1, yBd, yB1 g, i6, yBd, yB2 w]
  · refine yBl3.mk' (v := -2) (μ1 := μ) (μm1 := wSI μm 0 0 0) ?_ ?_ (yKC.rfl' _) (yKM_0 _ _).kn (ySn_km Q (yKM_0 _ _))
    · unfold fX0_chance wLet
      dsimp only
      rw [yc_isFamily O F, yBd, yB2 g]
    · unfold fX6_chance wLet
      dsimp only
      rw [ym_isFamily O M1, yBd, yB2 g]
