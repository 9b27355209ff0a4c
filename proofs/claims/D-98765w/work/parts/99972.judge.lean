set_option maxRecDepth 100000
/-! part 99972: rows that are judged: the rows' numbers -/
/-- the slot i is there on both sides, with the same numbers -/
def ySl (c0 t n i : Nat) (μ μm : wMem) : Prop := 21 < c0 ∧ i < 4 ∧ n ≤ 60 ∧ (∀ j, j < n → wAt μ c0 t j = μm.2 3 (60 * i + j)) ∧ μm.1 2 i = nI n ∧ μm.1 1 i ≠ -1
theorem wAt_of {μ ν : wMem} {c : Nat} (h : ∀ i, ν.1 c i = μ.1 c i ∧ ν.2 c i = μ.2 c i) (t i : Nat) : wAt ν c t i = wAt μ c t i := by
  unfold wAt
  rw [(h i).1, (h i).2]
theorem ySl.keep {c0 t n i : Nat} {μ μm ν νm : wMem} (X : ySl c0 t n i μ μm) (k : yKC μ ν) (k2 : yKN μm νm) : ySl c0 t n i ν νm := by
  obtain ⟨h1, h2, h3, h4, h5, h6⟩ := X
  refine ⟨h1, h2, h3, fun j hj => ?_, ?_, ?_⟩
  · rw [wAt_of (fun i => k c0 i (by omega) (by omega)), (k2 3 (60 * i + j) (by omega) (by omega) (by omega)).2]
    exact h4 j hj
  · rw [(k2 2 i (by omega) (by omega) (by omega)).1]; exact h5
  · rw [(k2 1 i (by omega) (by omega) (by omega)).1]; exact h6
def yVd (φ : Nat → Nat → Nat) (v : Int64) : Bool := decide (v = 200) || (decide (0 ≤ v.toInt ∧ v.toInt < 200) && yGd φ v.toInt.toNat)
theorem yV_of {v : Int64} (h : 0 ≤ v.toInt ∧ v.toInt < 200) : v.toInt.toNat < 200 ∧ v = (nI v.toInt.toNat).toInt64 := by
  refine ⟨by omega, ?_⟩
  apply Int64.toInt_inj.mp
  rw [Int32.toInt_toInt64, nI_toInt (by omega)]
  omega
theorem yVd_200 (φ : Nat → Nat → Nat) : yVd φ 200 = true := by unfold yVd; rw [decide_eq_true rfl]; rfl
theorem yVd_in {φ : Nat → Nat → Nat} {v : Int64} (h : 0 ≤ v.toInt ∧ v.toInt < 200) : yVd φ v = yGd φ v.toInt.toNat := by
  have ne : ¬ v = 200 := fun q => by
    rw [q, show (200 : Int64).toInt = 200 by decide] at h
    omega
  unfold yVd
  rw [decide_eq_false ne, decide_eq_true h]
  rfl
theorem yVd_out {φ : Nat → Nat → Nat} {v : Int64} (h : ¬ (0 ≤ v.toInt ∧ v.toInt < 200)) (ne : ¬ v = 200) : yVd φ v = false := by
  unfold yVd
  rw [decide_eq_false ne, decide_eq_false h]
  rfl
theorem yVd_act {φ : Nat → Nat → Nat} {v : Int64} (h : yVd φ v = true) : ∃ a, yAct φ a ∧ v.toInt32 = nI a := by
  by_cases e : v = 200
  · exact ⟨200, Or.inl rfl, by rw [e]; decide⟩
  · by_cases g : 0 ≤ v.toInt ∧ v.toInt < 200
    · rw [yVd_in g] at h
      obtain ⟨l, ev⟩ := yV_of g
      refine ⟨v.toInt.toNat, yGd_act l h, ?_⟩
      have e2 : (nI v.toInt.toNat).toInt64.toInt32 = nI v.toInt.toNat := by rw [xI_l (by omega), lN_i]
      rw [← ev] at e2
      exact e2
    · rw [yVd_out g e] at h; cases h
theorem yc_isAct64 {φ : Nat → Nat → Nat} {μ : wMem} (O : yOk φ) (F : yFC φ μ) (N : Nat) (v : Int64) : fX0_isAct N v μ = some (yB (yVd φ v), μ) := by
  by_cases e : v = 200
  · subst e
    unfold fX0_isAct
    rw [if_pos rfl, yVd_200]
    rfl
  · by_cases g : 0 ≤ v.toInt ∧ v.toInt < 200
    · obtain ⟨l, ev⟩ := yV_of g
      rw [yVd_in g]
      have := yc_isAct O F N l
      rw [← ev] at this
      exact this
    · have z : fX0_isIn N v 0 199 μ = some (0, μ) := by
        unfold fX0_isIn
        by_cases g1 : v < 0
        · rw [if_pos g1]
        · rw [if_neg g1]
          by_cases g2 : 199 < v
          · rw [if_pos g2]
          · exfalso
            rw [Int64.lt_iff_toInt_lt, show (0 : Int64).toInt = 0 by decide] at g1
            rw [Int64.lt_iff_toInt_lt, show (199 : Int64).toInt = 199 by decide] at g2
            exact g ⟨by omega, by omega⟩
      unfold fX0_isAct
      rw [if_neg e, z, yBd, if_pos rfl, yVd_out g e]
      rfl
theorem ym_isAct64 {φ : Nat → Nat → Nat} {μ : wMem} (O : yOk φ) (F : yFM φ 0 μ) (N : Nat) (v : Int64) : fX6_isActNumber N v μ = some (yB (yVd φ v), μ) := by
  by_cases e : v = 200
  · subst e
    unfold fX6_isActNumber
    rw [if_pos rfl, yVd_200]
    rfl
  · by_cases g : 0 ≤ v.toInt ∧ v.toInt < 200
    · obtain ⟨l, ev⟩ := yV_of g
      rw [yVd_in g]
      have := ym_isActN O F N l
      rw [← ev] at this
      exact this
    · have h2 := O.posts
      have e73 : μ.1 7 (Int32.toNatClampNeg (3 : Int32)) = nI (φ 0 3) := F.posts
      have e100 : (100 : Int64) * (nI (φ 0 3)).toInt64 = lN (100 * φ 0 3) := by rw [nI_l (by omega)]; exact lN_mul 100 _
      unfold fX6_isActNumber
      rw [if_neg e, yVd_out g e]
      by_cases g1 : v < 0
      · rw [if_pos g1]; rfl
      · rw [if_neg g1, yG (show ok_in (3 : Int32) 35 = true by decide), e73, e100]
        have big : lN (100 * φ 0 3) ≤ v := by
          rw [Int64.le_iff_toInt_le, lN_toInt (by omega)]
          rw [Int64.lt_iff_toInt_lt, show (0 : Int64).toInt = 0 by decide] at g1
          have ne : v.toInt ≠ 200 := fun q => e (Int64.toInt_inj.mp (by rw [q]; decide))
          omega
        rw [if_pos big]
        rfl
/-- all numbers from k on are acts -/
def yAv (φ : Nat → Nat → Nat) (f : Nat → Int64) (k : Nat) : Nat → Bool
  | 0 => true
  | d + 1 => yVd φ (f k) && yAv φ f (k + 1) d
theorem yAv_all {φ : Nat → Nat → Nat} {f : Nat → Int64} : ∀ d k, yAv φ f k d = true → ∀ j, k ≤ j → j < k + d → yVd φ (f j) = true
  | 0, k, _, j, h1, h2 => by omega
  | d + 1, k, h, j, h1, h2 => by
    have h' : (yVd φ (f k) && yAv φ f (k + 1) d) = true := h
    rw [Bool.and_eq_true] at h'
    by_cases q : j = k
    · rw [q]; exact h'.1
    · exact yAv_all d (k + 1) h'.2 j (by omega) (by omega)
theorem yc_asks_loop {φ : Nat → Nat → Nat} {μ : wMem} (O : yOk φ) (F : yFC φ μ) (N : Nat) {c0 t n : Nat} (hn : n ≤ 60) (x1 : Int32) (K : wMem → Option (Int32 × wMem)) : ∀ (d M k : Nat), d < M → k + d = n →
    gX0_asksRow_29 N c0 t n x1 (nI n) K M (nI k) μ = if yAv φ (wAt μ c0 t) k d = true then K μ else some (-2, μ) := by
  intro d
  induction d with
  | zero =>
    intro M k hM hk
    obtain ⟨M, rfl⟩ : ∃ q, M = q + 1 := ⟨M - 1, by omega⟩
    show gbX0_asksRow_29 N _ _ _ _ _ _ _ _ _ = _
    unfold gbX0_asksRow_29
    rw [yIf (xI_le (a := n) (b := k) (by omega) (by omega)), if_pos (by omega)]
    rfl
  | succ d ih =>
    intro M k hM hk
    obtain ⟨M, rfl⟩ : ∃ q, M = q + 1 := ⟨M - 1, by omega⟩
    have add1 : nI k + (1 : Int32) = nI (k + 1) := nI_add k 1
    show gbX0_asksRow_29 N _ _ _ _ _ _ _ _ _ = if (yVd φ (wAt μ c0 t k) && yAv φ (wAt μ c0 t) (k + 1) d) = true then K μ else some (-2, μ)
    unfold gbX0_asksRow_29
    rw [yIf (xI_le (a := n) (b := k) (by omega) (by omega)), if_neg (by omega), yG (xI_in (by omega) (by omega)), xI_cl (by omega), yc_isAct64 O F, yBd, yIf (yB_0 _), yWL, add1, ih M (k + 1) (by omega) (by omega)]
    by_cases q : yVd φ (wAt μ c0 t k) = true
    · rw [q, if_neg (by decide)]; rfl
    · rw [Bool.not_eq_true] at q
      rw [q, if_pos rfl, if_neg (by rw [Bool.false_and]; decide)]
theorem ym_cell {c0 t n i : Nat} {μ μm : wMem} (X : ySl c0 t n i μ μm) (N : Nat) {j : Nat} (hj : j < n) : fX6_cellOf N (nI i) (nI j) μm = some (wAt μ c0 t j, μm) := by
  obtain ⟨h1, h2, h3, h4, h5, h6⟩ := X
  have e : (60 : Int32) * nI i + nI j = nI (60 * i + j) := by
    have : (60 : Int32) * nI i = nI (60 * i) := xI_mul 60 i
    rw [this, nI_add]
  unfold fX6_cellOf
  rw [e, yG (xI_in (by omega) (by decide)), xI_cl (by omega), h4 j hj]
theorem ym_asks_loop {φ : Nat → Nat → Nat} {μ μm : wMem} (O : yOk φ) (F : yFM φ 0 μm) (N : Nat) {c0 t n i : Nat} (X : ySl c0 t n i μ μm) (K : wMem → Option (Int32 × wMem)) : ∀ (d M k : Nat), d < M → k + d = n →
    gX6_whyNot_32 N (nI i) K M (nI k) μm = if yAv φ (wAt μ c0 t) k d = true then K μm else some (-2, μm) := by
  obtain ⟨h1, h2, h3, h4, h5, h6⟩ := id X
  intro d
  induction d with
  | zero =>
    intro M k hM hk
    obtain ⟨M, rfl⟩ : ∃ q, M = q + 1 := ⟨M - 1, by omega⟩
    show gbX6_whyNot_32 N _ _ _ _ _ = _
    unfold gbX6_whyNot_32
    rw [yG (xI_in (by omega) (by decide)), xI_cl (by omega), h5, yIf (xI_le (a := n) (b := k) (by omega) (by omega)), if_pos (by omega)]
    rfl
  | succ d ih =>
    intro M k hM hk
    obtain ⟨M, rfl⟩ : ∃ q, M = q + 1 := ⟨M - 1, by omega⟩
    have add1 : nI k + (1 : Int32) = nI (k + 1) := nI_add k 1
    show gbX6_whyNot_32 N _ _ _ _ _ = if (yVd φ (wAt μ c0 t k) && yAv φ (wAt μ c0 t) (k + 1) d) = true then K μm else some (-2, μm)
    unfold gbX6_whyNot_32
    rw [yG (xI_in (by omega) (by decide)), xI_cl (by omega), h5, yIf (xI_le (a := n) (b := k) (by omega) (by omega)), if_neg (by omega), ym_cell X N (by omega), yBd, ym_isAct64 O F, yBd, yIf (yB_0 _), yWL, add1, ih M (k + 1) (by omega) (by omega)]
    by_cases q : yVd φ (wAt μ c0 t k) = true
    · rw [q, if_neg (by decide)]; rfl
    · rw [Bool.not_eq_true] at q
      rw [q, if_pos rfl, if_neg (by rw [Bool.false_and]; decide)]
theorem yc_isSlot (a : Int32) (N : Nat) (μ : wMem) : fX0_isSlot N a μ = some (yB (decide (yIs a 4)), μ) := by
  unfold fX0_isSlot
  have := yc_isIn a (n := 4) (by decide) N μ
  refine Eq.trans (congrArg (fun z => wBind z _) this) ?_
  rw [yBd, yG (yB_ok _)]
theorem ym_isSlot (a : Int32) (N : Nat) (μ : wMem) : fX6_isSlot N a μ = some (yB (decide (yIs a 4)), μ) := by
  unfold fX6_isSlot
  have := ym_in a (n := 4) (by decide) N μ
  refine Eq.trans (congrArg (fun z => wBind z _) this) ?_
  rw [yBd, yG (yB_ok _)]
def yAsk (φ : Nat → Nat → Nat) (f : Nat → Int64) (n : Nat) : Int32 := if φ 0 1 ≠ 0 then (if yAv φ f 0 n = true then 0 else -2) else -2
theorem yc_asks {φ : Nat → Nat → Nat} {μ μm : wMem} (O : yOk φ) (F : yFC φ μ) {N : Nat} (hN : 100 ≤ N) {c0 t n i : Nat} (X : ySl c0 t n i μ μm) : fX0_asksRow N c0 t n (nI i) μ = some (yAsk φ (wAt μ c0 t) n, μ) := by
  obtain ⟨h1, h2, h3, h4, h5, h6⟩ := id X
  have lp := yc_asks_loop O F N (c0 := c0) (t := t) h3 (nI i) (fun (μ18 : wMem) => some (0, μ18)) n N 0 (by omega) (by omega)
  unfold fX0_asksRow yAsk
  rw [yc_isSlot, yBd, yWL, yB1 (yIs_n h2 (by decide)), yc_isFamily O F, yBd, yWL]
  by_cases g : φ 0 1 ≠ 0
  · rw [yB1 g, if_pos g]
    refine Eq.trans lp ?_
    by_cases q : yAv φ (wAt μ c0 t) 0 n = true
    · rw [if_pos q, if_pos q]
    · rw [if_neg q, if_neg q]
  · rw [yB2 g, if_neg g]
theorem ym_asks {φ : Nat → Nat → Nat} {μ μm : wMem} (O : yOk φ) (F : yFM φ 0 μm) {N : Nat} (hN : 100 ≤ N) {c0 t n i : Nat} (X : ySl c0 t n i μ μm) : fX6_whyNot N (nI i) μm = some (yAsk φ (wAt μ c0 t) n, μm) := by
  obtain ⟨h1, h2, h3, h4, h5, h6⟩ := id X
  have lp := ym_asks_loop O F N X (fun (μ22 : wMem) => some (0, μ22)) n N 0 (by omega) (by omega)
  unfold fX6_whyNot yAsk
  rw [ym_isSlot, yBd, yWL, yB1 (yIs_n h2 (by decide)), ym_isFamily O F, yBd, xI_cl (by omega), if_neg h6, yG (xI_in (by omega) (by decide))]
  by_cases g : φ 0 1 ≠ 0
  · rw [yB1 g, if_pos g]
    refine Eq.trans lp ?_
    by_cases q : yAv φ (wAt μ c0 t) 0 n = true
    · rw [if_pos q, if_pos q]
    · rw [if_neg q, if_neg q]
  · rw [yB2 g, if_neg g]
