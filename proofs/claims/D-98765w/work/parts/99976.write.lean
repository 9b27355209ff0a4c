set_option maxRecDepth 100000
/-! part 99976: write, row -/
theorem yIs_in {a : Int32} {n : Nat} (hn : n < 2 ^ 31) : ok_in a n = true ↔ yIs a n := by
  constructor
  · intro h
    simp only [ok_in, Bool.and_eq_true, decide_eq_true_eq] at h
    obtain ⟨h1, h2⟩ := h
    have p : 0 ≤ a.toInt := by
      have := Int32.le_iff_toInt_le.mp (show (0 : Int32) ≤ a by simpa using h1)
      simpa using this
    have e : a = nI a.toInt.toNat := by
      apply Int32.toInt_inj.mp
      rw [nI_toInt (by have := Int32.toInt_lt a; omega)]
      omega
    have c : a.toNatClampNeg = a.toInt.toNat := by
      have l := Int32.toInt_lt a
      have := xI_cl (i := a.toInt.toNat) (by omega)
      rw [← e] at this
      exact this
    rw [c] at h2
    exact ⟨p, by omega⟩
  · intro h
    obtain ⟨p, hp, rfl⟩ := h.of hn
    exact xI_in hp hn
/-- the kind of a row of a width; what of a number is kept -/
def yKd (w : Nat) : Nat := if w = 0 then 2 else if w = 1 then 4 else if w = 2 then 0 else 1
def yCt (w : Nat) (x : Int64) : Int64 := if w = 0 then x.toInt32.toInt8.toInt32.toInt64 else if w = 1 then x.toInt32.toInt16.toInt32.toInt64 else if w = 2 then x.toInt32.toInt64 else x
theorem yKd_cases {w : Nat} (h : w < 4) : w = 0 ∨ w = 1 ∨ w = 2 ∨ w = 3 := by omega
theorem yL_get (μ : wMem) (c i : Nat) (x : Int64) (c2 i2 : Nat) : (wSL μ c i x).2 c2 i2 = if c2 = c ∧ i2 = i then x else μ.2 c2 i2 := by
  unfold wSL va_up
  by_cases h : c2 = c
  · subst h
    by_cases g : i2 = i
    · subst g; simp [vp_updL]
    · simp [g, vp_updL]
  · simp [h]
theorem wAt_put {w : Nat} (hw : w < 4) (μ : wMem) (c j : Nat) (x : Int64) : wAt (wPut μ c (yKd w) j x) c (yKd w) j = yCt w x := by
  rcases yKd_cases hw with h | h | h | h <;> subst h
  · rw [show yKd 0 = 2 from rfl]
    unfold wAt wPut
    rw [if_neg (by decide), if_neg (by decide), if_pos rfl, yS_get, if_pos ⟨rfl, rfl⟩]
    rfl
  · rw [show yKd 1 = 4 from rfl]
    unfold wAt wPut
    rw [if_neg (by decide), if_neg (by decide), if_neg (by decide), if_pos rfl, yS_get, if_pos ⟨rfl, rfl⟩]
    rfl
  · rw [show yKd 2 = 0 from rfl]
    unfold wAt wPut
    rw [if_neg (by decide), if_neg (by decide), if_neg (by decide), if_neg (by decide), yS_get, if_pos ⟨rfl, rfl⟩]
    rfl
  · rw [show yKd 3 = 1 from rfl]
    unfold wAt wPut
    rw [if_pos rfl, if_pos rfl]
    have := yL_get μ c j x c j
    rw [if_pos ⟨rfl, rfl⟩] at this
    exact this
theorem wPut_1 (μ : wMem) (c t j : Nat) (x : Int64) {c2 i2 : Nat} (h : c2 ≠ c ∨ i2 ≠ j) : (wPut μ c t j x).1 c2 i2 = μ.1 c2 i2 := by
  have n : ¬ (c2 = c ∧ i2 = j) := fun q => by rcases h with h | h; exact h q.1; exact h q.2
  unfold wPut
  split
  · rfl
  · split
    · rw [yS_get, if_neg n]
    · split
      · rw [yS_get, if_neg n]
      · rw [yS_get, if_neg n]
theorem wPut_2 (μ : wMem) (c t j : Nat) (x : Int64) {c2 i2 : Nat} (h : c2 ≠ c ∨ i2 ≠ j) : (wPut μ c t j x).2 c2 i2 = μ.2 c2 i2 := by
  have n : ¬ (c2 = c ∧ i2 = j) := fun q => by rcases h with h | h; exact h q.1; exact h q.2
  unfold wPut
  split
  · rw [yL_get, if_neg n]
  · split
    · rfl
    · split <;> rfl
theorem wAt_oth (μ : wMem) (c t j : Nat) (x : Int64) {c2 t2 i2 : Nat} (h : c2 ≠ c ∨ i2 ≠ j) : wAt (wPut μ c t j x) c2 t2 i2 = wAt μ c2 t2 i2 := by
  unfold wAt
  rw [wPut_1 μ c t j x h, wPut_2 μ c t j x h]
theorem yc_cut {w : Nat} (hw : w < 4) (x : Int64) (N : Nat) (μ : wMem) : fX6_cut N x (nI w) μ = some (yCt w x, μ) := by
  unfold fX6_cut
  rcases yKd_cases hw with h | h | h | h <;> subst h <;> rfl
/-- a number put into a row, on both sides -/
theorem yq_write {c0 n i w j : Nat} {μ μm : wMem} (hw : w < 4) (X : ySl c0 (yKd w) n i μ μm) (e1 : μm.1 1 i = nI w) (hj : j < n) (x : Int64) (N : Nat) :
    fX0_write N c0 (yKd w) n (nI i) (nI j) x μ = some (0, wPut μ c0 (yKd w) j x) ∧ fX6_write N (nI i) (nI j) x μm = some (0, wSL (wSI μm 0 0 0) 3 (60 * i + j) (yCt w x)) ∧ ySl c0 (yKd w) n i (wPut μ c0 (yKd w) j x) (wSL (wSI μm 0 0 0) 3 (60 * i + j) (yCt w x)) := by
  obtain ⟨h1, h2, h3, h4, h5, h6⟩ := id X
  have w1 : (wSI μm 0 0 0).1 1 i = nI w := by rw [yS_get, if_neg (by omega)]; exact e1
  have w2 : (wSI μm 0 0 0).1 2 i = nI n := by rw [yS_get, if_neg (by omega)]; exact h5
  have e60 : (60 : Int32) * nI i + nI j = nI (60 * i + j) := by
    have : (60 : Int32) * nI i = nI (60 * i) := xI_mul 60 i
    rw [this, nI_add]
  refine ⟨?_, ?_, h1, h2, h3, fun k hk => ?_, h5, h6⟩
  · unfold fX0_write
    rw [yc_isSlot, yBd, yB1 (yIs_n h2 (by decide)), yG (xI_in hj (by omega)), xI_cl (by omega)]
  · unfold fX6_write
    rw [yWL, ym_isSlot, yBd, yB1 (yIs_n h2 (by decide)), yG (xI_in (by omega) (by decide)), xI_cl (by omega), w1, if_neg (by rw [xI_201 (x := w) (by omega)]; exact fun h => h), yG (xI_in (by omega) (by decide)), w2, ym_in (nI j) (by omega), yBd, yB1 (yIs_n hj (by omega)), yG (xI_in (by omega) (by decide)), w1, yc_cut hw, yBd, e60, yG (xI_in (by omega) (by decide)), yWL, xI_cl (by omega)]
  · rw [yL_get]
    by_cases q : k = j
    · rw [q, if_pos ⟨rfl, rfl⟩, wAt_put hw]
    · rw [if_neg (fun y => q (by omega)), wAt_oth μ c0 (yKd w) j x (Or.inr q)]
      exact h4 k hk
/-- a number put behind a row's end; a slot without a row; no slot -/
theorem yqo_write {c0 t n i : Nat} {μ μm : wMem} (X : ySl c0 t n i μ μm) {a2 : Int32} (hj : ¬ yIs a2 n) (x : Int64) (N : Nat) : yBth (foX0_write N c0 t n (nI i) a2 x) (fX6_write N (nI i) a2 x) μ μm := by
  obtain ⟨h1, h2, h3, h4, h5, h6⟩ := id X
  have w1 : (wSI μm 0 0 0).1 1 i = μm.1 1 i := by rw [yS_get, if_neg (by omega)]
  have w2 : (wSI μm 0 0 0).1 2 i = nI n := by rw [yS_get, if_neg (by omega)]; exact h5
  have no : ok_no a2 n = true := by
    unfold ok_no
    cases q : ok_in a2 n with
    | false => rfl
    | true => exact absurd ((yIs_in (by omega)).mp q) hj
  refine ⟨-7, μ, wSI μm 0 0 0, ?_, ?_, yKC.rfl' _, yKM_0 _ _⟩
  · unfold foX0_write
    rw [yc_isSlot, yBd, yB1 (yIs_n h2 (by decide)), yG no]
  · unfold fX6_write
    rw [yWL, ym_isSlot, yBd, yB1 (yIs_n h2 (by decide)), yG (xI_in (by omega) (by decide)), xI_cl (by omega), w1, if_neg h6, yG (xI_in (by omega) (by decide)), w2, ym_in a2 (by omega), yBd, yB2 hj]
theorem yqn_write {i : Nat} {μ μm : wMem} (h2 : i < 4) (e1 : μm.1 1 i = -1) (a2 : Int32) (x : Int64) (N : Nat) : yBth (fnX0_write N (nI i) a2 x) (fX6_write N (nI i) a2 x) μ μm := by
  have w1 : (wSI μm 0 0 0).1 1 i = -1 := by rw [yS_get, if_neg (by omega)]; exact e1
  refine ⟨-6, μ, wSI μm 0 0 0, ?_, ?_, yKC.rfl' _, yKM_0 _ _⟩
  · unfold fnX0_write
    rw [yc_isSlot, yBd, yB1 (yIs_n h2 (by decide))]
  · unfold fX6_write
    rw [yWL, ym_isSlot, yBd, yB1 (yIs_n h2 (by decide)), yG (xI_in (by omega) (by decide)), xI_cl (by omega), w1, if_pos rfl]
theorem yqb_write {a1 : Int32} {μ μm : wMem} (h : ¬ yIs a1 4) (a2 : Int32) (x : Int64) (N : Nat) : yBth (fbX0_write N a1 a2 x) (fX6_write N a1 a2 x) μ μm := by
  refine ⟨-2, μ, wSI μm 0 0 0, ?_, ?_, yKC.rfl' _, yKM_0 _ _⟩
  · unfold fbX0_write
    rw [yc_isSlot, yBd, yB2 h]
  · unfold fX6_write
    rw [yWL, ym_isSlot, yBd, yB2 h]
/-- a new row of zeros -/
theorem ym_row_zero (N i n : Nat) (hi : i < 4) (hn : n ≤ 60) : ∀ (d M k : Nat) (ν : wMem), d < M → k + d = n → ∃ ν1, gX6_row_57 N (nI i) (nI n) (fun (μ21 : wMem) => some (0, μ21)) M (nI k) ν = some (0, ν1) ∧ ν1.1 = ν.1 ∧ (∀ c2 i2, ν1.2 c2 i2 = if c2 = 3 ∧ 60 * i + k ≤ i2 ∧ i2 < 60 * i + n then 0 else ν.2 c2 i2) := by
  intro d
  induction d with
  | zero =>
    intro M k ν hM hk
    obtain ⟨M, rfl⟩ : ∃ q, M = q + 1 := ⟨M - 1, by omega⟩
    refine ⟨ν, ?_, rfl, fun c2 i2 => by rw [if_neg (by omega)]⟩
    show gbX6_row_57 N _ _ _ _ _ _ = _
    unfold gbX6_row_57
    rw [yIf (xI_le (a := n) (b := k) (by omega) (by omega)), if_pos (by omega)]
  | succ d ih =>
    intro M k ν hM hk
    obtain ⟨M, rfl⟩ : ∃ q, M = q + 1 := ⟨M - 1, by omega⟩
    have e60 : (60 : Int32) * nI i + nI k = nI (60 * i + k) := by
      have : (60 : Int32) * nI i = nI (60 * i) := xI_mul 60 i
      rw [this, nI_add]
    have add1 : nI k + (1 : Int32) = nI (k + 1) := nI_add k 1
    obtain ⟨ν1, j1, j2, j3⟩ := ih M (k + 1) (wSL ν 3 (60 * i + k) 0) (by omega) (by omega)
    refine ⟨ν1, ?_, j2, fun c2 i2 => ?_⟩
    · refine Eq.trans ?_ j1
      show gbX6_row_57 N _ _ _ _ _ _ = _
      unfold gbX6_row_57
      rw [yIf (xI_le (a := n) (b := k) (by omega) (by omega)), if_neg (by omega), e60, yG (xI_in (by omega) (by decide)), yWL, xI_cl (by omega), yWL, add1]
    · rw [j3, yL_get]
      by_cases g : c2 = 3 ∧ 60 * i + (k + 1) ≤ i2 ∧ i2 < 60 * i + n
      · rw [if_pos g, if_pos (by omega)]
      · rw [if_neg g]
        by_cases q : c2 = 3 ∧ i2 = 60 * i + k
        · rw [if_pos q, if_pos (by omega)]
        · rw [if_neg q, if_neg (by omega)]
def yMk4 (μm : wMem) (i w n : Nat) (ν : wMem) : Prop :=
  (∀ c j, ν.1 c j = (wSI (wSI (wSI μm 0 0 0) 1 i (nI w)) 2 i (nI n)).1 c j) ∧ (∀ c2 i2, ν.2 c2 i2 = if c2 = 3 ∧ 60 * i ≤ i2 ∧ i2 < 60 * i + n then 0 else μm.2 c2 i2)
theorem wKind_nI {w : Nat} (h : w < 4) : wKind (nI w) = yKd w := by
  rcases yKd_cases h with q | q | q | q <;> subst q <;> rfl
theorem yq_row {μ μm : wMem} {i w n : Nat} (hi : i < 4) (hw : w < 4) (hn : n ≤ 60) {N : Nat} (hN : 100 ≤ N) (n0 : Nat) :
    fgX0_row N n0 (nI i) (nI w) (nI n) μ = some (0, wZ μ n0) ∧ ∃ ν, fX6_row N (nI i) (nI w) (nI n) μm = some (0, ν) ∧ yMk4 μm i w n ν := by
  have l60 : (nI n ≤ (60 : Int32)) = (n ≤ 60) := xI_le (b := 60) (by omega) (by decide)
  have l0 : ((0 : Int32) ≤ nI n) = (0 ≤ n) := xI_le (a := 0) (by decide) (by omega)
  have okw : ok_w (nI w) = true := by rcases yKd_cases hw with q | q | q | q <;> subst q <;> rfl
  have okl : ok_len (nI n) = true := by
    unfold ok_len
    have e1 : (nI n < (0 : Int32)) = (n < 0) := xI_lt (b := 0) (by omega) (by decide)
    have e2 : ¬ nI n < 0 := by rw [e1]; omega
    rw [decide_eq_true e2, xI_cl (by omega), decide_eq_true hn]
    rfl
  have iw : yIs (nI w) 4 := yIs_n hw (by decide)
  constructor
  · unfold fgX0_row
    have h3 := yc_isIn (nI w) (n := 4) (by decide) N μ
    rw [yc_isSlot, yBd, yWL, yB1 (yIs_n hi (by decide))]
    refine Eq.trans (congrArg (fun z => wBind z _) h3) ?_
    rw [yBd, yB1 iw, yIf l60, if_pos hn, yG okw, yG okl]
  · obtain ⟨ν, j1, j2, j3⟩ := ym_row_zero N i n hi hn n N 0 (wSI (wSI (wSI μm 0 0 0) 1 i (nI w)) 2 i (nI n)) (by omega) (by omega)
    refine ⟨ν, ?_, fun c j => by rw [j2], fun c2 i2 => by rw [j3, Nat.add_zero]; rfl⟩
    unfold fX6_row
    have h3 := ym_in (nI w) (n := 4) (by decide) N (wSI μm 0 0 0)
    rw [yWL, ym_isSlot, yBd, yWL, yB1 (yIs_n hi (by decide))]
    refine Eq.trans (congrArg (fun z => wBind z _) h3) ?_
    rw [yBd, yB1 iw, yIf l60, if_pos hn, yIf l0, if_pos (Nat.zero_le _), yG (xI_in (by omega) (by decide)), yWL, yG (xI_in (by omega) (by decide)), yWL, xI_cl (by omega)]
    exact j1
/-- a row that is not made: the slot's number or the width is none, or the length is too much -/
theorem yqb_row {μ μm : wMem} (a1 a2 a3 : Int32) (h : ¬ (yIs a1 4 ∧ yIs a2 4 ∧ a3 ≤ (60 : Int32))) (N : Nat) : yBth (fbX0_row N a1 a2 a3) (fX6_row N a1 a2 a3) μ μm := by
  refine ⟨-2, μ, wSI μm 0 0 0, ?_, ?_, yKC.rfl' _, yKM_0 _ _⟩
  · unfold fbX0_row
    have h3 := yc_isIn a2 (n := 4) (by decide) N μ
    rw [yc_isSlot, yBd, yWL]
    by_cases g : yIs a1 4
    · rw [yB1 g]
      refine Eq.trans (congrArg (fun z => wBind z _) h3) ?_
      rw [yBd]
      by_cases g2 : yIs a2 4
      · rw [yB1 g2, if_neg (fun q => h ⟨g, g2, q⟩)]
      · rw [yB2 g2]
    · rw [yB2 g]
  · unfold fX6_row
    have h3 := ym_in a2 (n := 4) (by decide) N (wSI μm 0 0 0)
    rw [yWL, ym_isSlot, yBd, yWL]
    by_cases g : yIs a1 4
    · rw [yB1 g]
      refine Eq.trans (congrArg (fun z => wBind z _) h3) ?_
      rw [yBd]
      by_cases g2 : yIs a2 4
      · rw [yB1 g2, if_neg (fun q => h ⟨g, g2, q⟩)]
      · rw [yB2 g2]
    · rw [yB2 g]
theorem yqo_row {μ μm : wMem} {a1 a2 a3 : Int32} (g : yIs a1 4) (g2 : yIs a2 4) (h : a3 < 0) (N : Nat) : yBth (foX0_row N a1 a2 a3) (fX6_row N a1 a2 a3) μ μm := by
  have neg : a3.toInt < 0 := by
    have := Int32.lt_iff_toInt_lt.mp h
    rw [show (0 : Int32).toInt = 0 by decide] at this
    exact this
  have l60 : a3 ≤ (60 : Int32) := by
    apply Int32.le_iff_toInt_le.mpr
    rw [show (60 : Int32).toInt = 60 by decide]
    omega
  have n0 : ¬ (0 : Int32) ≤ a3 := fun q => by
    have := Int32.le_iff_toInt_le.mp q
    rw [show (0 : Int32).toInt = 0 by decide] at this
    omega
  obtain ⟨w, hw, rfl⟩ := g2.of (by decide)
  have okw : ok_w (nI w) = true := by rcases yKd_cases hw with q | q | q | q <;> subst q <;> rfl
  have okn : ok_neg a3 = true := by unfold ok_neg; exact decide_eq_true h
  refine ⟨-3, μ, wSI μm 0 0 0, ?_, ?_, yKC.rfl' _, yKM_0 _ _⟩
  · unfold foX0_row
    have h3 := yc_isIn (nI w) (n := 4) (by decide) N μ
    rw [yc_isSlot, yBd, yWL, yB1 g]
    refine Eq.trans (congrArg (fun z => wBind z _) h3) ?_
    rw [yBd, yB1 g2, if_pos l60, yG okw, yG okn]
  · unfold fX6_row
    have h3 := ym_in (nI w) (n := 4) (by decide) N (wSI μm 0 0 0)
    rw [yWL, ym_isSlot, yBd, yWL, yB1 g]
    refine Eq.trans (congrArg (fun z => wBind z _) h3) ?_
    rw [yBd, yB1 g2, if_pos l60, if_neg n0]
