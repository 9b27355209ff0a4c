set_option maxRecDepth 100000
/-! part 99977: the twin's paste -/
theorem ym_paste_out (N i p n : Nat) (hi : i < 4) (hp : p + n ≤ 60) (x3 x4 : Int32) (K : wMem → Option (Int32 × wMem)) : ∀ (d M k : Nat) (ν : wMem), d < M → k + d = n → ∃ ν1, gX6_paste_118 N (nI i) (nI p) x3 x4 (nI n) K M (nI k) ν = K ν1 ∧ ν1.1 = ν.1 ∧ (∀ c2 i2, ν1.2 c2 i2 = if c2 = 4 ∧ k ≤ i2 ∧ i2 < n then ν.2 3 (60 * i + p + i2) else ν.2 c2 i2) := by
  intro d
  induction d with
  | zero =>
    intro M k ν hM hk
    obtain ⟨M, rfl⟩ : ∃ q, M = q + 1 := ⟨M - 1, by omega⟩
    refine ⟨ν, ?_, rfl, fun c2 i2 => by rw [if_neg (by omega)]⟩
    show gbX6_paste_118 N _ _ _ _ _ _ _ _ _ = _
    unfold gbX6_paste_118
    rw [yIf (xI_le (a := n) (b := k) (by omega) (by omega)), if_pos (by omega)]
  | succ d ih =>
    intro M k ν hM hk
    obtain ⟨M, rfl⟩ : ∃ q, M = q + 1 := ⟨M - 1, by omega⟩
    have e60 : (60 : Int32) * nI i + nI p + nI k = nI (60 * i + p + k) := by
      have : (60 : Int32) * nI i = nI (60 * i) := xI_mul 60 i
      rw [this, nI_add, nI_add]
    have add1 : nI k + (1 : Int32) = nI (k + 1) := nI_add k 1
    obtain ⟨ν1, j1, j2, j3⟩ := ih M (k + 1) (wSL ν 4 k (ν.2 3 (60 * i + p + k))) (by omega) (by omega)
    refine ⟨ν1, ?_, j2, fun c2 i2 => ?_⟩
    · refine Eq.trans ?_ j1
      show gbX6_paste_118 N _ _ _ _ _ _ _ _ _ = _
      unfold gbX6_paste_118
      rw [yIf (xI_le (a := n) (b := k) (by omega) (by omega)), if_neg (by omega), e60, yG (xI_in (by omega) (by decide)), yG (xI_in (by omega) (by decide)), yWL, xI_cl (by omega), xI_cl (by omega), yWL, add1]
    · rw [j3, yL_get, yL_get]
      by_cases g : c2 = 4 ∧ k + 1 ≤ i2 ∧ i2 < n
      · rw [if_pos g, if_neg (by omega), if_pos (by omega)]
      · rw [if_neg g]
        by_cases q : c2 = 4 ∧ i2 = k
        · rw [if_pos q, if_pos (by omega), q.2]
        · rw [if_neg q, if_neg (by omega)]
theorem ym_paste_in (N i p n : Nat) (hi : i < 4) (hp : p + n ≤ 60) (K : wMem → Option (Int32 × wMem)) : ∀ (d M k : Nat) (ν : wMem), d < M → k + d = n → ∃ ν1, gX6_paste_155 N (nI i) (nI p) (nI n) K M (nI k) ν = K ν1 ∧ ν1.1 = ν.1 ∧ (∀ c2 i2, ν1.2 c2 i2 = if c2 = 3 ∧ 60 * i + p + k ≤ i2 ∧ i2 < 60 * i + p + n then ν.2 4 (i2 - (60 * i + p)) else ν.2 c2 i2) := by
  intro d
  induction d with
  | zero =>
    intro M k ν hM hk
    obtain ⟨M, rfl⟩ : ∃ q, M = q + 1 := ⟨M - 1, by omega⟩
    refine ⟨ν, ?_, rfl, fun c2 i2 => by rw [if_neg (by omega)]⟩
    show gbX6_paste_155 N _ _ _ _ _ _ _ = _
    unfold gbX6_paste_155
    rw [yIf (xI_le (a := n) (b := k) (by omega) (by omega)), if_pos (by omega)]
  | succ d ih =>
    intro M k ν hM hk
    obtain ⟨M, rfl⟩ : ∃ q, M = q + 1 := ⟨M - 1, by omega⟩
    have e60 : (60 : Int32) * nI i + nI p + nI k = nI (60 * i + p + k) := by
      have : (60 : Int32) * nI i = nI (60 * i) := xI_mul 60 i
      rw [this, nI_add, nI_add]
    have add1 : nI k + (1 : Int32) = nI (k + 1) := nI_add k 1
    obtain ⟨ν1, j1, j2, j3⟩ := ih M (k + 1) (wSL ν 3 (60 * i + p + k) (ν.2 4 k)) (by omega) (by omega)
    refine ⟨ν1, ?_, j2, fun c2 i2 => ?_⟩
    · refine Eq.trans ?_ j1
      show gbX6_paste_155 N _ _ _ _ _ _ _ = _
      unfold gbX6_paste_155
      rw [yIf (xI_le (a := n) (b := k) (by omega) (by omega)), if_neg (by omega), yG (xI_in (by omega) (by decide)), e60, yG (xI_in (by omega) (by decide)), yWL, xI_cl (by omega), xI_cl (by omega), yWL, add1]
    · rw [j3, yL_get, yL_get]
      by_cases g : c2 = 3 ∧ 60 * i + p + (k + 1) ≤ i2 ∧ i2 < 60 * i + p + n
      · rw [if_pos g, if_neg (by omega), if_pos (by omega)]
      · rw [if_neg g]
        by_cases q : c2 = 3 ∧ i2 = 60 * i + p + k
        · have e9 : i2 - (60 * i + p) = k := by omega
          rw [if_pos q, if_pos (by omega), e9]
        · rw [if_neg q, if_neg (by omega)]
/-- a part of a row into another, as it stood -/
theorem ym_paste_do {μm : wMem} {i k p q m n0 n1 w : Nat} (hi : i < 4) (hk : k < 4) (w1 : μm.1 1 i = nI w) (w3 : μm.1 1 k = nI w) (hw : w < 4) (m1 : μm.1 2 i = nI n0) (m3 : μm.1 2 k = nI n1) (h0 : n0 ≤ 60) (h1 : n1 ≤ 60) (hp : p + m ≤ n0) (hq : q + m ≤ n1) {N : Nat} (hN : 100 ≤ N) :
    ∃ ν, fX6_paste N (nI i) (nI p) (nI k) (nI q) (nI m) μm = some (0, ν) ∧ ν.1 = (wSI μm 0 0 0).1 ∧ (∀ c2 i2, c2 ≠ 4 → ν.2 c2 i2 = if c2 = 3 ∧ 60 * k + q ≤ i2 ∧ i2 < 60 * k + q + m then μm.2 3 (60 * i + p + (i2 - (60 * k + q))) else μm.2 c2 i2) := by
  obtain ⟨ν1, a1, a2, a3⟩ := ym_paste_out N i p m hi (by omega) (nI k) (nI q) (fun (μ32 : wMem) => gX6_paste_155 N (nI k) (nI q) (nI m) (fun (μ38 : wMem) => some (0, μ38)) N 0 μ32) m N 0 (wSI μm 0 0 0) (by omega) (by omega)
  obtain ⟨ν2, b1, b2, b3⟩ := ym_paste_in N k q m hk (by omega) (fun (μ38 : wMem) => some (0, μ38)) m N 0 ν1 (by omega) (by omega)
  refine ⟨ν2, ?_, by rw [b2, a2], fun c2 i2 hc => ?_⟩
  · have v1 : (wSI μm 0 0 0).1 1 i = nI w := by rw [yS_get, if_neg (by omega)]; exact w1
    have v3 : (wSI μm 0 0 0).1 1 k = nI w := by rw [yS_get, if_neg (by omega)]; exact w3
    have u1 : (wSI μm 0 0 0).1 2 i = nI n0 := by rw [yS_get, if_neg (by omega)]; exact m1
    have u3 : (wSI μm 0 0 0).1 2 k = nI n1 := by rw [yS_get, if_neg (by omega)]; exact m3
    have wm : (nI w = (-1 : Int32)) = False := xI_201 (x := w) (by omega)
    have neg : ∀ x, x < 2 ^ 31 → (nI x < (0 : Int32)) = (x < 0) := fun x h => xI_lt (b := 0) h (by decide)
    have l1 : ((nI n0).toInt64 < (nI p).toInt64 + (nI m).toInt64) = (n0 < p + m) := by
      rw [nI_l (by omega), nI_l (by omega), nI_l (by omega), lN_add]
      exact propext (lN_lt (by omega) (by omega))
    have l3 : ((nI q).toInt64 + (nI m).toInt64 ≤ (nI n1).toInt64) = (q + m ≤ n1) := by
      rw [nI_l (by omega), nI_l (by omega), nI_l (by omega), lN_add]
      exact propext (lN_le (by omega) (by omega))
    unfold fX6_paste
    rw [yWL, ym_isSlot, yBd, yWL, yB1 (yIs_n hi (by decide)), ym_isSlot, yBd, yB1 (yIs_n hk (by decide)), yG (xI_in hi (by decide)), yWL, xI_cl (by omega), v1, yIf wm, if_neg (fun h => h), yG (xI_in hk (by decide)), xI_cl (by omega), v3, yIf wm, if_neg (fun h => h), yG (xI_in hi (by decide)), yG (xI_in hk (by decide)), if_pos rfl, yWL, yIf (neg p (by omega)), if_neg (by omega), yIf (neg q (by omega)), if_neg (by omega), yIf (neg m (by omega)), if_neg (by omega), yG (xI_in hi (by decide)), u1, yIf l1, if_neg (by omega), yG (xI_in hk (by decide)), u3, yIf l3, if_pos hq]
    exact a1.trans b1
  · rw [b3, Nat.add_zero]
    by_cases g : c2 = 3 ∧ 60 * k + q ≤ i2 ∧ i2 < 60 * k + q + m
    · rw [if_pos g, if_pos g, a3, if_pos (by omega)]
      rfl
    · rw [if_neg g, if_neg g, a3, if_neg (by omega)]
      rfl
theorem ym_paste_b {μm : wMem} (a1 a2 a3 a4 a5 : Int32) (h : ¬ (yIs a1 4 ∧ yIs a3 4)) (N : Nat) : fX6_paste N a1 a2 a3 a4 a5 μm = some (-2, wSI μm 0 0 0) := by
  unfold fX6_paste
  rw [yWL, ym_isSlot, yBd, yWL]
  by_cases g : yIs a1 4
  · rw [yB1 g, ym_isSlot, yBd, yB2 (fun q => h ⟨g, q⟩)]
  · rw [yB2 g]
theorem ym_paste_n {μm : wMem} {i k : Nat} (hi : i < 4) (hk : k < 4) (h : μm.1 1 i = -1 ∨ μm.1 1 k = -1) (a2 a4 a5 : Int32) (N : Nat) : fX6_paste N (nI i) a2 (nI k) a4 a5 μm = some (-6, wSI μm 0 0 0) := by
  have v : ∀ j, (wSI μm 0 0 0).1 1 j = μm.1 1 j := fun j => by rw [yS_get, if_neg (by omega)]
  unfold fX6_paste
  rw [yWL, ym_isSlot, yBd, yWL, yB1 (yIs_n hi (by decide)), ym_isSlot, yBd, yB1 (yIs_n hk (by decide)), yG (xI_in hi (by decide)), yWL, xI_cl (by omega), v]
  by_cases g : μm.1 1 i = -1
  · rw [if_pos g]
  · rw [if_neg g, yG (xI_in hk (by decide)), xI_cl (by omega), v, if_pos (h.resolve_left g)]
theorem ym_paste_ty {μm : wMem} {i k : Nat} (hi : i < 4) (hk : k < 4) (h1 : μm.1 1 i ≠ -1) (h3 : μm.1 1 k ≠ -1) (ne : μm.1 1 i ≠ μm.1 1 k) (a2 a4 a5 : Int32) (N : Nat) : fX6_paste N (nI i) a2 (nI k) a4 a5 μm = some (-8, wSI μm 0 0 0) := by
  have v : ∀ j, (wSI μm 0 0 0).1 1 j = μm.1 1 j := fun j => by rw [yS_get, if_neg (by omega)]
  unfold fX6_paste
  rw [yWL, ym_isSlot, yBd, yWL, yB1 (yIs_n hi (by decide)), ym_isSlot, yBd, yB1 (yIs_n hk (by decide)), yG (xI_in hi (by decide)), yWL, xI_cl (by omega), v, if_neg h1, yG (xI_in hk (by decide)), xI_cl (by omega), v, if_neg h3, yG (xI_in hi (by decide)), yG (xI_in hk (by decide)), if_neg ne]
theorem yI_sum (a b : Int32) : (a.toInt64 + b.toInt64).toInt = a.toInt + b.toInt := by
  have h1 := Int32.toInt_lt a
  have h2 := Int32.le_toInt a
  have h3 := Int32.toInt_lt b
  have h4 := Int32.le_toInt b
  rw [Int64.toInt_add, Int32.toInt_toInt64, Int32.toInt_toInt64]
  exact Int.bmod_eq_of_le (by omega) (by omega)
/-- the place is none: behind an end, or negative -/
def yFl (n0 n1 : Nat) (a2 a4 a5 : Int32) : Prop := a2 < 0 ∨ a4 < 0 ∨ a5 < 0 ∨ (n0 : Int) < a2.toInt + a5.toInt ∨ (n1 : Int) < a4.toInt + a5.toInt
theorem ym_paste_fl {μm : wMem} {i k n0 n1 : Nat} (hi : i < 4) (hk : k < 4) (h1 : μm.1 1 i ≠ -1) (h3 : μm.1 1 k ≠ -1) (eq : μm.1 1 i = μm.1 1 k) (m1 : μm.1 2 i = nI n0) (m3 : μm.1 2 k = nI n1) (h0 : n0 ≤ 60) (h2 : n1 ≤ 60) (a2 a4 a5 : Int32) (fl : yFl n0 n1 a2 a4 a5) (N : Nat) : fX6_paste N (nI i) a2 (nI k) a4 a5 μm = some (-7, wSI μm 0 0 0) := by
  have v : ∀ j, (wSI μm 0 0 0).1 1 j = μm.1 1 j := fun j => by rw [yS_get, if_neg (by omega)]
  have u1 : (wSI μm 0 0 0).1 2 i = nI n0 := by rw [yS_get, if_neg (by omega)]; exact m1
  have u3 : (wSI μm 0 0 0).1 2 k = nI n1 := by rw [yS_get, if_neg (by omega)]; exact m3
  have l1 : ((nI n0).toInt64 < a2.toInt64 + a5.toInt64) = ((n0 : Int) < a2.toInt + a5.toInt) := by
    rw [Int64.lt_iff_toInt_lt, yI_sum, Int32.toInt_toInt64, nI_toInt (by omega)]
  have l3 : (a4.toInt64 + a5.toInt64 ≤ (nI n1).toInt64) = (a4.toInt + a5.toInt ≤ (n1 : Int)) := by
    rw [Int64.le_iff_toInt_le, yI_sum, Int32.toInt_toInt64, nI_toInt (by omega)]
  unfold fX6_paste
  rw [yWL, ym_isSlot, yBd, yWL, yB1 (yIs_n hi (by decide)), ym_isSlot, yBd, yB1 (yIs_n hk (by decide)), yG (xI_in hi (by decide)), yWL, xI_cl (by omega), v, if_neg h1, yG (xI_in hk (by decide)), xI_cl (by omega), v, if_neg h3, yG (xI_in hi (by decide)), yG (xI_in hk (by decide)), if_pos eq, yWL]
  by_cases g1 : a2 < 0
  · rw [if_pos g1]
  · rw [if_neg g1]
    by_cases g2 : a4 < 0
    · rw [if_pos g2]
    · rw [if_neg g2]
      by_cases g3 : a5 < 0
      · rw [if_pos g3]
      · rw [if_neg g3, yG (xI_in hi (by decide)), u1, yIf l1]
        by_cases g4 : (n0 : Int) < a2.toInt + a5.toInt
        · rw [if_pos g4]
        · rw [if_neg g4, yG (xI_in hk (by decide)), u3, yIf l3, if_neg]
          rcases fl with q | q | q | q | q
          · exact absurd q g1
          · exact absurd q g2
          · exact absurd q g3
          · exact absurd q g4
          · omega
theorem yFl_copy {n0 n1 : Nat} {a2 a4 a5 : Int32} (fl : yFl n0 n1 a2 a4 a5) (t : FieldType) : ∃ w, copyFault t t n0 n1 a2 a4 a5 = some w := by
  unfold copyFault
  by_cases g1 : a2 < 0
  · rw [if_pos g1]; exact ⟨_, rfl⟩
  · rw [if_neg g1]
    by_cases g2 : a4 < 0
    · rw [if_pos g2]; exact ⟨_, rfl⟩
    · rw [if_neg g2]
      by_cases g3 : a5 < 0
      · rw [if_pos g3]; exact ⟨_, rfl⟩
      · rw [if_neg g3]
        by_cases g4 : a2.toInt + a5.toInt > (n0 : Int)
        · rw [if_pos g4]; exact ⟨_, rfl⟩
        · rw [if_neg g4]
          by_cases g5 : a4.toInt + a5.toInt > (n1 : Int)
          · rw [if_pos g5]; exact ⟨_, rfl⟩
          · exfalso
            rcases fl with q | q | q | q | q
            · exact g1 q
            · exact g2 q
            · exact g3 q
            · omega
            · omega
/-- else: three numbers, and the part lies in both rows -/
theorem yFl_not {n0 n1 : Nat} (h0 : n0 ≤ 60) (h1 : n1 ≤ 60) {a2 a4 a5 : Int32} (fl : ¬ yFl n0 n1 a2 a4 a5) : ∃ p q m, a2 = nI p ∧ a4 = nI q ∧ a5 = nI m ∧ p + m ≤ n0 ∧ q + m ≤ n1 := by
  have nn : ∀ a : Int32, ¬ a < 0 → 0 ≤ a.toInt := fun a h => by
    rw [Int32.lt_iff_toInt_lt, show (0 : Int32).toInt = 0 by decide] at h
    omega
  have g1 := nn a2 (fun q => fl (Or.inl q))
  have g2 := nn a4 (fun q => fl (Or.inr (Or.inl q)))
  have g3 := nn a5 (fun q => fl (Or.inr (Or.inr (Or.inl q))))
  have g4 : ¬ (n0 : Int) < a2.toInt + a5.toInt := fun q => fl (Or.inr (Or.inr (Or.inr (Or.inl q))))
  have g5 : ¬ (n1 : Int) < a4.toInt + a5.toInt := fun q => fl (Or.inr (Or.inr (Or.inr (Or.inr q))))
  have e : ∀ a : Int32, 0 ≤ a.toInt → a = nI a.toInt.toNat := fun a h => by
    apply Int32.toInt_inj.mp
    rw [nI_toInt (by have := Int32.toInt_lt a; omega)]
    omega
  exact ⟨_, _, _, e a2 g1, e a4 g2, e a5 g3, by omega, by omega⟩
