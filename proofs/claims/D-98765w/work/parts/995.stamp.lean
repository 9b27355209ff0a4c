set_option maxRecDepth 100000
/-! part 995: end, stamp -/
theorem yIn2 (a : Int32) {n : Nat} (hn : n < 2 ^ 30) {α : Type} (x y z : α) : (if a.toInt64 < 0 then x else if (nI n).toInt64 < a.toInt64 then y else z) = if yIs a (n + 1) then z else if a.toInt64 < 0 then x else y := by
  have e0 : ((0 : Int64)).toInt = 0 := by decide
  have h1 : (a.toInt64 < 0) ↔ a.toInt < 0 := by rw [Int64.lt_iff_toInt_lt, Int32.toInt_toInt64, e0]
  have h2 : ((nI n).toInt64 < a.toInt64) ↔ (n : Int) < a.toInt := by rw [Int64.lt_iff_toInt_lt, Int32.toInt_toInt64 a, Int32.toInt_toInt64, nI_toInt (by omega)]
  unfold yIs
  by_cases g1 : a.toInt64 < 0
  · have := h1.mp g1
    rw [if_pos g1, if_neg (by omega), if_pos g1]
  · have q1 : ¬ a.toInt < 0 := fun h => g1 (h1.mpr h)
    rw [if_neg g1]
    by_cases g2 : (nI n).toInt64 < a.toInt64
    · have := h2.mp g2
      rw [if_pos g2, if_neg (by omega), if_neg g1]
    · have q2 : ¬ (n : Int) < a.toInt := fun h => g2 (h2.mpr h)
      rw [if_neg g2, if_pos (by omega)]
theorem yc_isIn2 (a : Int32) {n : Nat} (hn : n < 2 ^ 30) (N : Nat) (μ : wMem) : fX0_isIn N a.toInt64 0 (nI n).toInt64 μ = some (yB (decide (yIs a (n + 1))), μ) := by
  unfold fX0_isIn
  rw [yIn2 a hn]
  by_cases h : yIs a (n + 1)
  · rw [if_pos h, yB_t h]
  · rw [if_neg h, yB_f h]; split <;> rfl
theorem ym_in2 (a : Int32) {n : Nat} (hn : n < 2 ^ 30) (N : Nat) (μ : wMem) : fX6_in N a.toInt64 0 (nI n).toInt64 μ = some (yB (decide (yIs a (n + 1))), μ) := by
  unfold fX6_in
  rw [yIn2 a hn]
  by_cases h : yIs a (n + 1)
  · rw [if_pos h, yB_t h]
  · rw [if_neg h, yB_f h]; split <;> rfl
theorem yq_end {n : Nat} {μ μm : wMem} (T : yTp n μ μm) (N : Nat) (a1 : Int32) : yBt2 (fX0_end N a1) (fX6_end N a1) μ μm := by
  have T0 := yTp_0 T 0
  have hn := T.1
  by_cases g : yIs a1 (n + 1)
  · obtain ⟨p, hp, e1⟩ := yIs.of g (by omega)
    refine ⟨a1, wSI μ 0 2 a1, wSI (wSI μm 0 0 0) 0 6 a1, p, ?_, ?_, ?_, ?_, ?_⟩
    · unfold fX0_end wLet
      rw [T.2.1, yc_isIn2 a1 (by omega), yBd, yB1 g]
    · unfold fX6_end wLet
      dsimp only
      rw [T0.2.2.1, ym_in2 a1 (by omega), yBd, yB1 g]
    · exact fun c i a b => ⟨by rw [yS_get, if_neg (fun h => a h.1 h.2)], rfl⟩
    · exact (yKM2_0 _ _).trans (fun c i a b => ⟨by rw [yS_get, if_neg (fun h => (a h.1).2 h.2)], rfl⟩)
    · refine ⟨by omega, ?_, ?_, fun i hi => ?_, fun i hi => ?_⟩
      · rw [yS_get, if_pos ⟨rfl, rfl⟩, e1]
      · rw [yS_get, if_pos ⟨rfl, rfl⟩, e1]
      · rw [yS_get, if_neg (by omega), yS_get, if_neg (by omega)]; exact T0.2.2.2.1 i (by omega)
      · rw [yS_get, if_neg (by omega)]; exact T.2.2.2.2 i (by omega)
  · refine ⟨-1, μ, wSI μm 0 0 0, n, ?_, ?_, fun _ _ _ _ => ⟨rfl, rfl⟩, yKM2_0 _ _, T0⟩
    · unfold fX0_end
      rw [T.2.1, yc_isIn2 a1 (by omega), yBd, yB2 g]
    · unfold fX6_end wLet
      dsimp only
      rw [T0.2.2.1, ym_in2 a1 (by omega), yBd, yB2 g]
/-- the stamps, i acts done -/
def yStp (φ : Nat → Nat → Nat) : Nat → Nat → Nat
  | 0, _ => 0
  | i + 1, j => if φ 6 i ≠ 200 ∧ j = yCnt φ i then 10 * (φ 6 i / 100) + (yLay φ i).sd else yStp φ i j
theorem yCnt_step (φ : Nat → Nat → Nat) (i : Nat) : yCnt φ (i + 1) = yCnt φ i + (if φ 6 i = 200 then 0 else 1) := rfl
theorem yCnt_mono (φ : Nat → Nat → Nat) {i : Nat} : ∀ n, yCnt φ i ≤ yCnt φ (i + n)
  | 0 => Nat.le_refl _
  | n + 1 => Nat.le_trans (yCnt_mono φ n) (by rw [← Nat.add_assoc, yCnt_step]; omega)
theorem yStp_at (φ : Nat → Nat → Nat) {i : Nat} (h : φ 6 i ≠ 200) : ∀ n, yStp φ (i + 1 + n) (yCnt φ i) = 10 * (φ 6 i / 100) + (yLay φ i).sd
  | 0 => by show (if φ 6 i ≠ 200 ∧ yCnt φ i = yCnt φ i then _ else _) = _; rw [if_pos ⟨h, rfl⟩]
  | n + 1 => by
    show (if φ 6 (i + 1 + n) ≠ 200 ∧ yCnt φ i = yCnt φ (i + 1 + n) then _ else yStp φ (i + 1 + n) (yCnt φ i)) = _
    have b := yCnt_mono φ (i := i + 1) n
    rw [yCnt_step, if_neg h] at b
    rw [if_neg (fun q => by omega), yStp_at φ h n]
theorem yLM_13 (φ : Nat → Nat → Nat) (μ : wMem) : ∀ i j, j < yCnt φ i → (yLM φ μ i).1 13 j = nI (yStp φ i j)
  | 0, j, h => absurd h (Nat.not_lt_zero j)
  | i + 1, j, h => by
    rw [yCnt_step] at h
    show (if φ 6 i = 200 then _ else _ : wMem).1 13 j = nI (if φ 6 i ≠ 200 ∧ j = yCnt φ i then _ else yStp φ i j)
    by_cases g : φ 6 i = 200
    · rw [if_pos g] at h ⊢
      rw [if_neg (fun q => q.1 g), yS_get, if_neg (by omega)]
      exact yLM_13 φ μ i j (by omega)
    · rw [if_neg g] at h ⊢
      rw [yS_get, if_neg (by omega), yS_get, if_neg (by omega), yS_get, if_neg (by omega), yS_get]
      by_cases g2 : j = yCnt φ i
      · rw [if_pos ⟨rfl, g2⟩, if_pos ⟨g, g2⟩]
      · rw [if_neg (fun q => g2 q.2), if_neg (fun q => g2 q.2)]
        exact yLM_13 φ μ i j (by omega)
theorem yc_stamp_loop {φ : Nat → Nat → Nat} {μ : wMem} (O : yOk φ) (F : yFC φ μ) (G : yGo φ) (N : Nat) (a1 : Int32) (K : wMem → Option (Int32 × wMem)) : ∀ (n M k : Nat), n < M → k + n = φ 0 6 →
    ((∀ p, p < yCnt φ (φ 0 6) → yCnt φ k ≤ p → a1 = nI p → ∃ σ, gX0_stamp_18 N a1 K M (nI (yCnt φ k)) (nI k) (yPut μ (yLay φ k)) = some (nI (yStp φ (φ 0 6) p), yPut μ σ)) ∧
     ((∀ p, p < yCnt φ (φ 0 6) → a1 ≠ nI p) → gX0_stamp_18 N a1 K M (nI (yCnt φ k)) (nI k) (yPut μ (yLay φ k)) = K (yPut μ (yLay φ (φ 0 6))))) := by
  have h40 := O.acts
  have f6 : ∀ σ, (yPut μ σ).1 1 6 = nI (φ 0 6) := fun σ => by rw [yPut_c _ _ (by decide) (by decide)]; exact F.fld 6 (by decide)
  intro n
  induction n with
  | zero =>
    intro M k hM hk
    obtain ⟨M, rfl⟩ : ∃ q, M = q + 1 := ⟨M - 1, by omega⟩
    have kk : k = φ 0 6 := by omega
    refine ⟨fun p h1 h2 _ => ?_, fun _ => ?_⟩
    · rw [kk] at h2; omega
    · show gbX0_stamp_18 N a1 K _ _ _ _ = _
      unfold gbX0_stamp_18
      rw [f6, yIf (xI_le (by omega) (by omega)), if_pos (by omega), kk]
  | succ n ih =>
    intro M k hM hk
    obtain ⟨M, rfl⟩ : ∃ q, M = q + 1 := ⟨M - 1, by omega⟩
    obtain ⟨hA, hC⟩ := G k (by omega)
    have hl := hA.le
    have S := yLay_ok O G k (by omega)
    have fa : (yPut μ (yLay φ k)).1 7 k = nI (φ 6 k) := by rw [yPut_c _ _ (by decide) (by decide)]; exact F.act k (by omega)
    have ek : nI k + (1 : Int32) = nI (k + 1) := nI_add k 1
    have ex : nI (yCnt φ k) + (1 : Int32) = nI (yCnt φ k + 1) := nI_add _ 1
    have cl := yCnt_lt O (i := φ 0 6) (Nat.le_refl _)
    have ck := yCnt_lt O (i := k) (by omega)
    obtain ⟨ihA, ihB⟩ := ih M (k + 1) (by omega) (by omega)
    have dd : fX0_does N (nI (φ 6 k)) (yPut μ (yLay φ k)) = some (yPut μ (yLay φ (k + 1))) := yc_does O F S N hA
    have st : gX0_stamp_18 N a1 K (M + 1) (nI (yCnt φ k)) (nI k) (yPut μ (yLay φ k)) =
        (if φ 6 k = 200 then gX0_stamp_18 N a1 K M (nI (yCnt φ k)) (nI (k + 1)) (yPut μ (yLay φ (k + 1))) else if nI (yCnt φ k) = a1 then some (nI (10 * (φ 6 k / 100) + (yLay φ k).sd), yPut μ (yLay φ k)) else gX0_stamp_18 N a1 K M (nI (yCnt φ k + 1)) (nI (k + 1)) (yPut μ (yLay φ (k + 1)))) := by
      show gbX0_stamp_18 N a1 K _ _ _ _ = _
      unfold gbX0_stamp_18 wLet fX0_postIn
      dsimp only
      rw [f6, yIf (xI_le (by omega) (by omega)), if_neg (by omega), yG (xI_in (by omega) (by omega)), xI_cl (by omega), fa, yIf (xI_e200 (by omega)), dd, yBV, ek, ex, yBV, yBd, yPut_6, xI_d100 (by omega)]
      have x10 : (10 : Int32) * nI (φ 6 k / 100) = nI (10 * (φ 6 k / 100)) := xI_mul 10 _
      rw [x10, nI_add]
    have cs := yCnt_step φ k
    by_cases g : φ 6 k = 200
    · rw [if_pos g] at cs st
      rw [st]
      have e : yCnt φ (k + 1) = yCnt φ k := by omega
      rw [e] at ihA ihB
      exact ⟨ihA, ihB⟩
    · rw [if_neg g] at cs st
      rw [st]
      rw [cs] at ihA ihB
      refine ⟨fun p h1 h2 h3 => ?_, fun h => ?_⟩
      · by_cases q : p = yCnt φ k
        · have at' := yStp_at φ g n
          have e : k + 1 + n = φ 0 6 := by omega
          rw [e] at at'
          exact ⟨yLay φ k, by rw [if_pos (by rw [h3, q]), q, at']⟩
        · have ne : ¬ nI (yCnt φ k) = a1 := fun hh => by
            rw [h3] at hh
            have := (nI_eq (by omega) (by omega)).mp hh
            omega
          rw [if_neg ne]
          exact ihA p h1 (by omega) h3
      · have b := yCnt_mono φ (i := k + 1) n
        have e : k + 1 + n = φ 0 6 := by omega
        rw [e, cs] at b
        rw [if_neg (fun hh => h (yCnt φ k) (by omega) hh.symm)]
        exact ihB h
theorem yq_stamp {φ : Nat → Nat → Nat} {μ μm : wMem} (O : yOk φ) (G : yGo φ) (F : yFC φ μ) (M : yFM φ 0 μm) {N : Nat} (hN : 41 ≤ N) (a1 : Int32) : yBth (fX0_stamp N a1) (fX6_stamp N a1) μ μm := by
  have h40 := O.acts
  have M1 := (yKM_0 μm 0).fm M
  have lm : fX6_lays N (wSI μm 0 0 0) = some (yMl φ μm) := ym_lay O M1 G hN
  have m30 : (yMl φ μm).1 0 30 = nI (yCnt φ (φ 0 6)) := by unfold yMl; rw [yTut_o _ _ (by omega), yLM_30]
  have cl := yCnt_lt O (i := φ 0 6) (Nat.le_refl _)
  obtain ⟨LA, LB⟩ := yc_stamp_loop O F G N a1 (fun μ21 => some (-1, μ21)) (φ 0 6) N 0 (by omega) (by omega)
  by_cases g : φ 0 1 ≠ 0
  · by_cases g1 : yIs a1 (yCnt φ (φ 0 6))
    · obtain ⟨p, hp, e1⟩ := yIs.of g1 (by omega)
      obtain ⟨σ, hσ⟩ := LA p hp (Nat.zero_le _) e1
      refine yBth.mk' (v := nI (yStp φ (φ 0 6) p)) (μ1 := yPut μ σ) (μm1 := yMl φ μm) ?_ ?_ (yKC_put _ _) (yMl_k φ μm)
      · unfold fX0_stamp
        rw [yc_isFamily O F, yBd, yB1 g, yc_first, yBV]
        exact hσ
      · have m13 : (yMl φ μm).1 13 p = nI (yStp φ (φ 0 6) p) := by unfold yMl; rw [yTut_c _ _ (by decide)]; exact yLM_13 φ _ _ _ hp
        unfold fX6_stamp wLet
        dsimp only
        rw [ym_isFamily O M1, yBd, yB1 g, lm, yBV, m30, ym_in a1 (by omega), yBd, yB1 g1, e1, yG (xI_in (by omega) (by omega)), xI_cl (by omega), m13]
    · refine yBth.mk' (v := -1) (μ1 := yPut μ (yLay φ (φ 0 6))) (μm1 := yMl φ μm) ?_ ?_ (yKC_put _ _) (yMl_k φ μm)
      · unfold fX0_stamp
        rw [yc_isFamily O F, yBd, yB1 g, yc_first, yBV]
        exact LB (fun p hp h => g1 (by rw [h]; exact yIs_n hp (by omega)))
      · unfold fX6_stamp wLet
        dsimp only
        rw [ym_isFamily O M1, yBd, yB1 g, lm, yBV, m30, ym_in a1 (by omega), yBd, yB2 g1]
  · refine yBth.mk' (v := -2) (μ1 := μ) (μm1 := wSI μm 0 0 0) ?_ ?_ (yKC.rfl' _) (yKM_0 _ _)
    · unfold fX0_stamp
      rw [yc_isFamily O F, yBd, yB2 g]
    · unfold fX6_stamp wLet
      dsimp only
      rw [ym_isFamily O M1, yBd, yB2 g]
