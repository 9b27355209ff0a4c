set_option maxRecDepth 100000
/-! part 994: the tape: feed, end, fault -/
def yTp (n : Nat) (μ μm : wMem) : Prop := n ≤ 600 ∧ μ.1 0 2 = nI n ∧ μm.1 0 6 = nI n ∧ (∀ i, i < n → μ.1 8 i = μm.1 5 i) ∧ (∀ i, i < n → ∃ b : Int8, μ.1 8 i = b.toInt32)
def yKC2 (μ ν : wMem) : Prop := ∀ c i, (c = 0 → i ≠ 2) → c ≠ 8 → ν.1 c i = μ.1 c i ∧ ν.2 c i = μ.2 c i
def yKM2 (μ ν : wMem) : Prop := ∀ c i, (c = 0 → i ≠ 0 ∧ i ≠ 6) → c ≠ 5 → ν.1 c i = μ.1 c i ∧ ν.2 c i = μ.2 c i
theorem yKC2.trans {μ ν ρ : wMem} (h : yKC2 μ ν) (g : yKC2 ν ρ) : yKC2 μ ρ := fun c i a b => ⟨(g c i a b).1.trans (h c i a b).1, (g c i a b).2.trans (h c i a b).2⟩
theorem yKM2.trans {μ ν ρ : wMem} (h : yKM2 μ ν) (g : yKM2 ν ρ) : yKM2 μ ρ := fun c i a b => ⟨(g c i a b).1.trans (h c i a b).1, (g c i a b).2.trans (h c i a b).2⟩
def yW1 (μ : wMem) (c f n : Nat) (v : Int32) : wMem := wSI (wSI μ c n v) 0 f (nI (n + 1))
theorem yW1_f (μ : wMem) (c f n : Nat) (v : Int32) : (yW1 μ c f n v).1 0 f = nI (n + 1) := by unfold yW1; rw [yS_get, if_pos ⟨rfl, rfl⟩]
theorem yKC2_1 (μ : wMem) (n : Nat) (v : Int32) : yKC2 μ (yW1 μ 8 2 n v) := fun c i a b => ⟨by unfold yW1; rw [yS_get, yS_get, if_neg (fun h => a h.1 h.2), if_neg (fun h => b h.1)], rfl⟩
theorem yKM2_1 (μ : wMem) (n : Nat) (v : Int32) : yKM2 μ (yW1 μ 5 6 n v) := fun c i a b => ⟨by unfold yW1; rw [yS_get, yS_get, if_neg (fun h => (a h.1).2 h.2), if_neg (fun h => b h.1)], rfl⟩
theorem yKM2_0 (μ : wMem) (v : Int32) : yKM2 μ (wSI μ 0 0 v) := fun c i a b => ⟨by rw [yS_get, if_neg (fun h => (a h.1).1 h.2)], rfl⟩
theorem yTp_1 {n : Nat} {μ μm : wMem} (T : yTp n μ μm) (hn : n < 600) (b : Int8) : yTp (n + 1) (yW1 μ 8 2 n b.toInt32) (yW1 μm 5 6 n b.toInt32) := by
  obtain ⟨h0, h1, h2, h3, h4⟩ := T
  have q : ∀ i, (yW1 μ 8 2 n b.toInt32).1 8 i = if i = n then b.toInt32 else μ.1 8 i := fun i => by
    unfold yW1; rw [yS_get, if_neg (by omega), yS_get]; simp
  have qm : ∀ i, (yW1 μm 5 6 n b.toInt32).1 5 i = if i = n then b.toInt32 else μm.1 5 i := fun i => by
    unfold yW1; rw [yS_get, if_neg (by omega), yS_get]; simp
  refine ⟨by omega, yW1_f _ _ _ _ _, yW1_f _ _ _ _ _, fun i hi => ?_, fun i hi => ?_⟩
  · rw [q, qm]
    by_cases h : i = n
    · rw [if_pos h, if_pos h]
    · rw [if_neg h, if_neg h]; exact h3 i (by omega)
  · rw [q]
    by_cases h : i = n
    · rw [if_pos h]; exact ⟨b, rfl⟩
    · rw [if_neg h]; exact h4 i (by omega)
theorem yTp_0 {n : Nat} {μ μm : wMem} (T : yTp n μ μm) (v : Int32) : yTp n μ (wSI μm 0 0 v) := by
  obtain ⟨h0, h1, h2, h3, h4⟩ := T
  refine ⟨h0, h1, ?_, fun i hi => ?_, h4⟩
  · rw [yS_get, if_neg (by omega)]; exact h2
  · rw [yS_get, if_neg (by omega)]; exact h3 i hi
def yBy (a z : Int32) : Int8 := Int32.toInt8 (a >>> (z &&& 31))
theorem yc_put1 {n : Nat} {μ μm : wMem} (T : yTp n μ μm) (hn : n < 600) (N M : Nat) (a : Int32) (K : wMem → Option wMem) {z z1 : Int32} (hz : ¬ z < 0) (h1 : z + (-8) = z1) :
    gX0_puts_3 N a K (M + 1) z μ = gX0_puts_3 N a K M z1 (yW1 μ 8 2 n (yBy a z).toInt32) := by
  obtain ⟨h0, e2, _, _, _⟩ := T
  have w2 : ∀ v, (wSI μ 8 n v).1 0 2 = nI n := fun v => by rw [yS_get, if_neg (by omega)]; exact e2
  have en : nI n + (1 : Int32) = nI (n + 1) := nI_add n 1
  show gbX0_puts_3 N a K _ z μ = _
  unfold gbX0_puts_3 wLet
  dsimp only
  rw [if_neg hz, e2, yG (xI_in (by omega) (by omega)), xI_cl (by omega), w2, en, h1]
  rfl
theorem ym_put1 {n : Nat} {μ μm : wMem} (T : yTp n μ μm) (hn : n < 600) (N M : Nat) (a : Int32) (K : wMem → Option wMem) {z z1 : Int32} (hz : ¬ z < 0) (h1 : z + (-8) = z1) :
    gX6_four_3 N a K (M + 1) z μm = gX6_four_3 N a K M z1 (yW1 μm 5 6 n (yBy a z).toInt32) := by
  obtain ⟨h0, _, e2, _, _⟩ := T
  have w2 : ∀ v, (wSI μm 5 n v).1 0 6 = nI n := fun v => by rw [yS_get, if_neg (by omega)]; exact e2
  have en : nI n + (1 : Int32) = nI (n + 1) := nI_add n 1
  show gbX6_four_3 N a K _ z μm = _
  unfold gbX6_four_3 wLet
  dsimp only
  rw [if_neg hz, e2, yG (xI_in (by omega) (by omega)), xI_cl (by omega), w2, en, h1]
  rfl
theorem y_puts {n : Nat} {μ μm : wMem} (T : yTp n μ μm) (hn : n + 4 ≤ 600) {N : Nat} (hN : 5 ≤ N) (a : Int32) :
    ∃ ν νm, fX0_puts N a μ = some ν ∧ fX6_four N a μm = some νm ∧ yTp (n + 4) ν νm ∧ yKC2 μ ν ∧ yKM2 μm νm := by
  obtain ⟨M, rfl⟩ : ∃ q, N = q + 1 + 1 + 1 + 1 + 1 := ⟨N - 5, by omega⟩
  have T1 := yTp_1 T (by omega) (yBy a 24)
  have T2 := yTp_1 T1 (by omega) (yBy a 16)
  have T3 := yTp_1 T2 (by omega) (yBy a 8)
  have T4 := yTp_1 T3 (by omega) (yBy a 0)
  refine ⟨_, _, ?_, ?_, T4, ?_, ?_⟩
  · unfold fX0_puts
    rw [yc_put1 T (by omega) _ _ a _ (z := 24) (z1 := 16) (by decide) (by decide), yc_put1 T1 (by omega) _ _ a _ (z := 16) (z1 := 8) (by decide) (by decide),
      yc_put1 T2 (by omega) _ _ a _ (z := 8) (z1 := 0) (by decide) (by decide), yc_put1 T3 (by omega) _ _ a _ (z := 0) (z1 := -8) (by decide) (by decide)]
    show gbX0_puts_3 _ a _ _ (-8) _ = _
    unfold gbX0_puts_3
    rw [if_pos (by decide)]
  · unfold fX6_four
    rw [ym_put1 T (by omega) _ _ a _ (z := 24) (z1 := 16) (by decide) (by decide), ym_put1 T1 (by omega) _ _ a _ (z := 16) (z1 := 8) (by decide) (by decide),
      ym_put1 T2 (by omega) _ _ a _ (z := 8) (z1 := 0) (by decide) (by decide), ym_put1 T3 (by omega) _ _ a _ (z := 0) (z1 := -8) (by decide) (by decide)]
    show gbX6_four_3 _ a _ _ (-8) _ = _
    unfold gbX6_four_3
    rw [if_pos (by decide)]
  · exact (((yKC2_1 _ _ _).trans (yKC2_1 _ _ _)).trans (yKC2_1 _ _ _)).trans (yKC2_1 _ _ _)
  · exact (((yKM2_1 _ _ _).trans (yKM2_1 _ _ _)).trans (yKM2_1 _ _ _)).trans (yKM2_1 _ _ _)
/-- both answer the same; the tape alone may change -/
def yBt2 (f g : wMem → Option (Int32 × wMem)) (μ μm : wMem) : Prop := ∃ v μ1 μm1 n, f μ = some (v, μ1) ∧ g μm = some (v, μm1) ∧ yKC2 μ μ1 ∧ yKM2 μm μm1 ∧ yTp n μ1 μm1
theorem yq_feed {n : Nat} {μ μm : wMem} (T : yTp n μ μm) {N : Nat} (hN : 5 ≤ N) (a1 a2 a3 a4 a5 : Int32) : yBt2 (fX0_feed N a1 a2 a3 a4 a5) (fX6_feed N a1 a2 a3 a4 a5) μ μm := by
  have T0 := yTp_0 T 0
  have hn := T.1
  have e : ∀ m : Int32, m = nI n → ((m + (20 : Int32)) ≤ (600 : Int32)) = (n + 20 ≤ 600) := fun m h => by
    have q : nI n + (20 : Int32) = nI (n + 20) := nI_add n 20
    rw [h, q]
    exact xI_le (by omega) (b := 600) (by decide)
  by_cases g : n + 20 ≤ 600
  · obtain ⟨ν1, m1, p1, q1, T1, k1, l1⟩ := y_puts T0 (by omega) hN a1
    obtain ⟨ν2, m2, p2, q2, T2, k2, l2⟩ := y_puts T1 (by omega) hN a2
    obtain ⟨ν3, m3, p3, q3, T3, k3, l3⟩ := y_puts T2 (by omega) hN a3
    obtain ⟨ν4, m4, p4, q4, T4, k4, l4⟩ := y_puts T3 (by omega) hN a4
    obtain ⟨ν5, m5, p5, q5, T5, k5, l5⟩ := y_puts T4 (by omega) hN a5
    refine ⟨nI (n + 4 + 4 + 4 + 4 + 4), ν5, m5, _, ?_, ?_, (((k1.trans k2).trans k3).trans k4).trans k5, (((((yKM2_0 _ _).trans l1).trans l2).trans l3).trans l4).trans l5, T5⟩
    · unfold fX0_feed
      rw [yIf (e _ T.2.1), if_pos g, p1, yBV, p2, yBV, p3, yBV, p4, yBV, p5, yBV, T5.2.1]
    · unfold fX6_feed wLet
      dsimp only
      rw [yIf (e _ T0.2.2.1), if_pos g, q1, yBV, q2, yBV, q3, yBV, q4, yBV, q5, yBV, T5.2.2.1]
  · refine ⟨-1, μ, wSI μm 0 0 0, n, ?_, ?_, fun _ _ _ _ => ⟨rfl, rfl⟩, yKM2_0 _ _, T0⟩
    · unfold fX0_feed
      rw [yIf (e _ T.2.1), if_neg g]
    · unfold fX6_feed wLet
      dsimp only
      rw [yIf (e _ T0.2.2.1), if_neg g]
theorem yq_fault {μ μm : wMem} (h3 : μ.1 0 3 = μm.1 0 14) (h4 : μ.1 0 4 = μm.1 0 15) (N : Nat) (a1 : Int32) : yBth (fX0_fault N a1) (fX6_fault N a1) μ μm := by
  have e14 : (wSI μm 0 0 0).1 0 14 = μ.1 0 3 := by rw [yS_get, if_neg (by omega), h3]
  have e15 : (wSI μm 0 0 0).1 0 15 = μ.1 0 4 := by rw [yS_get, if_neg (by omega), h4]
  by_cases g : a1 = 0
  · refine yBth.mk' (v := μ.1 0 3) (μ1 := μ) (μm1 := wSI μm 0 0 0) ?_ ?_ (yKC.rfl' _) (yKM_0 _ _)
    · unfold fX0_fault; rw [if_pos g]
    · unfold fX6_fault wLet; dsimp only; rw [if_pos g, e14]
  · by_cases g1 : a1 = 1
    · refine yBth.mk' (v := μ.1 0 4) (μ1 := μ) (μm1 := wSI μm 0 0 0) ?_ ?_ (yKC.rfl' _) (yKM_0 _ _)
      · unfold fX0_fault; rw [if_neg g, if_pos g1]
      · unfold fX6_fault wLet; dsimp only; rw [if_neg g, if_pos g1, e15]
    · refine yBth.mk' (v := -1) (μ1 := μ) (μm1 := wSI μm 0 0 0) ?_ ?_ (yKC.rfl' _) (yKM_0 _ _)
      · unfold fX0_fault; rw [if_neg g, if_neg g1]
      · unfold fX6_fault wLet; dsimp only; rw [if_neg g, if_neg g1]
