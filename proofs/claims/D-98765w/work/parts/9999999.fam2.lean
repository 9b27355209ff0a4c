set_option maxRecDepth 100000
/-! part 9999999: family(), both sides -/
theorem zm_clears {N : Nat} (hN : 1000 ≤ N) (μ : wMem) : ∃ ν, fX6_clears N μ = some ν ∧ (∀ c i, ν.1 c i = if (c = 6 ∧ i = 4) ∨ (c = 7 ∧ 28 ≤ i ∧ i < 35) then 0 else μ.1 c i) ∧ ν.2 = μ.2 := by
  have loop : ∀ (d M j : Nat) (ρ : wMem), d < M → j + d = 7 → (∀ c i, ρ.1 c i = if (c = 6 ∧ i = 4) ∨ (c = 7 ∧ 28 ≤ i ∧ i < 28 + j) then 0 else μ.1 c i) → ρ.2 = μ.2 → ∃ ν, gX6_clears_9 N (fun (μ7 : wMem) => some μ7) M (nI j) ρ = some ν ∧ (∀ c i, ν.1 c i = if (c = 6 ∧ i = 4) ∨ (c = 7 ∧ 28 ≤ i ∧ i < 35) then 0 else μ.1 c i) ∧ ν.2 = μ.2 := by
    intro d
    induction d with
    | zero =>
      intro M j ρ hM hj h1 h2
      obtain ⟨M, rfl⟩ : ∃ q, M = q + 1 := ⟨M - 1, by omega⟩
      have : j = 7 := by omega
      subst this
      refine ⟨ρ, ?_, h1, h2⟩
      show gbX6_clears_9 N _ _ _ ρ = _
      unfold gbX6_clears_9
      rw [if_pos (by decide)]
    | succ d ih =>
      intro M j ρ hM hj h1 h2
      obtain ⟨M, rfl⟩ : ∃ q, M = q + 1 := ⟨M - 1, by omega⟩
      have add1 : nI j + (1 : Int32) = nI (j + 1) := nI_add j 1
      have e7 : ((7 : Int32) ≤ nI j) = (7 ≤ j) := xI_le (a := 7) (by decide) (by omega)
      obtain ⟨ν, j1, j2, j3⟩ := ih M (j + 1) (wSI ρ 7 (28 + j) 0) (by omega) (by omega) (fun c i => by
        rw [yS_get, h1 c i]
        by_cases g : c = 7 ∧ i = 28 + j
        · rw [if_pos g, if_pos (by omega)]
        · rw [if_neg g]
          by_cases q : (c = 6 ∧ i = 4) ∨ (c = 7 ∧ 28 ≤ i ∧ i < 28 + j)
          · rw [if_pos q, if_pos (by omega)]
          · rw [if_neg q, if_neg (by omega)]) h2
      refine ⟨ν, ?_, j2, j3⟩
      rw [← j1]
      show gbX6_clears_9 N _ _ _ ρ = _
      unfold gbX6_clears_9
      rw [yIf e7, if_neg (by omega), zm_tells (by omega), yBV, yWL, add1]
  have e : ok_in (4 : Int32) 5 = true := by decide
  have c : Int32.toNatClampNeg (4 : Int32) = 4 := by decide
  unfold fX6_clears
  rw [yG e, yWL, c]
  exact loop 7 N 0 (wSI μ 6 4 0) (by omega) (by omega) (fun c i => by
    rw [yS_get]
    by_cases g : c = 6 ∧ i = 4
    · rw [if_pos g, if_pos (.inl g)]
    · rw [if_neg g, if_neg (by omega)]) rfl
/-- what is as it was once a family was read (or not) -/
def zKT (μ ν : wMem) : Prop := (∀ c i, (c = 0 → (1 ≤ i ∧ i < 6) ∨ 15 < i) → (c = 6 → 1 ≤ i ∧ i ≠ 4) → (c = 7 → 7 ≤ i ∧ i < 28) → (c = 8 → 6 ≤ i ∧ i < 24) → (c = 9 → 6 ≤ i ∧ i < 24) → (c = 10 → 6 ≤ i ∧ i < 24) → (c = 11 → 40 ≤ i) → ν.1 c i = μ.1 c i) ∧ ∀ c i, (c = 0 → i ≠ 11) → ν.2 c i = μ.2 c i
theorem z_family {n L : Nat} {μ μm : wMem} (hL : 28 ≤ L) (T : yTp n μ μm) {N : Nat} (hN : 2000 ≤ N) :
    (∃ i μ1 t9 μ9 ψ ν, wNext N L (wRm (wZ μ L) L (L + 1)) = some (i, μ1) ∧ wRead wLen wByt N L (L + 1) (L + 1 + 1) N i μ1 = some (.inl ((), t9, μ9)) ∧ fX6_family N μm = some (nI (ψ 0 1), ν) ∧ yFCg ψ μ9 (L + 1) (L + 1 + 1 + 0) (L + 1 + 1 + 1) (L + 1 + 1 + 2) (L + 1 + 1 + 3) (L + 1 + 1 + 4) (L + 1 + 1 + 5) ∧ yFM ψ 0 ν ∧ yOk ψ ∧ ψ 0 6 = 0 ∧ zWf ψ ∧ (∀ c, c < L → μ9.1 c = μ.1 c ∧ μ9.2 c = μ.2 c) ∧ zKT μm ν ∧ ν.1 0 6 = 0 ∧ ν.1 0 14 = 0 ∧ ν.1 0 15 = -1) ∨
    (∃ i μ1 t9 μ9 k fr ν, wNext N L (wRm (wZ μ L) L (L + 1)) = some (i, μ1) ∧ wRead wLen wByt N L (L + 1) (L + 1 + 1) N i μ1 = some (.inr (nI k, t9, μ9)) ∧ μ9.1 L 3 = nI fr ∧ fX6_family N μm = some (-4, ν) ∧ (∀ c, c < L → μ9.1 c = μ.1 c ∧ μ9.2 c = μ.2 c) ∧ zKT μm ν ∧ (∀ c j, 6 ≤ c → c ≤ 11 → (c = 6 → j ≠ 4) → (c = 7 → j < 28) → (c = 8 → j < 24) → (c = 9 → j < 24) → (c = 10 → j < 24) → ν.1 c j = μm.1 c j) ∧ ν.1 0 6 = 0 ∧ ν.1 0 14 = nI k ∧ ν.1 0 15 = nI fr) := by
  obtain ⟨n6, T1, T2, T3, _⟩ := T
  obtain ⟨σ, s1, s2, s3⟩ := zm_clears (N := N) (by omega) (wSI μm 0 0 0)
  -- the component's start
  have k0 : ∀ c, c < L → (wRm (wZ μ L) L (L + 1)).1 c = μ.1 c ∧ (wRm (wZ μ L) L (L + 1)).2 c = μ.2 c := fun c hc => by
    unfold wRm
    have z := fun (ρ : wMem) (k : Nat) (hk : L < k) => yZ_o ρ (n := k) (c := c) (by omega)
    constructor
    · rw [(z _ _ (by omega)).1, (z _ _ (by omega)).1, (z _ _ (by omega)).1, (z _ _ (by omega)).1, (z _ _ (by omega)).1, (z _ _ (by omega)).1, (z _ _ (by omega)).1, zS_row _ (by omega), (yZ_o μ (n := L) (c := c) (by omega)).1]
    · rw [(z _ _ (by omega)).2, (z _ _ (by omega)).2, (z _ _ (by omega)).2, (z _ _ (by omega)).2, (z _ _ (by omega)).2, (z _ _ (by omega)).2, (z _ _ (by omega)).2]
      exact (yZ_o μ (n := L) (c := c) (by omega)).2
  have kL : ∀ i, (wRm (wZ μ L) L (L + 1)).1 L i = if i = 0 then nI n else 0 := fun i => by
    unfold wRm
    rw [yZ_get, if_neg (by omega), yZ_get, if_neg (by omega), yZ_get, if_neg (by omega), yZ_get, if_neg (by omega), yZ_get, if_neg (by omega), yZ_get, if_neg (by omega), yZ_get, if_neg (by omega), yS_get]
    by_cases g : i = 0
    · rw [if_pos ⟨rfl, g⟩, if_pos g, yZ_get, if_neg (by omega)]
      exact T1
    · rw [if_neg (fun q => g q.2), if_neg g, yZ_get, if_pos rfl]
  have kf : ∀ c i, L + 1 ≤ c → c ≤ L + 7 → (wRm (wZ μ L) L (L + 1)).1 c i = 0 := fun c i h1 h2 => by
    unfold wRm
    simp only [yZ_get, yS_get]
    repeat' split
    all_goals first | rfl | omega
  have Tc : yTc (fun i => μ.1 8 i) n L (wRm (wZ μ L) L (L + 1)) := ⟨by omega, n6, by rw [kL, if_pos rfl], fun i hi => by rw [(k0 8 (by omega)).1]⟩
  have a0 : (wRm (wZ μ L) L (L + 1)).1 L 2 = nI 0 := by rw [kL, if_neg (by decide)]; rfl
  generalize wRm (wZ μ L) L (L + 1) = τ at k0 kf Tc a0 ⊢
  -- the twin's
  have eb : fX6_begins N σ = wBindV (fX6_next N (wSI (wSI (wSI σ 0 12 0) 0 13 (-1)) 0 7 0)) fun μ5 => some μ5 := by
    unfold fX6_begins
    rw [yWL, yWL, yWL]
  have b12 : (wSI (wSI (wSI σ 0 12 0) 0 13 (-1)) 0 7 0).1 0 12 = 0 := by rw [yS_get, if_neg (by omega), yS_get, if_neg (by omega), yS_get, if_pos ⟨rfl, rfl⟩]
  have b7 : (wSI (wSI (wSI σ 0 12 0) 0 13 (-1)) 0 7 0).1 0 7 = nI 0 := by rw [yS_get, if_pos ⟨rfl, rfl⟩]; rfl
  have bk : ∀ c i, (c = 0 → i ≠ 7 ∧ i ≠ 12 ∧ i ≠ 13 ∧ i ≠ 0) → (wSI (wSI (wSI σ 0 12 0) 0 13 (-1)) 0 7 0).1 c i = if (c = 6 ∧ i = 4) ∨ (c = 7 ∧ 28 ≤ i ∧ i < 35) then 0 else μm.1 c i := fun c i h => by
    have z0 : (wSI μm 0 0 (0 : Int32)).1 c i = μm.1 c i := by rw [yS_get, if_neg (by omega)]
    rw [yS_get, if_neg (by omega), yS_get, if_neg (by omega), yS_get, if_neg (by omega), s2, z0]
  have bl : (wSI (wSI (wSI σ 0 12 0) 0 13 (-1)) 0 7 0).2 = μm.2 := s3
  have Tm : zTm (fun i => μ.1 8 i) n (wSI (wSI (wSI σ 0 12 0) 0 13 (-1)) 0 7 0) := ⟨n6, by rw [bk 0 6 (by omega), if_neg (by omega)]; exact T2, fun i hi => by rw [bk 5 i (by omega), if_neg (by omega)]; exact (T3 i hi).symm⟩
  generalize wSI (wSI (wSI σ 0 12 0) 0 13 (-1)) 0 7 0 = ω at eb b12 b7 bk bl Tm
  obtain ⟨i, μ1, μm1, p1, fr1, c1, c2, c3, c4, c5, c6, c7⟩ := z_next Tc Tm (Nat.zero_le n) a0 b7 (N := N) (by omega)
  have A0 : zFa (fun _ _ => 0) (L + 1) (L + 1 + 1) τ ω := by
    refine ⟨⟨fun j hj => ?_, fun j hj => ?_, fun j hj => ?_, fun j hj => ?_, fun j hj => ?_, fun j hj => ?_, fun j hj => ?_⟩, ⟨⟨?_, ?_, ?_, ?_, ?_, ?_, ?_, ?_⟩, fun j hj => ?_, fun j hj => ?_, fun j hj => ?_, fun j hj => ?_⟩, ?_, rfl⟩
    · rw [kf _ _ (by omega) (by omega)]; rfl
    · exact absurd hj (Nat.not_lt_zero j)
    · exact absurd hj (Nat.not_lt_zero j)
    · exact absurd hj (Nat.not_lt_zero j)
    · exact absurd hj (Nat.not_lt_zero j)
    · exact absurd hj (Nat.not_lt_zero j)
    · exact absurd hj (Nat.not_lt_zero j)
    · rw [bk _ _ (by omega), if_pos (by omega)]; rfl
    · rw [bk _ _ (by omega), if_pos (by omega)]; rfl
    · rw [bk _ _ (by omega), if_pos (by omega)]; rfl
    · rw [bk _ _ (by omega), if_pos (by omega)]; rfl
    · rw [bk _ _ (by omega), if_pos (by omega)]; rfl
    · rw [bk _ _ (by omega), if_pos (by omega)]; rfl
    · rw [bk _ _ (by omega), if_pos (by omega)]; rfl
    · rw [bk _ _ (by omega), if_pos (by omega)]; rfl
    · exact absurd hj (Nat.not_lt_zero j)
    · exact absurd hj (Nat.not_lt_zero j)
    · exact absurd hj (Nat.not_lt_zero j)
    · exact absurd hj (Nat.not_lt_zero j)
    · exact ⟨by decide, by decide, by decide, by decide, by decide, by decide, by decide, by decide, fun j hj => absurd hj (Nat.not_lt_zero j), fun j hj => absurd hj (Nat.not_lt_zero j), fun j hj => absurd hj (Nat.not_lt_zero j), fun j hj => absurd hj (Nat.not_lt_zero j), fun j hj => absurd hj (Nat.not_lt_zero j)⟩
  have A1 := zFa_fr A0 (by omega : L < L + 1) (by omega) c4 c5.b
  have zm : zM n i p1 ≤ 1201 := by
    unfold zM
    by_cases g : i = 0
    · rw [if_pos g]; omega
    · rw [if_neg g]; omega
  have R := z_read (b := fun i => μ.1 8 i) (n := n) (r := L) (f := L + 1) (x := L + 1 + 1) (by omega) (by omega) rfl hN (zM n i p1) N N i p1 fr1 (fun _ _ => 0) μ1 μm1 (Nat.le_refl _) (by omega) (by omega) c3 (c5.bad.trans b12) A1 ⟨fun h => absurd rfl h, fun h => absurd h (by decide), fun h => absurd h (by decide)⟩ (by omega)
  have ef : ∀ z, gX6_family_13 N (fun (μ45 : wMem) => wBindV (fX6_isOver N μ45) fun μ47 => if (μ47.1 0 12) = 0 then wBindV (fX6_copyFamily N 4 0 μ47) fun μ50 => wG (ok_in (0 : Int32) 5) (some (μ50.1 6 (Int32.toNatClampNeg (0 : Int32)), μ50)) else some ((-4), μ47)) N μm1 = z → fX6_family N μm = z := fun z hz => by
    unfold fX6_family
    rw [yWL, s1, yBV, eb, c2, yBV, yBV]
    exact hz
  -- what both steps keep
  have keep : ∀ μ9 : wMem, zKr L (L + 1) (L + 1 + 1) μ1 μ9 → ∀ c, c < L → μ9.1 c = μ.1 c ∧ μ9.2 c = μ.2 c := fun μ9 h c hc => by
    refine ⟨?_, ?_⟩
    · refine Eq.trans (funext fun j => (h.1 c j (by omega) (by omega) (by omega)).trans (c4.1 c j (by omega))) (k0 c hc).1
    · rw [h.2, c4.2]
      exact (k0 c hc).2
  have keepm : ∀ ν9 : wMem, zKm μm1 ν9 → ∀ c j, (c = 0 → (1 ≤ j ∧ j < 6) ∨ 13 < j) → (c = 6 → j ≠ 4) → (c = 7 → j < 28) → (c = 8 → j < 24) → (c = 9 → j < 24) → (c = 10 → j < 24) → ν9.1 c j = μm.1 c j := fun ν9 h c j h1 h2 h3 h4 h5 h6 => by
    rw [h.1 c j (by omega) h2 h3 h4 h5 h6, c5.1 c j (by omega), bk c j (by omega), if_neg (by omega)]
  have keepl : ∀ ν9 : wMem, zKm μm1 ν9 → ∀ c j, (c = 0 → j ≠ 11) → ν9.2 c j = μm.2 c j := fun ν9 h c j h1 => by
    rw [h.2 c j h1, c5.2 c j h1, bl]
  rcases R with ⟨t9, μ9, ν9, ψ, r1, r2, r3, r4, r5, r6, r7⟩ | ⟨k, t9, μ9, ν9, fr9, r1, r2, r3, r4, r5, r6⟩
  · left
    -- the twin goes over to the family read
    have ov : fX6_isOver N ν9 = some (wSI (wSI (wSI ν9 0 6 0) 0 14 0) 0 15 (-1)) := by
      have e12 : (wSI ν9 0 6 0).1 0 12 = 0 := by rw [yS_get, if_neg (by omega)]; exact r3
      have e12' : (wSI (wSI ν9 0 6 0) 0 14 0).1 0 12 = 0 := by rw [yS_get, if_neg (by omega)]; exact e12
      unfold fX6_isOver
      rw [yWL, e12, yWL, yWL, if_pos e12']
      rfl
    obtain ⟨ν, d1, d2⟩ := ym_copyFamily (a := 4) (b := 0) (by decide) (by decide) (by decide) (N := N) (by omega) (wSI (wSI (wSI ν9 0 6 0) 0 14 0) 0 15 (-1))
    have F4 : yFM ψ 4 (wSI (wSI (wSI ν9 0 6 0) 0 14 0) 0 15 (-1)) := yFM_of r4.2.1 fun c h1 h2 j => by rw [yS_get, if_neg (by omega), yS_get, if_neg (by omega), yS_get, if_neg (by omega)]
    have F0 := d2.new r4.2.2.1 F4
    have e12 : (wSI (wSI (wSI ν9 0 6 0) 0 14 0) 0 15 (-1)).1 0 12 = 0 := by rw [yS_get, if_neg (by omega), yS_get, if_neg (by omega), yS_get, if_neg (by omega)]; exact r3
    have n0 : ∀ j, ν.1 0 j = (wSI (wSI (wSI ν9 0 6 0) 0 14 0) 0 15 (-1)).1 0 j := fun j => by
      rw [d2.1 0 j, if_neg (by show ¬ (0 * 0 ≤ j ∧ j < 0 * 0 + 0); omega)]
    refine ⟨i, μ1, t9, μ9, ψ, ν, c1, r1, ef _ ?_, r4.1, F0, r4.2.2.1, r4.2.2.2, r5, keep μ9 r6, ⟨fun c j h1 h2 h3 h4 h5 h6 h7 => ?_, fun c j h => ?_⟩, ?_, ?_, ?_⟩
    · refine (r2 _).trans ?_
      rw [ov, yBV, if_pos e12]
      refine Eq.trans (congrArg (fun z => wBindV z _) d1) ?_
      have l1 : ν.1 6 0 = nI (ψ 0 1) := F0.1.2.1
      rw [yBV, yG (by decide)]
      show some (ν.1 6 0, ν) = _
      rw [l1]
    · have w : ¬ (yWd c * 0 ≤ j ∧ j < yWd c * 0 + yWd c) := by
        unfold yWd
        split <;> omega
      rw [d2.1 c j, if_neg w, yS_get, if_neg (by omega), yS_get, if_neg (by omega), yS_get, if_neg (by omega)]
      exact keepm ν9 r7 c j (by omega) (by omega) (by omega) (by omega) (by omega) (by omega)
    · rw [d2.2]
      exact keepl ν9 r7 c j h
    · rw [n0, yS_get, if_neg (by omega), yS_get, if_neg (by omega), yS_get, if_pos ⟨rfl, rfl⟩]
    · rw [n0, yS_get, if_neg (by omega), yS_get, if_pos ⟨rfl, rfl⟩]
    · rw [n0, yS_get, if_pos ⟨rfl, rfl⟩]
  · right
    have ov : fX6_isOver N ν9 = some (wSI (wSI (wSI ν9 0 6 0) 0 14 (nI k)) 0 15 (nI fr9)) := by
      have e12 : (wSI ν9 0 6 0).1 0 12 = nI k := by rw [yS_get, if_neg (by omega)]; exact r4.2.2.1
      have e12' : (wSI (wSI ν9 0 6 0) 0 14 (nI k)).1 0 12 = nI k := by rw [yS_get, if_neg (by omega)]; exact e12
      have e13' : (wSI (wSI ν9 0 6 0) 0 14 (nI k)).1 0 13 = nI fr9 := by rw [yS_get, if_neg (by omega), yS_get, if_neg (by omega)]; exact r4.2.2.2
      have ne : ¬ nI k = (0 : Int32) := by rw [← r4.2.2.1]; exact r4.ne
      unfold fX6_isOver
      rw [yWL, e12, yWL, yWL, e12', if_neg ne, e13']
      rfl
    have e12 : ¬ (wSI (wSI (wSI ν9 0 6 0) 0 14 (nI k)) 0 15 (nI fr9)).1 0 12 = 0 := by rw [yS_get, if_neg (by omega), yS_get, if_neg (by omega), yS_get, if_neg (by omega)]; exact r4.ne
    refine ⟨i, μ1, t9, μ9, k, fr9, _, c1, r1, r2, ef _ ((r3 _).trans (by rw [ov, yBV, if_neg e12])), keep μ9 r5, ⟨fun c j h1 h2 h3 h4 h5 h6 h7 => ?_, fun c j h => ?_⟩, fun c j h0 h1 h2 h3 h4 h5 h6 => ?_, ?_, ?_, ?_⟩
    · rw [yS_get, if_neg (by omega), yS_get, if_neg (by omega), yS_get, if_neg (by omega)]
      exact keepm ν9 r6 c j (by omega) (by omega) (by omega) (by omega) (by omega) (by omega)
    · exact keepl ν9 r6 c j h
    · rw [yS_get, if_neg (by omega), yS_get, if_neg (by omega), yS_get, if_neg (by omega)]
      exact keepm ν9 r6 c j (by omega) h2 h3 h4 h5 h6
    · rw [yS_get, if_neg (by omega), yS_get, if_neg (by omega), yS_get, if_pos ⟨rfl, rfl⟩]
    · rw [yS_get, if_neg (by omega), yS_get, if_pos ⟨rfl, rfl⟩]
    · rw [yS_get, if_pos ⟨rfl, rfl⟩]
