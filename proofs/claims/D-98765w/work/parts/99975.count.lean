set_option maxRecDepth 100000
/-! part 99975: count -/
theorem yq_count {φ : Nat → Nat → Nat} {μ μm : wMem} (O : yOk φ) (F : yFC φ μ) (M : yFM φ 0 μm) {n : Nat} (T : yTp n μ μm) {N : Nat} (hN : 100 ≤ N) (hs : Nat → Bool) (hw : ∀ i, i < 4 → (hs i = true ↔ ¬ μm.1 1 i = -1)) (a1 : Int32) : yBth (fX0_count N hs a1) (fX6_count N a1) μ μm := by
  have M1 := (yKM_0 μm 0).fm M
  have k0 := yKM_0 μm 0
  have z4 := O.children
  have z5 := O.stay
  have w1 : ∀ i, (wSI μm 0 0 0).1 1 i = μm.1 1 i := fun i => by rw [yS_get, if_neg (by omega)]
  by_cases h0 : a1 = 0
  · refine ⟨nI (φ 0 2), μ, _, ?_, ?_, yKC.rfl' _, k0⟩
    · unfold fX0_count
      rw [if_pos h0, F.fld 2 (by decide)]
    · unfold fX6_count
      rw [yWL, if_pos h0, yG (show ok_in (2 : Int32) 35 = true by decide)]
      exact congrArg (fun z => some (z, wSI μm 0 0 0)) M1.persons
  by_cases h1 : a1 = 1
  · refine ⟨nI (φ 0 3), μ, _, ?_, ?_, yKC.rfl' _, k0⟩
    · unfold fX0_count
      rw [if_neg h0, if_pos h1, F.fld 3 (by decide)]
    · unfold fX6_count
      rw [yWL, if_neg h0, if_pos h1, yG (show ok_in (3 : Int32) 35 = true by decide)]
      exact congrArg (fun z => some (z, wSI μm 0 0 0)) M1.posts
  by_cases h2 : a1 = 2
  · refine ⟨nI (φ 0 0), μ, _, ?_, ?_, yKC.rfl' _, k0⟩
    · unfold fX0_count
      rw [if_neg h0, if_neg h1, if_pos h2, F.fld 0 (by decide)]
    · unfold fX6_count
      rw [yWL, if_neg h0, if_neg h1, if_pos h2, yG (show ok_in (0 : Int32) 35 = true by decide)]
      exact congrArg (fun z => some (z, wSI μm 0 0 0)) M1.loaf
  by_cases h3 : a1 = 3
  · have e : (wSI μm 0 0 0).1 7 (Int32.toNatClampNeg (4 : Int32)) = nI (φ 0 4) := M1.children
    refine ⟨nI (yPc (φ 0 4)), μ, _, ?_, ?_, yKC.rfl' _, k0⟩
    · unfold fX0_count
      rw [if_neg h0, if_neg h1, if_neg h2, if_pos h3, F.fld 4 (by decide), yc_bits N μ z4, yBd]
    · unfold fX6_count
      rw [yWL, if_neg h0, if_neg h1, if_neg h2, if_pos h3, yG (show ok_in (4 : Int32) 35 = true by decide), e, ym_size (by omega) _ z4, yBd]
  by_cases h4 : a1 = 4
  · have e : (wSI μm 0 0 0).1 7 (Int32.toNatClampNeg (5 : Int32)) = nI (φ 0 5) := M1.stay
    refine ⟨nI (yPc (φ 0 5)), μ, _, ?_, ?_, yKC.rfl' _, k0⟩
    · unfold fX0_count
      rw [if_neg h0, if_neg h1, if_neg h2, if_neg h3, if_pos h4, F.fld 5 (by decide), yc_bits N μ z5, yBd]
    · unfold fX6_count
      rw [yWL, if_neg h0, if_neg h1, if_neg h2, if_neg h3, if_pos h4, yG (show ok_in (5 : Int32) 35 = true by decide), e, ym_size (by omega) _ z5, yBd]
  by_cases h5 : a1 = 5
  · have c7 := O.compares
    refine ⟨nI (φ 0 7), μ, _, ?_, ?_, yKC.rfl' _, k0⟩
    · unfold fX0_count
      rw [if_neg h0, if_neg h1, if_neg h2, if_neg h3, if_neg h4, if_pos h5, F.fld 7 (by decide)]
      have : φ 0 7 = 0 ∨ φ 0 7 = 1 := by omega
      rcases this with q | q
      · rw [q]; rfl
      · rw [q]; rfl
    · unfold fX6_count
      rw [yWL, if_neg h0, if_neg h1, if_neg h2, if_neg h3, if_neg h4, if_pos h5, yG (show ok_in (1 : Int32) 35 = true by decide)]
      exact congrArg (fun z => some (z, wSI μm 0 0 0)) M1.compares
  by_cases h6 : a1 = 6
  · refine ⟨nI (φ 0 6), μ, _, ?_, ?_, yKC.rfl' _, k0⟩
    · unfold fX0_count
      rw [if_neg h0, if_neg h1, if_neg h2, if_neg h3, if_neg h4, if_neg h5, if_pos h6, F.fld 6 (by decide)]
    · unfold fX6_count
      rw [yWL, if_neg h0, if_neg h1, if_neg h2, if_neg h3, if_neg h4, if_neg h5, if_pos h6, yG (show ok_in (6 : Int32) 35 = true by decide)]
      exact congrArg (fun z => some (z, wSI μm 0 0 0)) M1.acts
  by_cases h7 : a1 = 7
  · refine ⟨nI (φ 0 1), μ, _, ?_, ?_, yKC.rfl' _, k0⟩
    · unfold fX0_count
      rw [if_neg h0, if_neg h1, if_neg h2, if_neg h3, if_neg h4, if_neg h5, if_neg h6, if_pos h7, F.fld 1 (by decide)]
    · unfold fX6_count
      rw [yWL, if_neg h0, if_neg h1, if_neg h2, if_neg h3, if_neg h4, if_neg h5, if_neg h6, if_pos h7, yG (show ok_in (0 : Int32) 5 = true by decide)]
      exact congrArg (fun z => some (z, wSI μm 0 0 0)) M1.lines
  by_cases h8 : a1 = 8
  · refine ⟨nI n, μ, _, ?_, ?_, yKC.rfl' _, k0⟩
    · unfold fX0_count
      rw [if_neg h0, if_neg h1, if_neg h2, if_neg h3, if_neg h4, if_neg h5, if_neg h6, if_neg h7, if_pos h8, T.2.1]
    · unfold fX6_count
      rw [yWL, if_neg h0, if_neg h1, if_neg h2, if_neg h3, if_neg h4, if_neg h5, if_neg h6, if_neg h7, if_pos h8, yS_get, if_neg (by omega), T.2.2.1]
  by_cases h9 : a1 = 9
  · have lp : ∀ (d M M2 k c : Nat), d < M → d < M2 → k + d = 4 → c ≤ k → ∃ e, gX0_count_141 N hs (fun (x27 : Int32) (μ26 : wMem) => some (x27, μ26)) M (nI c) (nI k) μ = some (nI e, μ) ∧ gX6_count_134 N (fun (x35 : Int32) (μ34 : wMem) => some (x35, μ34)) M2 (nI c) (nI k) (wSI μm 0 0 0) = some (nI e, wSI μm 0 0 0) := by
      intro d
      induction d with
      | zero =>
        intro M M2 k c hM hM2 hk hc
        obtain ⟨M, rfl⟩ : ∃ q, M = q + 1 := ⟨M - 1, by omega⟩
        obtain ⟨M2, rfl⟩ : ∃ q, M2 = q + 1 := ⟨M2 - 1, by omega⟩
        have le : ((4 : Int32) ≤ nI k) = (4 ≤ k) := xI_le (a := 4) (by decide) (by omega)
        refine ⟨c, ?_, ?_⟩
        · show gbX0_count_141 N _ _ _ _ _ _ = _
          unfold gbX0_count_141
          rw [yIf le, if_pos (by omega)]
        · show gbX6_count_134 N _ _ _ _ _ = _
          unfold gbX6_count_134
          rw [yIf le, if_pos (by omega)]
      | succ d ih =>
        intro M M2 k c hM hM2 hk hc
        obtain ⟨M, rfl⟩ : ∃ q, M = q + 1 := ⟨M - 1, by omega⟩
        obtain ⟨M2, rfl⟩ : ∃ q, M2 = q + 1 := ⟨M2 - 1, by omega⟩
        have le : ((4 : Int32) ≤ nI k) = (4 ≤ k) := xI_le (a := 4) (by decide) (by omega)
        have add1 : nI k + (1 : Int32) = nI (k + 1) := nI_add k 1
        have hk4 : k < 4 := by omega
        by_cases q : hs k = true
        · have nq := (hw k hk4).mp q
          have c1 : nI c + (1 : Int32) = nI (c + 1) := nI_add c 1
          obtain ⟨e, j1, j2⟩ := ih M M2 (k + 1) (c + 1) (by omega) (by omega) (by omega) (by omega)
          refine ⟨e, ?_, ?_⟩
          · refine Eq.trans ?_ j1
            show gbX0_count_141 N _ _ _ _ _ _ = _
            unfold gbX0_count_141
            rw [yIf le, if_neg (by omega), yG (xI_in (by omega) (by decide)), xI_cl (by omega), if_pos q, yWL, yWL, c1, add1]
          · refine Eq.trans ?_ j2
            show gbX6_count_134 N _ _ _ _ _ = _
            unfold gbX6_count_134
            rw [yIf le, if_neg (by omega), yG (xI_in (by omega) (by decide)), xI_cl (by omega), yWL, w1, if_neg nq]
            show gX6_count_134 N _ M2 (nI c + 1) (nI k + 1) _ = _
            rw [c1, add1]
        · have nq : μm.1 1 k = -1 := Classical.byContradiction fun z => q ((hw k hk4).mpr z)
          have c0 : nI c + (0 : Int32) = nI (c + 0) := nI_add c 0
          obtain ⟨e, j1, j2⟩ := ih M M2 (k + 1) c (by omega) (by omega) (by omega) (by omega)
          refine ⟨e, ?_, ?_⟩
          · refine Eq.trans ?_ j1
            show gbX0_count_141 N _ _ _ _ _ _ = _
            unfold gbX0_count_141
            rw [yIf le, if_neg (by omega), yG (xI_in (by omega) (by decide)), xI_cl (by omega), if_neg q, yWL, yWL, c0, add1]
            rfl
          · refine Eq.trans ?_ j2
            show gbX6_count_134 N _ _ _ _ _ = _
            unfold gbX6_count_134
            rw [yIf le, if_neg (by omega), yG (xI_in (by omega) (by decide)), xI_cl (by omega), yWL, w1, if_pos nq]
            show gX6_count_134 N _ M2 (nI c + 0) (nI k + 1) _ = _
            rw [c0, add1]
            rfl
    obtain ⟨e, j1, j2⟩ := lp 4 N N 0 0 (by omega) (by omega) (by omega) (by omega)
    refine ⟨nI e, μ, _, ?_, ?_, yKC.rfl' _, k0⟩
    · unfold fX0_count
      rw [if_neg h0, if_neg h1, if_neg h2, if_neg h3, if_neg h4, if_neg h5, if_neg h6, if_neg h7, if_neg h8, if_pos h9]
      exact j1
    · unfold fX6_count
      rw [yWL, if_neg h0, if_neg h1, if_neg h2, if_neg h3, if_neg h4, if_neg h5, if_neg h6, if_neg h7, if_neg h8, if_pos h9]
      exact j2
  · refine ⟨-1, μ, _, ?_, ?_, yKC.rfl' _, k0⟩
    · unfold fX0_count
      rw [if_neg h0, if_neg h1, if_neg h2, if_neg h3, if_neg h4, if_neg h5, if_neg h6, if_neg h7, if_neg h8, if_neg h9]
    · unfold fX6_count
      rw [yWL, if_neg h0, if_neg h1, if_neg h2, if_neg h3, if_neg h4, if_neg h5, if_neg h6, if_neg h7, if_neg h8, if_neg h9]
