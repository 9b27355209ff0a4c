set_option maxRecDepth 100000
/-! part 9996998: looks -/
theorem yq_looks_loop {φ : Nat → Nat → Nat} {μ μm : wMem} (O : yOk φ) (hl : 0 < φ 0 0) (G : yGo φ) (F : yFC φ μ) (M0 : yFM φ 0 μm) {N : Nat} (hN : 200000000000000 ≤ N) {i : Nat} (hi : i < φ 0 3) (x6 x7 : Int32) (K K2 : Int32 → wMem → Option (Int32 × wMem)) : ∀ (d M M2 : Nat) (ν νm : wMem), d < M → d < M2 → d ≤ 4 → yInv φ μ μm 2 i ν νm →
    ∃ v ν1 νm1, gX0_looks_26 N (nI i) x6 K M (-1) (nI d - 1) ν = K v ν1 ∧ gX6_looks_32 N (nI i) x7 K2 M2 (-1) (nI d - 1) νm = K2 v νm1 ∧ yInv φ μ μm 2 i ν1 νm1 := by
  have h2 := O.posts
  intro d
  induction d with
  | zero =>
    intro M M2 ν νm hM hM2 hk I
    obtain ⟨M, rfl⟩ : ∃ q, M = q + 1 := ⟨M - 1, by omega⟩
    obtain ⟨M2, rfl⟩ : ∃ q, M2 = q + 1 := ⟨M2 - 1, by omega⟩
    refine ⟨-1, ν, νm, ?_, ?_, I⟩
    · show gbX0_looks_26 N _ _ _ _ _ _ _ = _
      unfold gbX0_looks_26
      rw [if_pos (by decide)]
    · show gbX6_looks_32 N _ _ _ _ _ _ _ = _
      unfold gbX6_looks_32
      rw [if_pos (by decide)]
  | succ d ih =>
    intro M M2 ν νm hM hM2 hk I
    obtain ⟨M, rfl⟩ : ∃ q, M = q + 2 := ⟨M - 2, by omega⟩
    obtain ⟨M2, rfl⟩ : ∃ q, M2 = q + 2 := ⟨M2 - 2, by omega⟩
    have es : nI (d + 1) - 1 = nI d := xI_sub (b := 1) (by omega)
    have e0 : (nI d < (0 : Int32)) = (d < 0) := xI_lt (b := 0) (by omega) (by decide)
    have km : (nI d = (-1 : Int32)) = False := xI_201 (x := d) (by omega)
    have dec : ∀ d, d ≤ 3 → nI d + (-1 : Int32) = nI d - 1 := by decide
    have add1 := dec d (by omega)
    have i31 : (3 : Int32) * nI i + (2 : Int32) = nI (3 * i + 2) := yI_3 i 2
    obtain ⟨ν1, νm1, I1, r⟩ := yq_try O hl G F M0 hN (k := 2) (v := d) (by omega) I
    rw [es]
    have fin0 : ∀ (ν : wMem), gX0_looks_26 N (nI i) x6 K (M + 1) (nI d) (nI d - 1) ν = K (nI d) ν := fun ν => by
      show gbX0_looks_26 N _ _ _ _ _ _ _ = _
      unfold gbX0_looks_26
      rw [yIf km, if_neg (fun h => h)]
      split <;> rfl
    have fin6 : ∀ (ν : wMem), gX6_looks_32 N (nI i) x7 K2 (M2 + 1) (nI d) (nI d - 1) ν = K2 (nI d) ν := fun ν => by
      show gbX6_looks_32 N _ _ _ _ _ _ _ = _
      unfold gbX6_looks_32
      rw [yIf km, if_neg (fun h => h)]
      split <;> rfl
    rcases r with ⟨c, hc, h1, h2'⟩ | ⟨h1, h2'⟩
    · replace h1 : fX0_costNow N 19 (wSI ν 6 i (nI d)) = some (nI c, ν1) := h1
      have ec : ((1000000000 : Int32) ≤ nI c) = (1000000000 ≤ c) := xI_le (a := 1000000000) (by decide) (by omega)
      refine ⟨nI d, ν1, νm1, ?_, ?_, I1⟩
      · refine Eq.trans ?_ (fin0 ν1)
        show gbX0_looks_26 N _ _ _ _ _ _ _ = _
        unfold gbX0_looks_26
        rw [yIf e0, if_neg (by omega), if_pos rfl, yG (xI_in (by omega) (by decide)), yWL, xI_cl (by omega), h1, yBd, yWL, yIf ec, if_neg (by omega), add1]
        rfl
      · refine Eq.trans ?_ (fin6 νm1)
        show gbX6_looks_32 N _ _ _ _ _ _ _ = _
        unfold gbX6_looks_32
        rw [yIf e0, if_neg (by omega), if_pos rfl, i31, yG (xI_in (by omega) (by decide)), yWL, xI_cl (by omega), h2', yBd, yWL, if_neg (by decide), add1]
        rfl
    · replace h1 : fX0_costNow N 19 (wSI ν 6 i (nI d)) = some (1000000000, ν1) := h1
      obtain ⟨v, ν2, νm2, j1, j2, j3⟩ := ih (M + 1) (M2 + 1) ν1 νm1 (by omega) (by omega) (by omega) I1
      refine ⟨v, ν2, νm2, ?_, ?_, j3⟩
      · refine Eq.trans ?_ j1
        show gbX0_looks_26 N _ _ _ _ _ _ _ = _
        unfold gbX0_looks_26
        rw [yIf e0, if_neg (by omega), if_pos rfl, yG (xI_in (by omega) (by decide)), yWL, xI_cl (by omega), h1, yBd, yWL, if_pos (by decide), add1]
        rfl
      · refine Eq.trans ?_ j2
        show gbX6_looks_32 N _ _ _ _ _ _ _ = _
        unfold gbX6_looks_32
        rw [yIf e0, if_neg (by omega), if_pos rfl, i31, yG (xI_in (by omega) (by decide)), yWL, xI_cl (by omega), h2', yBd, yWL, if_pos rfl, add1]
        rfl
theorem yq_looks {φ : Nat → Nat → Nat} {μ μm : wMem} (O : yOk φ) (hl : 0 < φ 0 3 → 0 < φ 0 0) (G : yGo φ) (F : yFC φ μ) (M : yFM φ 0 μm) (Q : ySn μm) {N : Nat} (hN : 200000000000000 ≤ N) (a1 : Int32) : yBt3 (fX0_looks N a1) (fX6_looks N a1) μ μm := by
  have h2 := O.posts
  have M1 := (yKM_0 μm 0).fm M
  by_cases g : yIs a1 (φ 0 3)
  · obtain ⟨i, hi, rfl⟩ := g.of (by omega)
    have I0 := yInv_0 F M1 (ySn_km Q (yKM_0 μm 0)) (Or.inr rfl) hi
    have i31 : (3 : Int32) * nI i + (2 : Int32) = nI (3 * i + 2) := yI_3 i 2
    obtain ⟨v, ν1, νm1, j1, j2, j3, j4, j5⟩ := yq_looks_loop O (hl (by omega)) G F M1 hN hi (nI (φ 5 i)) (nI (φ 5 i))
      (fun (x19 : Int32) (μ18 : wMem) => wG (ok_in (nI i) 2) (wLet (wSI μ18 6 i (nI (φ 5 i))) fun μ21 => some (x19, μ21)))
      (fun (x20 : Int32) (μ19 : wMem) => wG (ok_in (nI (3 * i + 2)) 30) (wLet (wSI μ19 10 (3 * i + 2) (nI (φ 5 i))) fun μ22 => some (x20, μ22))) 4 N N μ (wSI μm 0 0 0) (by omega) (by omega) (by omega) I0
    refine yBt3.mk' (v := v) (μ1 := wSI ν1 6 i (nI (φ 5 i))) (μm1 := wSI νm1 10 (3 * i + 2) (nI (φ 5 i))) ?_ ?_ j3 ((yKM_0 μm 0).kn.trans j4) (ySn_of j5 fun c j q => by rw [yS_get, if_neg (by omega)])
    · unfold fX0_looks
      rw [yc_isPost O F, yBd, yB1 g, yG (xI_in (by omega) (by decide)), yWL, xI_cl (by omega), F.looks i hi]
      refine j1.trans ?_
      rw [yG (xI_in (by omega) (by decide)), yWL]
    · unfold fX6_looks
      rw [yWL, ym_isPost O M1, yBd, yB1 g, i31, yG (xI_in (by omega) (by decide)), yWL, xI_cl (by omega), M1.looks hi]
      refine j2.trans ?_
      rw [yG (xI_in (by omega) (by decide)), yWL]
  · refine yBt3.mk' (v := -2) (μ1 := μ) (μm1 := wSI μm 0 0 0) ?_ ?_ (yKC.rfl' _) (yKM_0 _ _).kn (ySn_km Q (yKM_0 _ _))
    · unfold fX0_looks
      rw [yc_isPost O F, yBd, yB2 g]
    · unfold fX6_looks
      rw [yWL, ym_isPost O M1, yBd, yB2 g]
