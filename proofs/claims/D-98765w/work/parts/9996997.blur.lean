set_option maxRecDepth 100000
/-! part 9996997: blur, looks -/
theorem yKC.set {μ ν : wMem} (h : yKC μ ν) (c i : Nat) (v : Int32) : yKC (wSI μ c i v) (wSI ν c i v) := fun c2 i2 a b => ⟨by rw [yS_get, yS_get, (h c2 i2 a b).1], (h c2 i2 a b).2⟩
theorem yKN.set {μ ν : wMem} (h : yKN μ ν) (c i : Nat) (v : Int32) : yKN (wSI μ c i v) (wSI ν c i v) := fun c2 i2 a b d => ⟨by rw [yS_get, yS_get, (h c2 i2 a b d).1], (h c2 i2 a b d).2⟩
theorem yS_two (μ : wMem) (c i : Nat) (v w : Int32) : wSI (wSI μ c i v) c i w = wSI μ c i w := by
  refine yM_ext (fun c2 i2 => ?_) rfl
  rw [yS_get, yS_get, yS_get]
  by_cases q : c2 = c ∧ i2 = i
  · rw [if_pos q, if_pos q]
  · rw [if_neg q, if_neg q, if_neg q]
theorem yS_same (μ : wMem) (c i : Nat) : wSI μ c i (μ.1 c i) = μ := by
  refine yM_ext (fun c2 i2 => ?_) rfl
  rw [yS_get]
  by_cases q : c2 = c ∧ i2 = i
  · rw [if_pos q, q.1, q.2]
  · rw [if_neg q]
/-- all is as it was but for a post's number, on both sides -/
def yInv (φ : Nat → Nat → Nat) (μ μm : wMem) (k i : Nat) (ν νm : wMem) : Prop :=
  yKC μ (wSI ν (3 + k + 1) i (nI (φ (3 + k) i))) ∧ yKN μm (wSI νm 10 (3 * i + k) (nI (φ (3 + k) i))) ∧ ySn νm
theorem yq_try {φ : Nat → Nat → Nat} {μ μm : wMem} (O : yOk φ) (hl : 0 < φ 0 0) (G : yGo φ) (F : yFC φ μ) (M : yFM φ 0 μm) {N : Nat} (hN : 200000000000000 ≤ N) {k i v : Nat} (hk : (k = 1 ∧ v ≤ 9) ∨ (k = 2 ∧ v ≤ 3)) {ν νm : wMem} (I : yInv φ μ μm k i ν νm) :
    ∃ ν1 νm1, yInv φ μ μm k i ν1 νm1 ∧ ((∃ c, c < 1000000000 ∧ fX0_costNow N 19 (wSI ν (3 + k + 1) i (nI v)) = some (nI c, ν1) ∧ fX6_isHope N (wSI νm 10 (3 * i + k) (nI v)) = some (1, νm1)) ∨ (fX0_costNow N 19 (wSI ν (3 + k + 1) i (nI v)) = some (1000000000, ν1) ∧ fX6_isHope N (wSI νm 10 (3 * i + k) (nI v)) = some (0, νm1))) := by
  obtain ⟨i1, i2, i3⟩ := I
  have F1 := yFC_po (i1.fc F) (r := 3 + k) (i := i) (v := v) (by omega) (by omega)
  have M1 := yFM_po (i2.fm M) (k := k) (i := i) (v := v) (by omega)
  rw [yS_two] at F1 M1
  have O1 : yOk (yPo φ (3 + k) i v) := yPo_ok O (by omega)
  have hl1 : 0 < yPo φ (3 + k) i v 0 0 := by rw [yPo_o φ (by omega)]; exact hl
  obtain ⟨ν1, νm1, k1, k2, k3, r⟩ := yq_hope O1 hl1 (yPo_gw G.w (by omega) (by omega)) F1 M1 (ySn_of i3 fun c j q => by rw [yS_get, if_neg (by omega)]) hN
  refine ⟨ν1, νm1, ⟨?_, ?_, k3⟩, r⟩
  · have := k1.set (3 + k + 1) i (nI (φ (3 + k) i))
    rw [yS_two] at this
    exact i1.trans this
  · have := k2.set 10 (3 * i + k) (nI (φ (3 + k) i))
    rw [yS_two] at this
    exact i2.trans this
theorem yI_3 (i c : Nat) : (3 : Int32) * nI i + nI c = nI (3 * i + c) := by
  have : (3 : Int32) * nI i = nI (3 * i) := xI_mul 3 i
  rw [this, nI_add]
theorem yq_blur_loop {φ : Nat → Nat → Nat} {μ μm : wMem} (O : yOk φ) (hl : 0 < φ 0 0) (G : yGo φ) (F : yFC φ μ) (M0 : yFM φ 0 μm) {N : Nat} (hN : 200000000000000 ≤ N) {i : Nat} (hi : i < φ 0 3) (x6 x7 : Int32) (K K2 : Int32 → wMem → Option (Int32 × wMem)) : ∀ (d M M2 k : Nat) (ν νm : wMem), d < M → d < M2 → k + d = 10 → yInv φ μ μm 1 i ν νm →
    ∃ v ν1 νm1, gX0_blur_26 N (nI i) x6 K M (-1) (nI k) ν = K v ν1 ∧ gX6_blur_32 N (nI i) x7 K2 M2 (-1) (nI k) νm = K2 v νm1 ∧ yInv φ μ μm 1 i ν1 νm1 := by
  have h2 := O.posts
  intro d
  induction d with
  | zero =>
    intro M M2 k ν νm hM hM2 hk I
    obtain ⟨M, rfl⟩ : ∃ q, M = q + 1 := ⟨M - 1, by omega⟩
    obtain ⟨M2, rfl⟩ : ∃ q, M2 = q + 1 := ⟨M2 - 1, by omega⟩
    have e9 : ((9 : Int32) < nI k) = (9 < k) := xI_lt (a := 9) (by decide) (by omega)
    refine ⟨-1, ν, νm, ?_, ?_, I⟩
    · show gbX0_blur_26 N _ _ _ _ _ _ _ = _
      unfold gbX0_blur_26
      rw [yIf e9, if_pos (by omega)]
    · show gbX6_blur_32 N _ _ _ _ _ _ _ = _
      unfold gbX6_blur_32
      rw [yIf e9, if_pos (by omega)]
  | succ d ih =>
    intro M M2 k ν νm hM hM2 hk I
    obtain ⟨M, rfl⟩ : ∃ q, M = q + 2 := ⟨M - 2, by omega⟩
    obtain ⟨M2, rfl⟩ : ∃ q, M2 = q + 2 := ⟨M2 - 2, by omega⟩
    have e9 : ∀ k, k < 100 → ((9 : Int32) < nI k) = (9 < k) := fun k h => xI_lt (a := 9) (by decide) (by omega)
    have km : (nI k = (-1 : Int32)) = False := xI_201 (x := k) (by omega)
    have add1 : nI k + (1 : Int32) = nI (k + 1) := nI_add k 1
    have i31 : (3 : Int32) * nI i + (1 : Int32) = nI (3 * i + 1) := yI_3 i 1
    obtain ⟨ν1, νm1, I1, r⟩ := yq_try O hl G F M0 hN (k := 1) (v := k) (by omega) I
    have fin0 : ∀ (ν : wMem), gX0_blur_26 N (nI i) x6 K (M + 1) (nI k) (nI (k + 1)) ν = K (nI k) ν := fun ν => by
      show gbX0_blur_26 N _ _ _ _ _ _ _ = _
      unfold gbX0_blur_26
      rw [yIf (e9 (k + 1) (by omega)), yIf km, if_neg (fun h => h)]
      split <;> rfl
    have fin6 : ∀ (ν : wMem), gX6_blur_32 N (nI i) x7 K2 (M2 + 1) (nI k) (nI (k + 1)) ν = K2 (nI k) ν := fun ν => by
      show gbX6_blur_32 N _ _ _ _ _ _ _ = _
      unfold gbX6_blur_32
      rw [yIf (e9 (k + 1) (by omega)), yIf km, if_neg (fun h => h)]
      split <;> rfl
    rcases r with ⟨c, hc, h1, h2'⟩ | ⟨h1, h2'⟩
    · replace h1 : fX0_costNow N 19 (wSI ν 5 i (nI k)) = some (nI c, ν1) := h1
      have ec : ((1000000000 : Int32) ≤ nI c) = (1000000000 ≤ c) := xI_le (a := 1000000000) (by decide) (by omega)
      refine ⟨nI k, ν1, νm1, ?_, ?_, I1⟩
      · refine Eq.trans ?_ (fin0 ν1)
        show gbX0_blur_26 N _ _ _ _ _ _ _ = _
        unfold gbX0_blur_26
        rw [yIf (e9 k (by omega)), if_neg (by omega), if_pos rfl, yG (xI_in (by omega) (by decide)), yWL, xI_cl (by omega), h1, yBd, yWL, yIf ec, if_neg (by omega)]
        exact congrArg (fun z => gX0_blur_26 N (nI i) x6 K (M + 1) (nI k) z ν1) add1
      · refine Eq.trans ?_ (fin6 νm1)
        show gbX6_blur_32 N _ _ _ _ _ _ _ = _
        unfold gbX6_blur_32
        rw [yIf (e9 k (by omega)), if_neg (by omega), if_pos rfl, i31, yG (xI_in (by omega) (by decide)), yWL, xI_cl (by omega), h2', yBd, yWL, if_neg (by decide)]
        exact congrArg (fun z => gX6_blur_32 N (nI i) x7 K2 (M2 + 1) (nI k) z νm1) add1
    · replace h1 : fX0_costNow N 19 (wSI ν 5 i (nI k)) = some (1000000000, ν1) := h1
      obtain ⟨v, ν2, νm2, j1, j2, j3⟩ := ih (M + 1) (M2 + 1) (k + 1) ν1 νm1 (by omega) (by omega) (by omega) I1
      refine ⟨v, ν2, νm2, ?_, ?_, j3⟩
      · refine Eq.trans ?_ j1
        show gbX0_blur_26 N _ _ _ _ _ _ _ = _
        unfold gbX0_blur_26
        rw [yIf (e9 k (by omega)), if_neg (by omega), if_pos rfl, yG (xI_in (by omega) (by decide)), yWL, xI_cl (by omega), h1, yBd, yWL, if_pos (by decide)]
        exact congrArg (fun z => gX0_blur_26 N (nI i) x6 K (M + 1) (-1) z ν1) add1
      · refine Eq.trans ?_ j2
        show gbX6_blur_32 N _ _ _ _ _ _ _ = _
        unfold gbX6_blur_32
        rw [yIf (e9 k (by omega)), if_neg (by omega), if_pos rfl, i31, yG (xI_in (by omega) (by decide)), yWL, xI_cl (by omega), h2', yBd, yWL, if_pos rfl]
        exact congrArg (fun z => gX6_blur_32 N (nI i) x7 K2 (M2 + 1) (-1) z νm1) add1
theorem yInv_0 {φ : Nat → Nat → Nat} {μ μm : wMem} (F : yFC φ μ) (M : yFM φ 0 μm) (Q : ySn μm) {k i : Nat} (hk : k = 1 ∨ k = 2) (hi : i < φ 0 3) : yInv φ μ μm k i μ μm := by
  have e1 : μ.1 (3 + k + 1) i = nI (φ (3 + k) i) := by
    rcases hk with h | h
    · subst h; exact F.keen i hi
    · subst h; exact F.looks i hi
  have e2 : μm.1 10 (3 * i + k) = nI (φ (3 + k) i) := by
    rcases hk with h | h
    · subst h; exact M.keen hi
    · subst h; exact M.looks hi
  refine ⟨?_, ?_, Q⟩
  · rw [← e1, yS_same]; exact yKC.rfl' _
  · rw [← e2, yS_same]; exact (yKM.rfl' _).kn
theorem yq_blur {φ : Nat → Nat → Nat} {μ μm : wMem} (O : yOk φ) (hl : 0 < φ 0 3 → 0 < φ 0 0) (G : yGo φ) (F : yFC φ μ) (M : yFM φ 0 μm) (Q : ySn μm) {N : Nat} (hN : 200000000000000 ≤ N) (a1 : Int32) : yBt3 (fX0_blur N a1) (fX6_blur N a1) μ μm := by
  have h2 := O.posts
  have M1 := (yKM_0 μm 0).fm M
  by_cases g : yIs a1 (φ 0 3)
  · obtain ⟨i, hi, rfl⟩ := g.of (by omega)
    have I0 := yInv_0 F M1 (ySn_km Q (yKM_0 μm 0)) (Or.inl rfl) hi
    have i31 : (3 : Int32) * nI i + (1 : Int32) = nI (3 * i + 1) := yI_3 i 1
    obtain ⟨v, ν1, νm1, j1, j2, j3, j4, j5⟩ := yq_blur_loop O (hl (by omega)) G F M1 hN hi (nI (φ 4 i)) (nI (φ 4 i))
      (fun (x19 : Int32) (μ18 : wMem) => wG (ok_in (nI i) 2) (wLet (wSI μ18 5 i (nI (φ 4 i))) fun μ21 => some (x19, μ21)))
      (fun (x20 : Int32) (μ19 : wMem) => wG (ok_in (nI (3 * i + 1)) 30) (wLet (wSI μ19 10 (3 * i + 1) (nI (φ 4 i))) fun μ22 => some (x20, μ22))) 10 N N 0 μ (wSI μm 0 0 0) (by omega) (by omega) (by omega) I0
    refine yBt3.mk' (v := v) (μ1 := wSI ν1 5 i (nI (φ 4 i))) (μm1 := wSI νm1 10 (3 * i + 1) (nI (φ 4 i))) ?_ ?_ j3 ((yKM_0 μm 0).kn.trans j4) (ySn_of j5 fun c j q => by rw [yS_get, if_neg (by omega)])
    · unfold fX0_blur
      rw [yc_isPost O F, yBd, yB1 g, yG (xI_in (by omega) (by decide)), yWL, xI_cl (by omega), F.keen i hi]
      refine j1.trans ?_
      rw [yG (xI_in (by omega) (by decide)), yWL]
    · unfold fX6_blur
      rw [yWL, ym_isPost O M1, yBd, yB1 g, i31, yG (xI_in (by omega) (by decide)), yWL, xI_cl (by omega), M1.keen hi]
      refine j2.trans ?_
      rw [yG (xI_in (by omega) (by decide)), yWL]
  · refine yBt3.mk' (v := -2) (μ1 := μ) (μm1 := wSI μm 0 0 0) ?_ ?_ (yKC.rfl' _) (yKM_0 _ _).kn (ySn_km Q (yKM_0 _ _))
    · unfold fX0_blur
      rw [yc_isPost O F, yBd, yB2 g]
    · unfold fX6_blur
      rw [yWL, ym_isPost O M1, yBd, yB2 g]
