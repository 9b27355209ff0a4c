set_option maxRecDepth 100000
/-! part 99970: alone, grow, guard, stay -/
theorem yq_alone {φ : Nat → Nat → Nat} {μ μm : wMem} (O : yOk φ) (F : yFC φ μ) (M : yFM φ 0 μm) (N : Nat) (a1 a2 : Int32) : yBth (fX0_alone N a1 a2) (fX6_alone N a1 a2) μ μm := by
  have h2 := O.posts
  have M1 := (yKM_0 μm 0).fm M
  by_cases g : yIs a1 (φ 0 3)
  · obtain ⟨i, hi, rfl⟩ := g.of (by omega)
    by_cases w : (0 : Int64).toInt ≤ a2.toInt ∧ a2.toInt ≤ (12 : Int64).toInt
    · have hk := O.looks i hi
      have i32 : (3 : Int32) * nI i + (2 : Int32) = nI (3 * i + 2) := yI_3 i 2
      refine ⟨if (2 : Int32) ≤ a2 then (if nI (φ 5 i) ≤ 0 then a2 - 1 else -1) else 0, μ, wSI μm 0 0 0, ?_, ?_, yKC.rfl' _, yKM_0 _ _⟩
      · unfold fX0_alone
        rw [yc_isPost O F, yBd, yWL, yB1 g, yc_rng, yBd, yB1 w, yG (xI_in (by omega) (by decide)), xI_cl (by omega), F.looks i hi]
        split
        · split <;> rfl
        · rfl
      · unfold fX6_alone
        rw [yWL, ym_isPost O M1, yBd, yWL, yB1 g, ym_rng, yBd, yB1 w, i32, yG (xI_in (by omega) (by decide)), xI_cl (by omega), M1.looks hi]
        split
        · split <;> rfl
        · rfl
    · refine ⟨-2, μ, wSI μm 0 0 0, ?_, ?_, yKC.rfl' _, yKM_0 _ _⟩
      · unfold fX0_alone
        rw [yc_isPost O F, yBd, yWL, yB1 g, yc_rng, yBd, yB2 w]
      · unfold fX6_alone
        rw [yWL, ym_isPost O M1, yBd, yWL, yB1 g, ym_rng, yBd, yB2 w]
  · refine ⟨-2, μ, wSI μm 0 0 0, ?_, ?_, yKC.rfl' _, yKM_0 _ _⟩
    · unfold fX0_alone
      rw [yc_isPost O F, yBd, yWL, yB2 g]
    · unfold fX6_alone
      rw [yWL, ym_isPost O M1, yBd, yWL, yB2 g]
/-- all but scratch and the family is as it was -/
def yKCf (μ ν : wMem) : Prop := ∀ c i, (c = 0 → i < 5) → (c = 0 ∨ c = 8 ∨ 21 < c) → ν.1 c i = μ.1 c i ∧ ν.2 c i = μ.2 c i
def yKMf (μ ν : wMem) : Prop := ∀ c i, (c = 0 → i = 6 ∨ i = 14 ∨ i = 15) → c ≠ 4 → (c < 13 ∨ 22 < c) → (c = 6 → 1 ≤ i) → (c = 7 → 7 ≤ i) → (c = 8 → 6 ≤ i) → (c = 9 → 6 ≤ i) → (c = 10 → 6 ≤ i) → (c = 11 → 40 ≤ i) → ν.1 c i = μ.1 c i ∧ ν.2 c i = μ.2 c i
theorem yKC.f {μ ν : wMem} (h : yKC μ ν) : yKCf μ ν := fun c i a b => h c i a (by omega)
theorem yKN.f {μ ν : wMem} (h : yKN μ ν) : yKMf μ ν := fun c i a b d _ _ _ _ _ _ => h c i a b d
theorem yKM1.f {μ ν : wMem} (h : yKM1 μ ν) : yKMf μ ν := fun c i a b d _ e7 _ _ _ e11 => h c i (by omega) b (by omega) (by omega) (by omega)
theorem yKC1.f {μ ν : wMem} (h : yKC1 μ ν) : yKCf μ ν := fun c i a b => h c i a (by omega) (by omega) (by omega)
/-- both answer the same; another family with the same loaf, lines, persons and posts is behind -/
def yBt4 (f g : wMem → Option (Int32 × wMem)) (φ : Nat → Nat → Nat) (μ μm : wMem) : Prop :=
  ∃ v μ1 μm1 ψ, f μ = some (v, μ1) ∧ g μm = some (v, μm1) ∧ yKCf μ μ1 ∧ yKMf μm μm1 ∧ ySn μm1 ∧ yFC ψ μ1 ∧ yFM ψ 0 μm1 ∧ yOk ψ ∧ yGo ψ ∧ ∀ j, j < 4 → ψ 0 j = φ 0 j
theorem yBt3.four {f g : wMem → Option (Int32 × wMem)} {φ : Nat → Nat → Nat} {μ μm : wMem} (O : yOk φ) (G : yGo φ) (F : yFC φ μ) (M : yFM φ 0 μm) (h : yBt3 f g μ μm) : yBt4 f g φ μ μm := by
  obtain ⟨v, μ1, μm1, h1, h2, h3, h4, h5⟩ := h
  exact ⟨v, μ1, μm1, φ, h1, h2, h3.f, h4.f, h5, h3.fc F, h4.fm M, O, G, fun _ _ => rfl⟩
theorem yBth.four {f g : wMem → Option (Int32 × wMem)} {φ : Nat → Nat → Nat} {μ μm : wMem} (O : yOk φ) (G : yGo φ) (F : yFC φ μ) (M : yFM φ 0 μm) (Q : ySn μm) (h : yBth f g μ μm) : yBt4 f g φ μ μm := (h.three Q).four O G F M
theorem yKMf_0 (μ : wMem) (v : Int32) : yKMf μ (wSI μ 0 0 v) := (yKM_0 μ v).kn.f
theorem yKMf.trans {μ ν ρ : wMem} (h : yKMf μ ν) (g : yKMf ν ρ) : yKMf μ ρ := fun c i a b d e1 e2 e3 e4 e5 e6 => ⟨(g c i a b d e1 e2 e3 e4 e5 e6).1.trans (h c i a b d e1 e2 e3 e4 e5 e6).1, (g c i a b d e1 e2 e3 e4 e5 e6).2.trans (h c i a b d e1 e2 e3 e4 e5 e6).2⟩
theorem yKCf_s (μ : wMem) {c i : Nat} (v : Int32) (h : 0 < c) (h7 : c < 8) : yKCf μ (wSI μ c i v) := fun c2 i2 a b => ⟨by rw [yS_get, if_neg (by omega)], rfl⟩
theorem yKMf_s (μ : wMem) {c i : Nat} (v : Int32) (h : (c = 8 ∧ i < 6) ∨ (c = 10 ∧ i < 6) ∨ (c = 7 ∧ i < 7)) : yKMf μ (wSI μ c i v) := fun c2 i2 a b d e1 e2 e3 e4 e5 e6 => ⟨by rw [yS_get, if_neg (by omega)], rfl⟩
theorem yI_100 {a : Int32} (w : (0 : Int64).toInt ≤ a.toInt ∧ a.toInt ≤ (100 : Int64).toInt) : ∃ v, v ≤ 100 ∧ a = nI v := by
  have h1 := w.1
  have h2 := w.2
  rw [show (0 : Int64).toInt = 0 by decide] at h1
  rw [show (100 : Int64).toInt = 100 by decide] at h2
  refine ⟨a.toInt.toNat, by omega, ?_⟩
  apply Int32.toInt_inj.mp
  rw [nI_toInt (by omega)]
  omega
theorem yq_grow {φ : Nat → Nat → Nat} {μ μm : wMem} (O : yOk φ) (G : yGo φ) (F : yFC φ μ) (M : yFM φ 0 μm) (Q : ySn μm) (N : Nat) (a1 a2 : Int32) : yBt4 (fX0_grow N a1 a2) (fX6_grow N a1 a2) φ μ μm := by
  have h6 := O.persons
  have M1 := (yKM_0 μm 0).fm M
  have Q1 := ySn_km Q (yKM_0 μm 0)
  by_cases g : yIs a1 (φ 0 2)
  · obtain ⟨i, hi, rfl⟩ := g.of (by omega)
    by_cases w : (0 : Int64).toInt ≤ a2.toInt ∧ a2.toInt ≤ (100 : Int64).toInt
    · obtain ⟨v, hv, rfl⟩ := yI_100 w
      refine ⟨nI (φ 1 i), wSI μ 2 i (nI v), wSI (wSI μm 0 0 0) 8 i (nI v), yPo φ 1 i v, ?_, ?_, yKCf_s μ _ (by decide) (by decide), (yKMf_0 μm 0).trans (yKMf_s _ _ (Or.inl ⟨rfl, by omega⟩)), ySn_of Q1 fun c j q => by rw [yS_get, if_neg (by omega)], yFC_po F (by decide) (by decide), yFM_po1 M1, yPo_ok O (by omega), yPo_go G (by omega), fun j _ => yPo_o φ (by decide)⟩
      · unfold fX0_grow
        rw [yc_isPerson O F, yBd, yWL, yB1 g, yc_rng, yBd, yB1 w, yG (xI_in (by omega) (by decide)), yWL, yG (xI_in (by omega) (by decide)), yWL, xI_cl (by omega), F.like i hi]
      · unfold fX6_grow
        rw [yWL, ym_isPerson O M1, yBd, yWL, yB1 g, ym_rng, yBd, yB1 w, yG (xI_in (by omega) (by decide)), yWL, yG (xI_in (by omega) (by decide)), yWL, xI_cl (by omega), M1.like hi]
    · refine yBth.four O G F M Q ⟨-2, μ, wSI μm 0 0 0, ?_, ?_, yKC.rfl' _, yKM_0 _ _⟩
      · unfold fX0_grow
        rw [yc_isPerson O F, yBd, yWL, yB1 g, yc_rng, yBd, yB2 w]
      · unfold fX6_grow
        rw [yWL, ym_isPerson O M1, yBd, yWL, yB1 g, ym_rng, yBd, yB2 w]
  · refine yBth.four O G F M Q ⟨-2, μ, wSI μm 0 0 0, ?_, ?_, yKC.rfl' _, yKM_0 _ _⟩
    · unfold fX0_grow
      rw [yc_isPerson O F, yBd, yWL, yB2 g]
    · unfold fX6_grow
      rw [yWL, ym_isPerson O M1, yBd, yWL, yB2 g]
theorem yq_guard {φ : Nat → Nat → Nat} {μ μm : wMem} (O : yOk φ) (G : yGo φ) (F : yFC φ μ) (M : yFM φ 0 μm) (Q : ySn μm) (N : Nat) (a1 a2 : Int32) : yBt4 (fX0_guard N a1 a2) (fX6_guard N a1 a2) φ μ μm := by
  have h2 := O.posts
  have M1 := (yKM_0 μm 0).fm M
  have Q1 := ySn_km Q (yKM_0 μm 0)
  by_cases g : yIs a1 (φ 0 3)
  · obtain ⟨i, hi, rfl⟩ := g.of (by omega)
    have i30 : (3 : Int32) * nI i = nI (3 * i) := xI_mul 3 i
    by_cases w : (0 : Int64).toInt ≤ a2.toInt ∧ a2.toInt ≤ (100 : Int64).toInt
    · obtain ⟨v, hv, rfl⟩ := yI_100 w
      refine ⟨nI (φ 3 i), wSI μ 4 i (nI v), wSI (wSI μm 0 0 0) 10 (3 * i) (nI v), yPo φ 3 i v, ?_, ?_, yKCf_s μ _ (by decide) (by decide), (yKMf_0 μm 0).trans (yKMf_s _ _ (Or.inr (Or.inl ⟨rfl, by omega⟩))), ySn_of Q1 fun c j q => by rw [yS_get, if_neg (by omega)], yFC_po F (by decide) (by decide), yFM_po M1 (k := 0) (by decide), yPo_ok O (by omega), yPo_go G (by omega), fun j _ => yPo_o φ (by decide)⟩
      · unfold fX0_guard
        rw [yc_isPost O F, yBd, yWL, yB1 g, yc_rng, yBd, yB1 w, yG (xI_in (by omega) (by decide)), yWL, yG (xI_in (by omega) (by decide)), yWL, xI_cl (by omega), F.strict i hi]
      · unfold fX6_guard
        rw [yWL, ym_isPost O M1, yBd, yWL, yB1 g, ym_rng, yBd, yB1 w, i30, yG (xI_in (by omega) (by decide)), yWL, yG (xI_in (by omega) (by decide)), yWL, xI_cl (by omega), M1.strict hi]
    · refine yBth.four O G F M Q ⟨-2, μ, wSI μm 0 0 0, ?_, ?_, yKC.rfl' _, yKM_0 _ _⟩
      · unfold fX0_guard
        rw [yc_isPost O F, yBd, yWL, yB1 g, yc_rng, yBd, yB2 w]
      · unfold fX6_guard
        rw [yWL, ym_isPost O M1, yBd, yWL, yB1 g, ym_rng, yBd, yB2 w]
  · refine yBth.four O G F M Q ⟨-2, μ, wSI μm 0 0 0, ?_, ?_, yKC.rfl' _, yKM_0 _ _⟩
    · unfold fX0_guard
      rw [yc_isPost O F, yBd, yWL, yB2 g]
    · unfold fX6_guard
      rw [yWL, ym_isPost O M1, yBd, yWL, yB2 g]
def yStv (s p b : Nat) : Nat := s - s / 2 ^ p % 2 * 2 ^ p + b * 2 ^ p
theorem yStv_e : ∀ s, s < 64 → ∀ p, p < 6 → ∀ b, b < 2 → ((nI s) &&& (((1 : Int32) <<< (nI p &&& 31)) ^^^ (-1 : Int32))) ||| (nI b <<< (nI p &&& 31)) = nI (yStv s p b) ∧ yStv s p b < 64 := by decide +kernel
theorem yq_stay {φ : Nat → Nat → Nat} {μ μm : wMem} (O : yOk φ) (G : yGo φ) (F : yFC φ μ) (M : yFM φ 0 μm) (Q : ySn μm) (N : Nat) (a1 a2 : Int32) : yBt4 (fX0_stay N a1 a2) (fX6_stay N a1 a2) φ μ μm := by
  have h6 := O.persons
  have M1 := (yKM_0 μm 0).fm M
  have Q1 := ySn_km Q (yKM_0 μm 0)
  have i0 : ∀ μ, fX0_isOneOf N a2 2 μ = some (yB (decide (yIs a2 2)), μ) := fun μ => yc_oneOf a2 2 (by decide) N μ
  have i6 : ∀ μ, fX6_in N a2.toInt64 0 1 μ = some (yB (decide (yIs a2 2)), μ) := fun μ => ym_in a2 (n := 2) (by decide) N μ
  by_cases g : yIs a1 (φ 0 2)
  · obtain ⟨p, hp, rfl⟩ := g.of (by omega)
    by_cases w : yIs a2 2
    · obtain ⟨b, hb, rfl⟩ := w.of (by decide)
      obtain ⟨se, sl⟩ := yStv_e (φ 0 5) O.stay p (by omega) b hb
      have f5 : μ.1 1 5 = nI (φ 0 5) := F.fld 5 (by decide)
      have m5 : (wSI μm 0 0 0).1 7 (Int32.toNatClampNeg (5 : Int32)) = nI (φ 0 5) := M1.stay
      have e : ∀ c j, (c = 0 → j ≠ 5) → yPo φ 0 5 (yStv (φ 0 5) p b) c j = φ c j := fun c j h => if_neg (fun q => h q.1 q.2)
      have ed : ∀ σ a, yDo (yPo φ 0 5 (yStv (φ 0 5) p b)) σ a = yDo φ σ a := fun σ a => by unfold yDo; rw [e 0 7 (by omega)]
      have el : ∀ n, yLay (yPo φ 0 5 (yStv (φ 0 5) p b)) n = yLay φ n := fun n => by
        induction n with
        | zero => rfl
        | succ n ih =>
          show yDo (yPo φ 0 5 (yStv (φ 0 5) p b)) (yLay (yPo φ 0 5 (yStv (φ 0 5) p b)) n) (yPo φ 0 5 (yStv (φ 0 5) p b) 6 n) = _
          rw [ih, ed, e 6 n (by omega)]
          rfl
      refine ⟨((nI (φ 0 5)) >>> (nI p &&& 31)) &&& (1 : Int32), wSI μ 1 5 (nI (yStv (φ 0 5) p b)), wSI (wSI μm 0 0 0) 7 5 (nI (yStv (φ 0 5) p b)), yPo φ 0 5 (yStv (φ 0 5) p b), ?_, ?_, yKCf_s μ _ (by decide) (by decide), (yKMf_0 μm 0).trans (yKMf_s _ _ (Or.inr (Or.inr ⟨rfl, by decide⟩))), ySn_of Q1 fun c j q => by rw [yS_get, if_neg (by omega)], ?_, ?_, ?_, ?_, fun j hj => e 0 j (by omega)⟩
      · unfold fX0_stay
        rw [yc_isPerson O F, yBd, yWL, yB1 g, i0, yBd, yB1 w, yWL, yWL, f5, se]
      · unfold fX6_stay
        rw [yWL, ym_isPerson O M1, yBd, yWL, yB1 g, i6, yBd, yB1 w, yG (show ok_in (5 : Int32) 35 = true by decide), yWL, yG (show ok_in (5 : Int32) 35 = true by decide), yG (show ok_in (5 : Int32) 35 = true by decide), yWL, m5, se]
        rfl
      · obtain ⟨f0, f1, f2, f3, f4, f6, f7⟩ := F
        refine ⟨fun j hj => ?_, ?_, ?_, ?_, ?_, ?_, ?_⟩
        · by_cases q : j = 5
          · rw [q, yS_get, if_pos ⟨rfl, rfl⟩, yPo_s]
          · rw [yS_get, if_neg (fun y => q y.2), e 0 j (fun _ => q)]; exact f0 j hj
        all_goals (intro j hj; rw [e 0 _ (by omega)] at hj; rw [yS_get, if_neg (by omega), e _ _ (by omega)])
        · exact f1 j hj
        · exact f2 j hj
        · exact f3 j hj
        · exact f4 j hj
        · exact f6 j hj
        · exact f7 j hj
      · obtain ⟨f0, f1, f2, f3, f4⟩ := M1
        obtain ⟨g0, g1, g2, g3, g4, g5, g6, g7⟩ := f0
        have o : ∀ c j, (c = 7 → j ≠ 5) → (wSI (wSI μm 0 0 0) 7 5 (nI (yStv (φ 0 5) p b))).1 c j = (wSI μm 0 0 0).1 c j := fun c j h => by rw [yS_get, if_neg (fun q => h q.1 q.2)]
        refine ⟨⟨?_, ?_, ?_, ?_, ?_, ?_, ?_, ?_⟩, ?_, ?_, ?_, ?_⟩
        · rw [o _ _ (by omega), e _ _ (by omega)]; exact g0
        · rw [o _ _ (by omega), e _ _ (by omega)]; exact g1
        · rw [o _ _ (by omega), e _ _ (by omega)]; exact g2
        · rw [o _ _ (by omega), e _ _ (by omega)]; exact g3
        · rw [o _ _ (by omega), e _ _ (by omega)]; exact g4
        · rw [yS_get, if_pos ⟨rfl, rfl⟩, yPo_s]
        · rw [o _ _ (by omega), e _ _ (by omega)]; exact g6
        · rw [o _ _ (by omega), e _ _ (by omega)]; exact g7
        · intro j hj; rw [e 0 _ (by omega)] at hj; rw [o _ _ (by omega), e _ _ (by omega)]; exact f1 j hj
        · intro j hj; rw [e 0 _ (by omega)] at hj; rw [o _ _ (by omega), e _ _ (by omega)]; exact f2 j hj
        · intro j hj
          rw [e 0 _ (by omega)] at hj
          rw [o _ _ (by omega), o _ _ (by omega), o _ _ (by omega), e 3 _ (by omega), e 4 _ (by omega), e 5 _ (by omega)]
          exact f3 j hj
        · intro j hj; rw [e 0 _ (by omega)] at hj; rw [o _ _ (by omega), e _ _ (by omega)]; exact f4 j hj
      · obtain ⟨o0, o1, o2, o3, o4, o5, o6, o7, o8, o9, o10, o11, o12⟩ := O
        refine ⟨?_, ?_, ?_, ?_, ?_, ?_, ?_, ?_, ?_, ?_, ?_, ?_, ?_⟩
        · rw [e _ _ (by omega)]; exact o0
        · rw [e _ _ (by omega)]; exact o1
        · rw [e _ _ (by omega)]; exact o2
        · rw [e _ _ (by omega)]; exact o3
        · rw [e _ _ (by omega)]; exact o4
        · rw [yPo_s]; exact sl
        · rw [e _ _ (by omega)]; exact o6
        · rw [e _ _ (by omega)]; exact o7
        all_goals (intro j hj; rw [e 0 _ (by omega)] at hj; rw [e _ _ (by omega)])
        · exact o8 j hj
        · exact o9 j hj
        · exact o10 j hj
        · exact o11 j hj
        · exact o12 j hj
      · intro j hj
        rw [e 0 6 (by omega)] at hj
        have ga := G j hj
        have ea : ∀ a, yAct (yPo φ 0 5 (yStv (φ 0 5) p b)) a = yAct φ a := fun a => by unfold yAct; rw [e 0 2 (by omega), e 0 3 (by omega)]
        have eb : ∀ z q k, yBeh (yPo φ 0 5 (yStv (φ 0 5) p b)) z q k = yBeh φ z q k := fun z q k => by
          unfold yBeh
          rw [e 2 (z - 1) (by omega), e 2 q (by omega), e 4 k (by omega)]
        have ec : ∀ σ a, yCan (yPo φ 0 5 (yStv (φ 0 5) p b)) σ a = yCan φ σ a := fun σ a => by
          unfold yCan yWhy
          rw [eb, e 0 4 (by omega), e 5 (a / 100) (by omega)]
        rw [e 6 j (by omega), ea, el, ec]
        exact ga
    · refine yBth.four O G F M Q ⟨-2, μ, wSI μm 0 0 0, ?_, ?_, yKC.rfl' _, yKM_0 _ _⟩
      · unfold fX0_stay
        rw [yc_isPerson O F, yBd, yWL, yB1 g, i0, yBd, yB2 w]
      · unfold fX6_stay
        rw [yWL, ym_isPerson O M1, yBd, yWL, yB1 g, i6, yBd, yB2 w]
  · refine yBth.four O G F M Q ⟨-2, μ, wSI μm 0 0 0, ?_, ?_, yKC.rfl' _, yKM_0 _ _⟩
    · unfold fX0_stay
      rw [yc_isPerson O F, yBd, yWL, yB2 g]
    · unfold fX6_stay
      rw [yWL, ym_isPerson O M1, yBd, yWL, yB2 g]
