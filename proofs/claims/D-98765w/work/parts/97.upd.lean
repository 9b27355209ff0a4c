set_option maxRecDepth 100000
/-! part 97: families that differ in their acts alone; undo, anew -/
def yAlk (φ ψ : Nat → Nat → Nat) : Prop := ∀ c i, c ≠ 6 → (c = 0 → i ≠ 6) → ψ c i = φ c i
theorem yAlk.beh {φ ψ : Nat → Nat → Nat} (h : yAlk φ ψ) (z p k : Nat) : yBeh ψ z p k = yBeh φ z p k := by
  unfold yBeh
  rw [h 2 (z - 1) (by decide) (by simp), h 2 p (by decide) (by simp), h 4 k (by decide) (by simp)]
theorem yAlk.why {φ ψ : Nat → Nat → Nat} (h : yAlk φ ψ) (σ : ySt) (p c k : Nat) : yWhy ψ σ p c k = yWhy φ σ p c k := by
  unfold yWhy
  rw [h.beh, h 0 4 (by decide) (by simp), h 5 k (by decide) (by simp)]
theorem yAlk.can {φ ψ : Nat → Nat → Nat} (h : yAlk φ ψ) (σ : ySt) (a : Nat) : yCan ψ σ a = yCan φ σ a := by
  unfold yCan
  rw [h.why]
theorem yAlk.do {φ ψ : Nat → Nat → Nat} (h : yAlk φ ψ) (σ : ySt) (a : Nat) : yDo ψ σ a = yDo φ σ a := by
  unfold yDo
  rw [h 0 7 (by decide) (by simp)]
theorem yAlk.act {φ ψ : Nat → Nat → Nat} (h : yAlk φ ψ) (a : Nat) : yAct ψ a = yAct φ a := by
  unfold yAct
  rw [h 0 2 (by decide) (by simp), h 0 3 (by decide) (by simp)]
theorem yAlk.ok {φ ψ : Nat → Nat → Nat} (h : yAlk φ ψ) (O : yOk φ) (hn : ψ 0 6 ≤ 40) : yOk ψ := by
  have e : ∀ i, i ≠ 6 → ψ 0 i = φ 0 i := fun i hi => h 0 i (by decide) (fun _ => hi)
  refine ⟨by rw [e 0 (by decide)]; exact O.loaf, by rw [e 1 (by decide)]; exact O.lines, by rw [e 2 (by decide)]; exact O.persons, by rw [e 3 (by decide)]; exact O.posts,
    by rw [e 4 (by decide)]; exact O.children, by rw [e 5 (by decide)]; exact O.stay, hn, by rw [e 7 (by decide)]; exact O.compares, ?_, ?_, ?_, ?_, ?_⟩
  · intro i hi; rw [e 2 (by decide)] at hi; rw [h 1 i (by decide) (by simp)]; exact O.like i hi
  · intro i hi; rw [e 2 (by decide)] at hi; rw [h 2 i (by decide) (by simp)]; exact O.nose i hi
  · intro i hi; rw [e 3 (by decide)] at hi; rw [h 3 i (by decide) (by simp)]; exact O.strict i hi
  · intro i hi; rw [e 3 (by decide)] at hi; rw [h 4 i (by decide) (by simp)]; exact O.keen i hi
  · intro i hi; rw [e 3 (by decide)] at hi; rw [h 5 i (by decide) (by simp)]; exact O.looks i hi
theorem yAlk.lay {φ ψ : Nat → Nat → Nat} (h : yAlk φ ψ) : ∀ n, (∀ i, i < n → ψ 6 i = φ 6 i) → yLay ψ n = yLay φ n
  | 0, _ => rfl
  | n + 1, g => by
    show yDo ψ (yLay ψ n) (ψ 6 n) = yDo φ (yLay φ n) (φ 6 n)
    rw [yAlk.lay h n (fun i hi => g i (by omega)), g n (by omega), h.do]
theorem yAlk.sok {φ ψ : Nat → Nat → Nat} (h : yAlk φ ψ) {σ : ySt} (S : ySok φ σ) : ySok ψ σ := by
  have e : ψ 0 2 = φ 0 2 := h 0 2 (by decide) (by simp)
  exact ⟨by rw [e]; exact S.ov, S.sd, by rw [e]; exact S.z0, by rw [e]; exact S.z1, S.mk0, S.mk1⟩
def yCut (φ : Nat → Nat → Nat) (n : Nat) : Nat → Nat → Nat := fun c i => if c = 0 ∧ i = 6 then n else φ c i
def yAdd (φ : Nat → Nat → Nat) (a : Nat) : Nat → Nat → Nat := fun c i => if c = 0 ∧ i = 6 then φ 0 6 + 1 else if c = 6 ∧ i = φ 0 6 then a else φ c i
theorem yCut_alk (φ : Nat → Nat → Nat) (n : Nat) : yAlk φ (yCut φ n) := fun c i _ h0 => by
  unfold yCut
  rw [if_neg (fun h => h0 h.1 h.2)]
theorem yAdd_alk (φ : Nat → Nat → Nat) (a : Nat) : yAlk φ (yAdd φ a) := fun c i h6 h0 => by
  unfold yAdd
  rw [if_neg (fun h => h0 h.1 h.2), if_neg (fun h => h6 h.1)]
theorem yCut_n (φ : Nat → Nat → Nat) (n : Nat) : yCut φ n 0 6 = n := rfl
theorem yAdd_n (φ : Nat → Nat → Nat) (a : Nat) : yAdd φ a 0 6 = φ 0 6 + 1 := rfl
theorem yCut_6 (φ : Nat → Nat → Nat) (n i : Nat) : yCut φ n 6 i = φ 6 i := rfl
theorem yAdd_6 (φ : Nat → Nat → Nat) (a i : Nat) : yAdd φ a 6 i = if i = φ 0 6 then a else φ 6 i := by
  unfold yAdd
  simp
theorem yCut_go {φ : Nat → Nat → Nat} (G : yGo φ) {n : Nat} (hn : n ≤ φ 0 6) : yGo (yCut φ n) := fun i hi => by
  have hi' : i < n := hi
  obtain ⟨h1, h2⟩ := G i (by omega)
  rw [yCut_6, (yCut_alk φ n).act, (yCut_alk φ n).can, (yCut_alk φ n).lay i (fun j _ => rfl)]
  exact ⟨h1, h2⟩
theorem yAdd_go {φ : Nat → Nat → Nat} (G : yGo φ) {a : Nat} (ha : yAct φ a) (hc : yCan φ (yLay φ (φ 0 6)) a = true) : yGo (yAdd φ a) := fun i hi => by
  have hi' : i < φ 0 6 + 1 := hi
  have L : yLay (yAdd φ a) i = yLay φ i := (yAdd_alk φ a).lay i (fun j hj => by rw [yAdd_6, if_neg (by omega)])
  rw [yAdd_6, (yAdd_alk φ a).act, (yAdd_alk φ a).can, L]
  by_cases h : i = φ 0 6
  · rw [if_pos h, h]; exact ⟨ha, hc⟩
  · rw [if_neg h]; exact G i (by omega)
/-- all but the component's scratch and its family's acts is as it was -/
def yKC1 (μ ν : wMem) : Prop := ∀ c i, (c = 0 → i < 5) → (c < 9 ∨ 21 < c) → c ≠ 7 → (c = 1 → i ≠ 6) → ν.1 c i = μ.1 c i ∧ ν.2 c i = μ.2 c i
def yKM1 (μ ν : wMem) : Prop := ∀ c i, (c = 0 → i = 6 ∨ i = 14 ∨ i = 15 ∨ i = 34) → c ≠ 4 → (c < 13 ∨ c = 14 ∨ c = 15 ∨ 22 < c) → (c = 7 → i ≠ 6) → (c = 11 → 40 ≤ i) → ν.1 c i = μ.1 c i ∧ ν.2 c i = μ.2 c i
theorem yKC.one {μ ν : wMem} (h : yKC μ ν) : yKC1 μ ν := fun c i a b _ _ => h c i a b
theorem yKM.one {μ ν : wMem} (h : yKM μ ν) : yKM1 μ ν := fun c i a b d _ _ => h c i a b d
theorem yKC1.trans {μ ν ρ : wMem} (h : yKC1 μ ν) (g : yKC1 ν ρ) : yKC1 μ ρ := fun c i a b d e => ⟨(g c i a b d e).1.trans (h c i a b d e).1, (g c i a b d e).2.trans (h c i a b d e).2⟩
theorem yKM1.trans {μ ν ρ : wMem} (h : yKM1 μ ν) (g : yKM1 ν ρ) : yKM1 μ ρ := fun c i a b d e f => ⟨(g c i a b d e f).1.trans (h c i a b d e f).1, (g c i a b d e f).2.trans (h c i a b d e f).2⟩
theorem yKC1_16 (μ : wMem) (v : Int32) : yKC1 μ (wSI μ 1 6 v) := fun c i _ _ _ e => ⟨by rw [yS_get, if_neg (fun h => e h.1 h.2)], rfl⟩
theorem yKC1_7 (μ : wMem) (j : Nat) (v : Int32) : yKC1 μ (wSI μ 7 j v) := fun c i _ _ d _ => ⟨by rw [yS_get, if_neg (fun h => d h.1)], rfl⟩
theorem yKM1_76 (μ : wMem) (v : Int32) : yKM1 μ (wSI μ 7 6 v) := fun c i _ _ _ e _ => ⟨by rw [yS_get, if_neg (fun h => e h.1 h.2)], rfl⟩
theorem yKM1_11 (μ : wMem) {j : Nat} (hj : j < 40) (v : Int32) : yKM1 μ (wSI μ 11 j v) := fun c i _ _ _ _ f => ⟨by rw [yS_get, if_neg (fun h => by have := f h.1; omega)], rfl⟩
theorem yFC_cut {φ : Nat → Nat → Nat} {μ : wMem} (F : yFC φ μ) {n : Nat} (hn : n ≤ φ 0 6) : yFC (yCut φ n) (wSI μ 1 6 (nI n)) := by
  have e : ∀ i, i ≠ 6 → yCut φ n 0 i = φ 0 i := fun i hi => yCut_alk φ n 0 i (by decide) (fun _ => hi)
  refine ⟨?_, ?_, ?_, ?_, ?_, ?_, ?_⟩
  · intro i hi
    rw [yS_get]
    by_cases h : i = 6
    · subst h; rw [if_pos ⟨rfl, rfl⟩, yCut_n]
    · rw [if_neg (fun q => h q.2), e i h]; exact F.fld i hi
  · intro i hi; rw [e 2 (by decide)] at hi; rw [yS_get, if_neg (by simp)]; exact F.like i hi
  · intro i hi; rw [e 2 (by decide)] at hi; rw [yS_get, if_neg (by simp)]; exact F.nose i hi
  · intro i hi; rw [e 3 (by decide)] at hi; rw [yS_get, if_neg (by simp)]; exact F.strict i hi
  · intro i hi; rw [e 3 (by decide)] at hi; rw [yS_get, if_neg (by simp)]; exact F.keen i hi
  · intro i hi; rw [e 3 (by decide)] at hi; rw [yS_get, if_neg (by simp)]; exact F.looks i hi
  · intro i hi
    have : i < n := hi
    rw [yS_get, if_neg (by simp)]; exact F.act i (by omega)
theorem yFM_cut {φ : Nat → Nat → Nat} {μ : wMem} (F : yFM φ 0 μ) {n : Nat} (hn : n ≤ φ 0 6) : yFM (yCut φ n) 0 (wSI μ 7 6 (nI n)) := by
  have e : ∀ i, i ≠ 6 → yCut φ n 0 i = φ 0 i := fun i hi => yCut_alk φ n 0 i (by decide) (fun _ => hi)
  have s : ∀ c i, ¬ (c = 7 ∧ i = 6) → (wSI μ 7 6 (nI n)).1 c i = μ.1 c i := fun c i h => by rw [yS_get, if_neg h]
  obtain ⟨⟨a0, a1, a2, a3, a4, a5, a6, a7⟩, b, c, d, g⟩ := F
  refine ⟨⟨?_, ?_, ?_, ?_, ?_, ?_, ?_, ?_⟩, ?_, ?_, ?_, ?_⟩
  · rw [s _ _ (by omega)]; exact a0
  · rw [s _ _ (by omega)]; exact a1
  · rw [s _ _ (by omega)]; exact a2
  · rw [s _ _ (by omega)]; exact a3
  · rw [s _ _ (by omega)]; exact a4
  · rw [s _ _ (by omega)]; exact a5
  · rw [yS_get, if_pos (by omega), yCut_n]
  · rw [s _ _ (by omega)]; exact a7
  · intro i hi; rw [e 2 (by decide)] at hi; rw [s _ _ (by omega)]; exact b i hi
  · intro i hi; rw [e 2 (by decide)] at hi; rw [s _ _ (by omega)]; exact c i hi
  · intro i hi; rw [e 3 (by decide)] at hi; rw [s _ _ (by omega), s _ _ (by omega), s _ _ (by omega)]; exact d i hi
  · intro i hi
    have : i < n := hi
    rw [s _ _ (by omega)]; exact g i (by omega)
/-- both answer the same; the family is another one of the same persons and posts -/
def yBt1 (f g : wMem → Option (Int32 × wMem)) (φ : Nat → Nat → Nat) (μ μm : wMem) : Prop :=
  ∃ v μ1 μm1 ψ, f μ = some (v, μ1) ∧ g μm = some (v, μm1) ∧ yKC1 μ μ1 ∧ yKM1 μm μm1 ∧ yFC ψ μ1 ∧ yFM ψ 0 μm1 ∧ yOk ψ ∧ yGo ψ
theorem yBth.one {f g : wMem → Option (Int32 × wMem)} {φ : Nat → Nat → Nat} {μ μm : wMem} (O : yOk φ) (G : yGo φ) (F : yFC φ μ) (M : yFM φ 0 μm) (h : yBth f g μ μm) : yBt1 f g φ μ μm := by
  obtain ⟨v, μ1, μm1, h1, h2, h3, h4⟩ := h
  exact ⟨v, μ1, μm1, φ, h1, h2, h3.one, h4.one, h3.fc F, h4.fm M, O, G⟩
theorem yq_undo {φ : Nat → Nat → Nat} {μ μm : wMem} (O : yOk φ) (G : yGo φ) (F : yFC φ μ) (M : yFM φ 0 μm) (N : Nat) : yBt1 (fX0_undo N) (fX6_undo N) φ μ μm := by
  have h40 := O.acts
  have M1 := (yKM_0 μm 0).fm M
  have q6 : (wSI μm 0 0 0).1 7 (Int32.toNatClampNeg (6 : Int32)) = nI (φ 0 6) := M1.acts
  by_cases g : φ 0 1 ≠ 0
  · by_cases g1 : φ 0 6 = 0
    · refine yBth.one O G F M (yBth.mk' (v := -5) (μ1 := μ) (μm1 := wSI μm 0 0 0) ?_ ?_ (yKC.rfl' _) (yKM_0 _ _))
      · unfold fX0_undo
        rw [yc_isFamily O F, yBd, yB1 g, F.fld 6 (by decide), yIf (xI_e0 (by omega)), if_pos g1]
      · unfold fX6_undo wLet
        dsimp only
        rw [ym_isFamily O M1, yBd, yB1 g, yG (show ok_in (6 : Int32) 35 = true by decide), q6, yIf (xI_e0 (by omega)), if_pos g1]
    · have e1 : nI (φ 0 6) - (1 : Int32) = nI (φ 0 6 - 1) := xI_pred (by omega)
      have hn : φ 0 6 - 1 ≤ φ 0 6 := by omega
      refine ⟨nI (φ 0 6 - 1), wSI μ 1 6 (nI (φ 0 6 - 1)), wSI (wSI μm 0 0 0) 7 6 (nI (φ 0 6 - 1)), yCut φ (φ 0 6 - 1), ?_, ?_, yKC1_16 _ _, (yKM_0 _ _).one.trans (yKM1_76 _ _), yFC_cut F hn, yFM_cut M1 hn, (yCut_alk _ _).ok O (by rw [yCut_n]; omega), yCut_go G hn⟩
      · unfold fX0_undo wLet
        dsimp only
        rw [yc_isFamily O F, yBd, yB1 g, F.fld 6 (by decide), yIf (xI_e0 (by omega)), if_neg g1, e1, yS_get, if_pos ⟨rfl, rfl⟩]
      · unfold fX6_undo wLet
        dsimp only
        rw [ym_isFamily O M1, yBd, yB1 g, yG (show ok_in (6 : Int32) 35 = true by decide), q6, yIf (xI_e0 (by omega)), if_neg g1, yG (show ok_in (6 : Int32) 35 = true by decide), yG (show ok_in (6 : Int32) 35 = true by decide), yG (show ok_in (6 : Int32) 35 = true by decide), e1, yS_get, if_pos ⟨rfl, rfl⟩]
        rfl
  · refine yBth.one O G F M (yBth.mk' (v := -2) (μ1 := μ) (μm1 := wSI μm 0 0 0) ?_ ?_ (yKC.rfl' _) (yKM_0 _ _))
    · unfold fX0_undo
      rw [yc_isFamily O F, yBd, yB2 g]
    · unfold fX6_undo wLet
      dsimp only
      rw [ym_isFamily O M1, yBd, yB2 g]
theorem yq_anew {φ : Nat → Nat → Nat} {μ μm : wMem} (O : yOk φ) (G : yGo φ) (F : yFC φ μ) (M : yFM φ 0 μm) (N : Nat) : yBt1 (fX0_anew N) (fX6_anew N) φ μ μm := by
  have M1 := (yKM_0 μm 0).fm M
  have q6 : (wSI μm 0 0 0).1 7 (Int32.toNatClampNeg (6 : Int32)) = nI (φ 0 6) := M1.acts
  by_cases g : φ 0 1 ≠ 0
  · refine ⟨nI (φ 0 6), wSI μ 1 6 (nI 0), wSI (wSI μm 0 0 0) 7 6 (nI 0), yCut φ 0, ?_, ?_, yKC1_16 _ _, (yKM_0 _ _).one.trans (yKM1_76 _ _), yFC_cut F (Nat.zero_le _), yFM_cut M1 (Nat.zero_le _), (yCut_alk _ _).ok O (by rw [yCut_n]; omega), yCut_go G (Nat.zero_le _)⟩
    · unfold fX0_anew wLet
      dsimp only
      rw [yc_isFamily O F, yBd, yB1 g, F.fld 6 (by decide)]
      rfl
    · unfold fX6_anew wLet
      dsimp only
      rw [ym_isFamily O M1, yBd, yB1 g, yG (show ok_in (6 : Int32) 35 = true by decide), q6, yG (show ok_in (6 : Int32) 35 = true by decide)]
      rfl
  · refine yBth.one O G F M (yBth.mk' (v := -2) (μ1 := μ) (μm1 := wSI μm 0 0 0) ?_ ?_ (yKC.rfl' _) (yKM_0 _ _))
    · unfold fX0_anew
      rw [yc_isFamily O F, yBd, yB2 g]
    · unfold fX6_anew wLet
      dsimp only
      rw [ym_isFamily O M1, yBd, yB2 g]
