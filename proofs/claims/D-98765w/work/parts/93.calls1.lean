set_option maxRecDepth 100000
/-! part 93: the plain questions: risk, why, now, person, post, act -/
/-- both answer the same and leave all but scratch alone -/
def yBth (f g : wMem → Option (Int32 × wMem)) (μ μm : wMem) : Prop := ∃ v μ1 μm1, f μ = some (v, μ1) ∧ g μm = some (v, μm1) ∧ yKC μ μ1 ∧ yKM μm μm1
theorem yBth.mk' {f g : wMem → Option (Int32 × wMem)} {μ μm μ1 μm1 : wMem} {v : Int32} (h1 : f μ = some (v, μ1)) (h2 : g μm = some (v, μm1)) (h3 : yKC μ μ1) (h4 : yKM μm μm1) : yBth f g μ μm := ⟨v, μ1, μm1, h1, h2, h3, h4⟩
theorem yB1 {α : Type} {p : Prop} [Decidable p] (h : p) (x y : α) : (if yB (decide p) = 0 then x else y) = y := by rw [yB_t h]; exact if_neg (by decide)
theorem yB2 {α : Type} {p : Prop} [Decidable p] (h : ¬ p) (x y : α) : (if yB (decide p) = 0 then x else y) = x := by rw [yB_f h]; exact if_pos rfl
def yPN (a : Int32) (n : Nat) : Prop := a = -1 ∨ yIs a n
theorem yPN.of' {a : Int32} {n : Nat} (h : yPN a n) (hn : n < 2 ^ 30) : ∃ c, c ≤ n ∧ a = nI c - 1 := by
  rcases h with h | h
  · exact ⟨0, Nat.zero_le _, by rw [h]; decide⟩
  · obtain ⟨p, hp, e⟩ := yIs.of h (by omega)
    exact ⟨p + 1, by omega, by rw [e, xI_pred (by omega)]; rfl⟩
theorem yPN_m1 {n : Nat} : ¬ yIs (-1) n := by
  intro h
  have := h.1
  revert this
  decide
theorem yq_risk {φ : Nat → Nat → Nat} {μ μm : wMem} (O : yOk φ) (F : yFC φ μ) (M : yFM φ 0 μm) (N : Nat) (a1 a2 : Int32) : yBth (fX0_risk N a1 a2) (fX6_risk N a1 a2) μ μm := by
  have h6 := O.persons
  have h2 := O.posts
  have M1 := (yKM_0 μm 0).fm M
  by_cases g1 : yIs a1 (φ 0 2)
  · by_cases g2 : yIs a2 (φ 0 3)
    · obtain ⟨p, hp, rfl⟩ := yIs.of g1 (by omega)
      obtain ⟨k, hk, rfl⟩ := yIs.of g2 (by omega)
      refine yBth.mk' (v := nI (yRisk φ p k)) (μ1 := μ) (μm1 := wSI μm 0 0 0) ?_ ?_ (yKC.rfl' _) (yKM_0 _ _)
      · unfold fX0_risk wLet
        dsimp only
        rw [yc_isPerson O F, yBd, yB1 g1, yc_isPost O F, yBd, yB1 g2, yc_risk O F N hp hk, yBd]
      · unfold fX6_risk wLet
        dsimp only
        rw [ym_isPerson O M1, yBd, yB1 g1, ym_isPost O M1, yBd, yB1 g2, ym_risk O M1 N hp hk, yBd]
    · refine yBth.mk' (v := -2) (μ1 := μ) (μm1 := wSI μm 0 0 0) ?_ ?_ (yKC.rfl' _) (yKM_0 _ _)
      · unfold fX0_risk wLet
        dsimp only
        rw [yc_isPerson O F, yBd, yB1 g1, yc_isPost O F, yBd, yB2 g2]
      · unfold fX6_risk wLet
        dsimp only
        rw [ym_isPerson O M1, yBd, yB1 g1, ym_isPost O M1, yBd, yB2 g2]
  · refine yBth.mk' (v := -2) (μ1 := μ) (μm1 := wSI μm 0 0 0) ?_ ?_ (yKC.rfl' _) (yKM_0 _ _)
    · unfold fX0_risk wLet
      dsimp only
      rw [yc_isPerson O F, yBd, yB2 g1]
    · unfold fX6_risk wLet
      dsimp only
      rw [ym_isPerson O M1, yBd, yB2 g1]
def yCro (φ : Nat → Nat → Nat) (a1 a2 a3 : Int32) : Prop := yIs a1 (φ 0 2) ∧ yPN a2 (φ 0 2) ∧ yIs a3 (φ 0 3)
theorem yc_crossing {φ : Nat → Nat → Nat} {μ : wMem} (O : yOk φ) (F : yFC φ μ) (N : Nat) (a1 a2 a3 : Int32) :
    (yCro φ a1 a2 a3 → fX0_isCrossing N a1 a2 a3 μ = some (1, μ)) ∧ (¬ yCro φ a1 a2 a3 → fX0_isCrossing N a1 a2 a3 μ = some (0, μ)) := by
  unfold fX0_isCrossing fX0_isPersonOrNone wLet
  dsimp only
  rw [yc_isPerson O F, yBd]
  by_cases g1 : yIs a1 (φ 0 2)
  · rw [yB1 g1]
    by_cases g2 : a2 = -1
    · rw [if_pos g2]
      rw [yBd, if_neg (show ¬ (1 : Int32) = 0 by decide), yc_isPost O F, yBd]
      by_cases g3 : yIs a3 (φ 0 3)
      · rw [yB1 g3]; exact ⟨fun _ => rfl, fun h => absurd ⟨g1, Or.inl g2, g3⟩ h⟩
      · rw [yB2 g3]; exact ⟨fun h => absurd h.2.2 g3, fun _ => rfl⟩
    · rw [if_neg g2, yc_isPerson O F, yBd]
      by_cases g4 : yIs a2 (φ 0 2)
      · rw [yB1 g4]
        rw [yBd, if_neg (show ¬ (1 : Int32) = 0 by decide), yc_isPost O F, yBd]
        by_cases g3 : yIs a3 (φ 0 3)
        · rw [yB1 g3]; exact ⟨fun _ => rfl, fun h => absurd ⟨g1, Or.inr g4, g3⟩ h⟩
        · rw [yB2 g3]; exact ⟨fun h => absurd h.2.2 g3, fun _ => rfl⟩
      · rw [yB2 g4]
        rw [yBd, if_pos rfl]
        exact ⟨fun h => absurd h.2.1 (fun q => q.elim g2 g4), fun _ => rfl⟩
  · rw [yB2 g1]; exact ⟨fun h => absurd h.1 g1, fun _ => rfl⟩
theorem ym_crossing {φ : Nat → Nat → Nat} {μ : wMem} (O : yOk φ) (F : yFM φ 0 μ) (N : Nat) (a1 a2 a3 : Int32) :
    (yCro φ a1 a2 a3 → fX6_isCrossing N a1 a2 a3 μ = some (1, μ)) ∧ (¬ yCro φ a1 a2 a3 → fX6_isCrossing N a1 a2 a3 μ = some (0, μ)) := by
  unfold fX6_isCrossing wLet
  dsimp only
  rw [ym_isPerson O F, yBd]
  by_cases g1 : yIs a1 (φ 0 2)
  · rw [yB1 g1]
    by_cases g2 : a2 = -1
    · rw [if_pos g2]
      rw [ym_isPost O F, yBd]
      by_cases g3 : yIs a3 (φ 0 3)
      · rw [yB1 g3]; exact ⟨fun _ => rfl, fun h => absurd ⟨g1, Or.inl g2, g3⟩ h⟩
      · rw [yB2 g3]; exact ⟨fun h => absurd h.2.2 g3, fun _ => rfl⟩
    · rw [if_neg g2, ym_isPerson O F, yBd]
      by_cases g4 : yIs a2 (φ 0 2)
      · rw [yB1 g4]
        rw [ym_isPost O F, yBd]
        by_cases g3 : yIs a3 (φ 0 3)
        · rw [yB1 g3]; exact ⟨fun _ => rfl, fun h => absurd ⟨g1, Or.inr g4, g3⟩ h⟩
        · rw [yB2 g3]; exact ⟨fun h => absurd h.2.2 g3, fun _ => rfl⟩
      · rw [yB2 g4]
        exact ⟨fun h => absurd h.2.1 (fun q => q.elim g2 g4), fun _ => rfl⟩
  · rw [yB2 g1]; exact ⟨fun h => absurd h.1 g1, fun _ => rfl⟩
theorem yq_why {φ : Nat → Nat → Nat} {μ μm : wMem} (O : yOk φ) (G : yGo φ) (F : yFC φ μ) (M : yFM φ 0 μm) {N : Nat} (hN : 41 ≤ N) (a1 a2 a3 : Int32) : yBth (fX0_why N a1 a2 a3) (fX6_why N a1 a2 a3) μ μm := by
  have h6 := O.persons
  have h2 := O.posts
  have M1 := (yKM_0 μm 0).fm M
  have L := yLay_ok O G (φ 0 6) (Nat.le_refl _)
  by_cases g : yCro φ a1 a2 a3
  · obtain ⟨p, hp, e1⟩ := yIs.of g.1 (by omega)
    obtain ⟨c, hc, e2⟩ := g.2.1.of' (by omega)
    obtain ⟨k, hk, e3⟩ := yIs.of g.2.2 (by omega)
    refine yBth.mk' (v := nI (yWhy φ (yLay φ (φ 0 6)) p c k)) (μ1 := yPut (yDR μ (yDays φ (φ 0 6)) (yRisks φ (φ 0 6))) (yLay φ (φ 0 6))) (μm1 := yTut (yLM φ (wSI μm 0 0 0) (φ 0 6)) (yT φ (yLay φ (φ 0 6)))) ?_ ?_ (yc_laid φ _ _ _ _) ((yKM_0 _ _).trans (ym_laid φ _ _ _))
    · unfold fX0_why
      rw [(yc_crossing O F N a1 a2 a3).1 g, yBd, if_neg (by decide), yc_lay O F G hN, yBV, e1, e2, e3, yc_whyNot O (yFC_DR F _ _) L (by omega) hp hc hk, yBd]
    · unfold fX6_why wLet
      dsimp only
      rw [(ym_crossing O M1 N a1 a2 a3).1 g, yBd, if_neg (by decide), ym_lay O M1 G hN, yBV, e1, e2, e3, ym_whyOf O (yFM_LM M1 _) L (by omega) hp hc hk, yBd]
  · refine yBth.mk' (v := -2) (μ1 := μ) (μm1 := wSI μm 0 0 0) ?_ ?_ (yKC.rfl' _) (yKM_0 _ _)
    · unfold fX0_why
      rw [(yc_crossing O F N a1 a2 a3).2 g, yBd, if_pos rfl]
    · unfold fX6_why wLet
      dsimp only
      rw [(ym_crossing O M1 N a1 a2 a3).2 g, yBd, if_pos rfl]
theorem yq_act {φ : Nat → Nat → Nat} {μ μm : wMem} (O : yOk φ) (F : yFC φ μ) (M : yFM φ 0 μm) (N : Nat) (a1 : Int32) : yBth (fX0_act N a1) (fX6_act N a1) μ μm := by
  have h40 := O.acts
  have M1 := (yKM_0 μm 0).fm M
  have q6 : (wSI μm 0 0 0).1 7 (Int32.toNatClampNeg (6 : Int32)) = nI (φ 0 6) := M1.acts
  by_cases g : φ 0 1 ≠ 0
  · by_cases g1 : yIs a1 (φ 0 6)
    · obtain ⟨i, hi, e1⟩ := yIs.of g1 (by omega)
      refine yBth.mk' (v := nI (φ 6 i)) (μ1 := μ) (μm1 := wSI μm 0 0 0) ?_ ?_ (yKC.rfl' _) (yKM_0 _ _)
      · unfold fX0_act
        rw [yc_isFamily O F, yBd, yB1 g, F.fld 6 (by decide), yc_isIn a1 (by omega), yBd, yB1 g1, e1, yG (xI_in (by omega) (by omega)), xI_cl (by omega), F.act i hi]
      · unfold fX6_act wLet
        dsimp only
        rw [ym_isFamily O M1, yBd, yB1 g, yG (show ok_in (6 : Int32) 35 = true by decide), q6, ym_in a1 (by omega), yBd, yB1 g1, e1, yG (xI_in (by omega) (by omega)), xI_cl (by omega), M1.act hi]
    · refine yBth.mk' (v := -1) (μ1 := μ) (μm1 := wSI μm 0 0 0) ?_ ?_ (yKC.rfl' _) (yKM_0 _ _)
      · unfold fX0_act
        rw [yc_isFamily O F, yBd, yB1 g, F.fld 6 (by decide), yc_isIn a1 (by omega), yBd, yB2 g1]
      · unfold fX6_act wLet
        dsimp only
        rw [ym_isFamily O M1, yBd, yB1 g, yG (show ok_in (6 : Int32) 35 = true by decide), q6, ym_in a1 (by omega), yBd, yB2 g1]
  · refine yBth.mk' (v := -2) (μ1 := μ) (μm1 := wSI μm 0 0 0) ?_ ?_ (yKC.rfl' _) (yKM_0 _ _)
    · unfold fX0_act
      rw [yc_isFamily O F, yBd, yB2 g]
    · unfold fX6_act wLet
      dsimp only
      rw [ym_isFamily O M1, yBd, yB2 g]
