set_option maxRecDepth 100000
/-! part 99: the calls cross and loaf -/
theorem yWhy_can {φ : Nat → Nat → Nat} {σ : ySt} {p c k : Nat} (hp : p < φ 0 2) (hc : c ≤ φ 0 2) (hk : k < φ 0 3) (O : yOk φ) :
    (100 * k + 10 * c + p) % 10 = p ∧ (100 * k + 10 * c + p) % 100 / 10 = c ∧ (100 * k + 10 * c + p) / 100 = k ∧ 100 * k + 10 * c + p < 200 ∧ yAct φ (100 * k + 10 * c + p) ∧ (yWhy φ σ p c k = 0 → yCan φ σ (100 * k + 10 * c + p) = true) := by
  have h6 := O.persons
  have h2 := O.posts
  have e1 : (100 * k + 10 * c + p) % 10 = p := by omega
  have e2 : (100 * k + 10 * c + p) % 100 / 10 = c := by omega
  have e3 : (100 * k + 10 * c + p) / 100 = k := by omega
  have e4 : 100 * k + 10 * c + p < 200 := by omega
  refine ⟨e1, e2, e3, e4, Or.inr ⟨e4, ?_, ?_, ?_⟩, fun h => ?_⟩
  · rw [e3]; exact hk
  · rw [e2]; exact hc
  · rw [e1]; exact hp
  · unfold yCan
    rw [e1, e2, e3, h]
    simp
theorem yBt1.of {f g : wMem → Option (Int32 × wMem)} {φ ψ : Nat → Nat → Nat} {μ μm μ1 μm1 : wMem} {v : Int32} (h1 : f μ = some (v, μ1)) (h2 : g μm = some (v, μm1)) (h3 : yKC1 μ μ1) (h4 : yKM1 μm μm1) (h5 : yFC ψ μ1) (h6 : yFM ψ 0 μm1) (h7 : yOk ψ) (h8 : yGo ψ) : yBt1 f g φ μ μm :=
  ⟨v, μ1, μm1, ψ, h1, h2, h3, h4, h5, h6, h7, h8⟩
theorem yq_cross {φ : Nat → Nat → Nat} {μ μm : wMem} (O : yOk φ) (G : yGo φ) (F : yFC φ μ) (M : yFM φ 0 μm) {N : Nat} (hN : 41 ≤ N) (a1 a2 a3 : Int32) : yBt1 (fX0_cross N a1 a2 a3) (fX6_cross N a1 a2 a3) φ μ μm := by
  have h6 := O.persons
  have h2 := O.posts
  have h40 := O.acts
  have M1 := (yKM_0 μm 0).fm M
  have L := yLay_ok O G (φ 0 6) (Nat.le_refl _)
  have lc : fX0_asItIs N μ = some (yCl φ μ) := yc_lay O F G hN
  have lm : fX6_lays N (wSI μm 0 0 0) = some (yMl φ μm) := ym_lay O M1 G hN
  have Fl := (yCl_k φ μ).fc F
  have Ml := (yMl_k φ μm).fm M
  have q6 : (yMl φ μm).1 7 (Int32.toNatClampNeg (6 : Int32)) = nI (φ 0 6) := Ml.acts
  by_cases g : yCro φ a1 a2 a3
  · obtain ⟨p, hp, e1⟩ := yIs.of g.1 (by omega)
    obtain ⟨c, hc, e2⟩ := g.2.1.of' (by omega)
    obtain ⟨k, hk, e3⟩ := yIs.of g.2.2 (by omega)
    obtain ⟨_, _, _, hlt, hact, hcan⟩ := yWhy_can (σ := yLay φ (φ 0 6)) hp hc hk O
    have wc : fX0_whyNot N a1 a2 a3 (yCl φ μ) = some (nI (yWhy φ (yLay φ (φ 0 6)) p c k), yCl φ μ) := by
      rw [e1, e2, e3]; exact yc_whyNot O (yFC_DR F _ _) L (by omega) hp hc hk
    have wm : fX6_whyOf N a1 a2 a3 (yMl φ μm) = some (nI (yWhy φ (yLay φ (φ 0 6)) p c k), yMl φ μm) := by
      rw [e1, e2, e3]; exact ym_whyOf O (yFM_LM M1 _) L (by omega) hp hc hk
    have wl := yWhy_lt φ (yLay φ (φ 0 6)) p c k
    have ea : ((100 : Int32) * a3 + (10 : Int32) * (a2 + (1 : Int32))) + a1 = nI (100 * k + 10 * c + p) := by
      have x1 : (100 : Int32) * nI k = nI (100 * k) := xI_mul 100 k
      have x2 : (10 : Int32) * nI c = nI (10 * c) := xI_mul 10 c
      rw [e1, e2, e3, Int32.sub_add_cancel, x1, x2, nI_add, nI_add]
    have e40 : (nI (φ 0 6) = (40 : Int32)) = (φ 0 6 = 40) := xI_eq (by omega) (b := 40) (by decide)
    by_cases w : yWhy φ (yLay φ (φ 0 6)) p c k = 0
    · by_cases full : φ 0 6 = 40
      · refine yBth.one O G F M (yBth.mk' (v := -5) ?_ ?_ (yCl_k φ μ) (yMl_k φ μm))
        · unfold fX0_cross wLet
          dsimp only
          rw [(yc_crossing O F N a1 a2 a3).1 g, yBd, if_neg (show ¬ (1 : Int32) = 0 by decide), lc, yBV, wc, yBd, yIf (xI_e0 (by omega)), if_pos w, Fl.fld 6 (by decide), yIf e40, if_pos full]
        · unfold fX6_cross wLet
          dsimp only
          rw [(ym_crossing O M1 N a1 a2 a3).1 g, yBd, if_neg (show ¬ (1 : Int32) = 0 by decide), lm, yBV, wm, yBd, yIf (xI_e0 (by omega)), if_pos w, yG (show ok_in (6 : Int32) 35 = true by decide), q6, yIf e40, if_pos full]
      · obtain ⟨v, μ1, μm1, k1, k2, k3, k4, k5, k6⟩ := yq_add O G F M N hact (hcan w) (by omega)
        refine yBt1.of (v := v) (μ1 := μ1) (μm1 := μm1) ?_ ?_ k3 k4 k5 k6 ((yAdd_alk φ _).ok O (by rw [yAdd_n]; omega)) (yAdd_go G hact (hcan w))
        · unfold fX0_cross wLet
          dsimp only
          rw [(yc_crossing O F N a1 a2 a3).1 g, yBd, if_neg (show ¬ (1 : Int32) = 0 by decide), lc, yBV, wc, yBd, yIf (xI_e0 (by omega)), if_pos w, Fl.fld 6 (by decide), yIf e40, if_neg full, ea, k1, yBd]
        · unfold fX6_cross wLet
          dsimp only
          rw [(ym_crossing O M1 N a1 a2 a3).1 g, yBd, if_neg (show ¬ (1 : Int32) = 0 by decide), lm, yBV, wm, yBd, yIf (xI_e0 (by omega)), if_pos w, yG (show ok_in (6 : Int32) 35 = true by decide), q6, yIf e40, if_neg full, ea, k2, yBd]
    · refine yBth.one O G F M (yBth.mk' (v := -5) ?_ ?_ (yCl_k φ μ) (yMl_k φ μm))
      · unfold fX0_cross wLet
        dsimp only
        rw [(yc_crossing O F N a1 a2 a3).1 g, yBd, if_neg (show ¬ (1 : Int32) = 0 by decide), lc, yBV, wc, yBd, yIf (xI_e0 (by omega)), if_neg w]
      · unfold fX6_cross wLet
        dsimp only
        rw [(ym_crossing O M1 N a1 a2 a3).1 g, yBd, if_neg (show ¬ (1 : Int32) = 0 by decide), lm, yBV, wm, yBd, yIf (xI_e0 (by omega)), if_neg w]
  · refine yBth.one O G F M (yBth.mk' (v := -2) (μ1 := μ) (μm1 := wSI μm 0 0 0) ?_ ?_ (yKC.rfl' _) (yKM_0 _ _))
    · unfold fX0_cross
      rw [(yc_crossing O F N a1 a2 a3).2 g, yBd, if_pos rfl]
    · unfold fX6_cross wLet
      dsimp only
      rw [(ym_crossing O M1 N a1 a2 a3).2 g, yBd, if_pos rfl]
theorem yq_loaf {φ : Nat → Nat → Nat} {μ μm : wMem} (O : yOk φ) (G : yGo φ) (F : yFC φ μ) (M : yFM φ 0 μm) {N : Nat} (hN : 41 ≤ N) : yBt1 (fX0_loaf N) (fX6_loaf N) φ μ μm := by
  have h40 := O.acts
  have M1 := (yKM_0 μm 0).fm M
  have lc : fX0_asItIs N μ = some (yCl φ μ) := yc_lay O F G hN
  have lm : fX6_lays N (wSI μm 0 0 0) = some (yMl φ μm) := ym_lay O M1 G hN
  have Ml := (yMl_k φ μm).fm M
  have q6 : (yMl φ μm).1 7 (Int32.toNatClampNeg (6 : Int32)) = nI (φ 0 6) := Ml.acts
  have e40 : (nI (φ 0 6) = (40 : Int32)) = (φ 0 6 = 40) := xI_eq (by omega) (b := 40) (by decide)
  by_cases g : φ 0 1 ≠ 0
  · by_cases full : φ 0 6 = 40
    · refine yBth.one O G F M (yBth.mk' (v := -5) (μ1 := μ) ?_ ?_ (yKC.rfl' _) (yMl_k φ μm))
      · unfold fX0_loaf
        rw [yc_isFamily O F, yBd, yB1 g, F.fld 6 (by decide), yIf e40, if_pos full]
      · unfold fX6_loaf wLet
        dsimp only
        rw [ym_isFamily O M1, yBd, yB1 g, lm, yBV, yG (show ok_in (6 : Int32) 35 = true by decide), q6, yIf e40, if_pos full]
    · have hact : yAct φ 200 := Or.inl rfl
      have hcan : yCan φ (yLay φ (φ 0 6)) 200 = true := by simp [yCan]
      obtain ⟨v, μ1, μm1, k1, k2, k3, k4, k5, k6⟩ := yq_add O G F M N hact hcan (by omega)
      have k1' : fX0_keeps N (200 : Int32) (yCl φ μ) = some (v, μ1) := k1
      have k2' : fX6_adds N (200 : Int32) (yMl φ μm) = some (v, μm1) := k2
      refine yBt1.of (v := v) (μ1 := μ1) (μm1 := μm1) ?_ ?_ k3 k4 k5 k6 ((yAdd_alk φ _).ok O (by rw [yAdd_n]; omega)) (yAdd_go G hact hcan)
      · unfold fX0_loaf
        rw [yc_isFamily O F, yBd, yB1 g, F.fld 6 (by decide), yIf e40, if_neg full, lc, yBV, k1', yBd]
      · unfold fX6_loaf wLet
        dsimp only
        rw [ym_isFamily O M1, yBd, yB1 g, lm, yBV, yG (show ok_in (6 : Int32) 35 = true by decide), q6, yIf e40, if_neg full, k2', yBd]
  · refine yBth.one O G F M (yBth.mk' (v := -2) (μ1 := μ) (μm1 := wSI μm 0 0 0) ?_ ?_ (yKC.rfl' _) (yKM_0 _ _))
    · unfold fX0_loaf
      rw [yc_isFamily O F, yBd, yB2 g]
    · unfold fX6_loaf wLet
      dsimp only
      rw [ym_isFamily O M1, yBd, yB2 g]
