set_option maxRecDepth 100000
/-! part 95: person, post -/
theorem yq_person {φ : Nat → Nat → Nat} {μ μm : wMem} (O : yOk φ) (G : yGo φ) (F : yFC φ μ) (M : yFM φ 0 μm) {N : Nat} (hN : 41 ≤ N) (a1 a2 : Int32) : yBth (fX0_person N a1 a2) (fX6_person N a1 a2) μ μm := by
  have h6 := O.persons
  have M1 := (yKM_0 μm 0).fm M
  have L := yLay_ok O G (φ 0 6) (Nat.le_refl _)
  have h64 := yOv64 O L
  have hch := O.children
  have hst := O.stay
  have lc : fX0_asItIs N μ = some (yCl φ μ) := yc_lay O F G hN
  have lm : fX6_lays N (wSI μm 0 0 0) = some (yMl φ μm) := ym_lay O M1 G hN
  have Fl := (yCl_k φ μ).fc F
  have Ml := (yMl_k φ μm).fm M
  have c5 : (yCl φ μ).1 0 5 = nI (yLay φ (φ 0 6)).ov := yPut_5 _ _
  have m23 : (yMl φ μm).1 0 23 = nI (yLay φ (φ 0 6)).ov := yTut_23 _ _
  have m4 : (yMl φ μm).1 7 (Int32.toNatClampNeg (4 : Int32)) = nI (φ 0 4) := Ml.children
  have m5 : (yMl φ μm).1 7 (Int32.toNatClampNeg (5 : Int32)) = nI (φ 0 5) := Ml.stay
  by_cases g : yIs a1 (φ 0 2)
  · by_cases g1 : yIs a2 5
    · obtain ⟨p, hp, e1⟩ := yIs.of g (by omega)
      have i6 : ok_in a1 6 = true := by rw [e1]; exact xI_in (by omega) (by omega)
      have i30 : ok_in a1 30 = true := by rw [e1]; exact xI_in (by omega) (by omega)
      have cl : Int32.toNatClampNeg a1 = p := by rw [e1]; exact xI_cl (by omega)
      have C : fX0_person N a1 a2 μ = (if a2 = 0 then wG (ok_in a1 6) (some ((yCl φ μ).1 2 (Int32.toNatClampNeg a1), yCl φ μ)) else if a2 = 1 then wG (ok_in a1 6) (some ((yCl φ μ).1 3 (Int32.toNatClampNeg a1), yCl φ μ)) else if a2 = 2 then some (((yCl φ μ).1 1 4 >>> (a1 &&& 31)) &&& (1 : Int32), yCl φ μ) else if a2 = 3 then some (((yCl φ μ).1 1 5 >>> (a1 &&& 31)) &&& (1 : Int32), yCl φ μ) else some (((yCl φ μ).1 0 5 >>> (a1 &&& 31)) &&& (1 : Int32), yCl φ μ)) := by
        unfold fX0_person wLet
        dsimp only
        rw [yc_isPerson O F, yBd, yB1 g, yc_5, yBd, yB1 g1, lc, yBV]
      have T : fX6_person N a1 a2 (μm) = (if (2 : Int32) ≤ a2 then (if a2 = (2 : Int32) then wG (ok_in (4 : Int32) 35) (some (((yMl φ μm).1 7 (Int32.toNatClampNeg (4 : Int32)) >>> (a1 &&& 31)) &&& (1 : Int32), yMl φ μm)) else if a2 = (3 : Int32) then wG (ok_in (5 : Int32) 35) (some (((yMl φ μm).1 7 (Int32.toNatClampNeg (5 : Int32)) >>> (a1 &&& 31)) &&& (1 : Int32), yMl φ μm)) else some (((yMl φ μm).1 0 23 >>> (a1 &&& 31)) &&& (1 : Int32), yMl φ μm)) else if a2 = 0 then wG (ok_in a1 30) (some ((wSI μm 0 0 0).1 8 (Int32.toNatClampNeg a1), wSI μm 0 0 0)) else wG (ok_in a1 30) (some ((wSI μm 0 0 0).1 9 (Int32.toNatClampNeg a1), wSI μm 0 0 0))) := by
        unfold fX6_person wLet
        dsimp only
        rw [ym_isPerson O M1, yBd, yB1 g, ym_5, yBd, yB1 g1, lm, yBV]
      have bt : ∀ s, s < 64 → (nI s >>> (a1 &&& 31)) &&& (1 : Int32) = nI (yBit s p) := fun s hs => by rw [e1]; exact xI_bit (by omega) (by omega)
      rw [i6, cl, Fl.like p hp, Fl.nose p hp, Fl.fld 4 (by decide), Fl.fld 5 (by decide), c5, bt _ hch, bt _ hst, bt _ h64] at C
      rw [i30, cl, M1.like hp, M1.nose hp, m4, m5, m23, bt _ hch, bt _ hst, bt _ h64] at T
      rcases yIs5 g1 with h | h | h | h | h
      · subst h; exact yBth.mk' (v := nI (φ 1 p)) C T (yCl_k φ μ) (yKM_0 _ _)
      · subst h; exact yBth.mk' (v := nI (φ 2 p)) C T (yCl_k φ μ) (yKM_0 _ _)
      · subst h; exact yBth.mk' (v := nI (yBit (φ 0 4) p)) C T (yCl_k φ μ) (yMl_k φ μm)
      · subst h; exact yBth.mk' (v := nI (yBit (φ 0 5) p)) C T (yCl_k φ μ) (yMl_k φ μm)
      · subst h; exact yBth.mk' (v := nI (yBit (yLay φ (φ 0 6)).ov p)) C T (yCl_k φ μ) (yMl_k φ μm)
    · refine yBth.mk' (v := -2) (μ1 := μ) (μm1 := wSI μm 0 0 0) ?_ ?_ (yKC.rfl' _) (yKM_0 _ _)
      · unfold fX0_person wLet
        dsimp only
        rw [yc_isPerson O F, yBd, yB1 g, yc_5, yBd, yB2 g1]
      · unfold fX6_person wLet
        dsimp only
        rw [ym_isPerson O M1, yBd, yB1 g, ym_5, yBd, yB2 g1]
  · refine yBth.mk' (v := -2) (μ1 := μ) (μm1 := wSI μm 0 0 0) ?_ ?_ (yKC.rfl' _) (yKM_0 _ _)
    · unfold fX0_person wLet
      dsimp only
      rw [yc_isPerson O F, yBd, yB2 g]
    · unfold fX6_person wLet
      dsimp only
      rw [ym_isPerson O M1, yBd, yB2 g]
theorem yq_post {φ : Nat → Nat → Nat} {μ μm : wMem} (O : yOk φ) (G : yGo φ) (F : yFC φ μ) (M : yFM φ 0 μm) {N : Nat} (hN : 41 ≤ N) (a1 a2 : Int32) : yBth (fX0_post N a1 a2) (fX6_post N a1 a2) μ μm := by
  have h2 := O.posts
  have M1 := (yKM_0 μm 0).fm M
  have lc : fX0_asItIs N μ = some (yCl φ μ) := yc_lay O F G hN
  have lm : fX6_lays N (wSI μm 0 0 0) = some (yMl φ μm) := ym_lay O M1 G hN
  have Fl := (yCl_k φ μ).fc F
  have Ml := (yMl_k φ μm).fm M
  by_cases g : yIs a1 (φ 0 3)
  · by_cases g1 : yIs a2 4
    · obtain ⟨k, hk, e1⟩ := yIs.of g (by omega)
      have i2 : ok_in a1 2 = true := by rw [e1]; exact xI_in (by omega) (by omega)
      have cl : Int32.toNatClampNeg a1 = k := by rw [e1]; exact xI_cl (by omega)
      have c9 : (yCl φ μ).1 9 k = nI ((yLay φ (φ 0 6)).z k) - 1 := yPut_9 _ _ (by omega)
      have zz : ∀ J : Int32 → Option (Int32 × wMem), (if a1 = 0 then J ((yMl φ μm).1 0 25) else J ((yMl φ μm).1 0 26)) = J (nI ((yLay φ (φ 0 6)).z k)) := fun J => by
        rw [e1]; exact ym_z hk h2 J _
      have C : fX0_post N a1 a2 μ = (if a2 = 0 then wG (ok_in a1 2) (some ((yCl φ μ).1 4 (Int32.toNatClampNeg a1), yCl φ μ)) else if a2 = (1 : Int32) then wG (ok_in a1 2) (some ((yCl φ μ).1 5 (Int32.toNatClampNeg a1), yCl φ μ)) else if a2 = (2 : Int32) then wG (ok_in a1 2) (some ((yCl φ μ).1 6 (Int32.toNatClampNeg a1), yCl φ μ)) else wG (ok_in a1 2) (some ((yCl φ μ).1 9 (Int32.toNatClampNeg a1), yCl φ μ))) := by
        unfold fX0_post wLet
        dsimp only
        rw [yc_isPost O F, yBd, yB1 g, yc_4, yBd, yB1 g1, lc, yBV]
      have T : fX6_post N a1 a2 μm = (if (3 : Int32) ≤ a2 then some (nI ((yLay φ (φ 0 6)).z k) - (1 : Int32), yMl φ μm) else wG (ok_in (((3 : Int32) * a1) + a2) 30) (some ((yMl φ μm).1 10 (Int32.toNatClampNeg (((3 : Int32) * a1) + a2)), yMl φ μm))) := by
        unfold fX6_post wLet
        dsimp only
        rw [ym_isPost O M1, yBd, yB1 g, ym_4, yBd, yB1 g1, lm, yBV]
        by_cases q : (3 : Int32) ≤ a2
        · rw [if_pos q, if_pos q]; exact zz (fun v15 : Int32 => some (v15 - (1 : Int32), yMl φ μm))
        · rw [if_neg q, if_neg q]
      rw [i2, cl, Fl.strict k hk, Fl.keen k hk, Fl.looks k hk, c9] at C
      have e3 : (3 : Int32) * a1 = nI (3 * k) := by rw [e1]; exact xI_mul 3 k
      have wi : ∀ j, j < 3 → wG (ok_in (((3 : Int32) * a1) + nI j) 30) (some ((yMl φ μm).1 10 (Int32.toNatClampNeg (((3 : Int32) * a1) + nI j)), yMl φ μm)) = some ((yMl φ μm).1 10 (3 * k + j), yMl φ μm) := fun j hj => by
        rw [e3, nI_add, yG (xI_in (by omega) (by omega)), xI_cl (by omega)]
      rcases yIs4 g1 with h | h | h | h
      · subst h
        exact yBth.mk' (v := nI (φ 3 k)) C (T.trans ((wi 0 (by decide)).trans (by rw [← Ml.strict hk]; rfl))) (yCl_k φ μ) (yMl_k φ μm)
      · subst h
        exact yBth.mk' (v := nI (φ 4 k)) C (T.trans ((wi 1 (by decide)).trans (by rw [← Ml.keen hk]))) (yCl_k φ μ) (yMl_k φ μm)
      · subst h
        exact yBth.mk' (v := nI (φ 5 k)) C (T.trans ((wi 2 (by decide)).trans (by rw [← Ml.looks hk]))) (yCl_k φ μ) (yMl_k φ μm)
      · subst h
        exact yBth.mk' (v := nI ((yLay φ (φ 0 6)).z k) - 1) C T (yCl_k φ μ) (yMl_k φ μm)
    · refine yBth.mk' (v := -2) (μ1 := μ) (μm1 := wSI μm 0 0 0) ?_ ?_ (yKC.rfl' _) (yKM_0 _ _)
      · unfold fX0_post wLet
        dsimp only
        rw [yc_isPost O F, yBd, yB1 g, yc_4, yBd, yB2 g1]
      · unfold fX6_post wLet
        dsimp only
        rw [ym_isPost O M1, yBd, yB1 g, ym_4, yBd, yB2 g1]
  · refine yBth.mk' (v := -2) (μ1 := μ) (μm1 := wSI μm 0 0 0) ?_ ?_ (yKC.rfl' _) (yKM_0 _ _)
    · unfold fX0_post wLet
      dsimp only
      rw [yc_isPost O F, yBd, yB2 g]
    · unfold fX6_post wLet
      dsimp only
      rw [ym_isPost O M1, yBd, yB2 g]
