set_option maxRecDepth 100000
/-! part 98: cross, loaf -/
theorem yFC_add {φ : Nat → Nat → Nat} {μ : wMem} (F : yFC φ μ) (a : Nat) : yFC (yAdd φ a) (wSI (wSI μ 7 (φ 0 6) (nI a)) 1 6 (nI (φ 0 6 + 1))) := by
  have e : ∀ i, i ≠ 6 → yAdd φ a 0 i = φ 0 i := fun i hi => yAdd_alk φ a 0 i (by decide) (fun _ => hi)
  refine ⟨?_, ?_, ?_, ?_, ?_, ?_, ?_⟩
  · intro i hi
    rw [yS_get, yS_get]
    by_cases h : i = 6
    · subst h; rw [if_pos ⟨rfl, rfl⟩, yAdd_n]
    · rw [if_neg (fun q => h q.2), if_neg (by simp), e i h]; exact F.fld i hi
  · intro i hi; rw [e 2 (by decide)] at hi; rw [yS_get, yS_get, if_neg (by simp), if_neg (by simp)]; exact F.like i hi
  · intro i hi; rw [e 2 (by decide)] at hi; rw [yS_get, yS_get, if_neg (by simp), if_neg (by simp)]; exact F.nose i hi
  · intro i hi; rw [e 3 (by decide)] at hi; rw [yS_get, yS_get, if_neg (by simp), if_neg (by simp)]; exact F.strict i hi
  · intro i hi; rw [e 3 (by decide)] at hi; rw [yS_get, yS_get, if_neg (by simp), if_neg (by simp)]; exact F.keen i hi
  · intro i hi; rw [e 3 (by decide)] at hi; rw [yS_get, yS_get, if_neg (by simp), if_neg (by simp)]; exact F.looks i hi
  · intro i hi
    have : i < φ 0 6 + 1 := hi
    rw [yS_get, yS_get, if_neg (by simp), yAdd_6]
    by_cases h : i = φ 0 6
    · rw [if_pos ⟨rfl, h⟩, if_pos h]
    · rw [if_neg (fun q => h q.2), if_neg h]; exact F.act i (by omega)
theorem yFM_add {φ : Nat → Nat → Nat} {μ : wMem} (F : yFM φ 0 μ) (a : Nat) : yFM (yAdd φ a) 0 (wSI (wSI μ 11 (φ 0 6) (nI a)) 7 6 (nI (φ 0 6 + 1))) := by
  have e : ∀ i, i ≠ 6 → yAdd φ a 0 i = φ 0 i := fun i hi => yAdd_alk φ a 0 i (by decide) (fun _ => hi)
  have s : ∀ c i, ¬ (c = 7 ∧ i = 6) → c ≠ 11 → (wSI (wSI μ 11 (φ 0 6) (nI a)) 7 6 (nI (φ 0 6 + 1))).1 c i = μ.1 c i := fun c i h h1 => by rw [yS_get, if_neg h, yS_get, if_neg (fun q => h1 q.1)]
  obtain ⟨⟨a0, a1, a2, a3, a4, a5, a6, a7⟩, b, c, d, g⟩ := F
  refine ⟨⟨?_, ?_, ?_, ?_, ?_, ?_, ?_, ?_⟩, ?_, ?_, ?_, ?_⟩
  · rw [s _ _ (by omega) (by omega)]; exact a0
  · rw [s _ _ (by omega) (by omega)]; exact a1
  · rw [s _ _ (by omega) (by omega)]; exact a2
  · rw [s _ _ (by omega) (by omega)]; exact a3
  · rw [s _ _ (by omega) (by omega)]; exact a4
  · rw [s _ _ (by omega) (by omega)]; exact a5
  · rw [yS_get, if_pos (by omega), yAdd_n]
  · rw [s _ _ (by omega) (by omega)]; exact a7
  · intro i hi; rw [e 2 (by decide)] at hi; rw [s _ _ (by omega) (by omega)]; exact b i hi
  · intro i hi; rw [e 2 (by decide)] at hi; rw [s _ _ (by omega) (by omega)]; exact c i hi
  · intro i hi; rw [e 3 (by decide)] at hi; rw [s _ _ (by omega) (by omega), s _ _ (by omega) (by omega), s _ _ (by omega) (by omega)]; exact d i hi
  · intro i hi
    have : i < φ 0 6 + 1 := hi
    rw [yS_get, if_neg (by omega), yS_get, yAdd_6]
    by_cases h : i = φ 0 6
    · rw [if_pos ⟨rfl, by omega⟩, if_pos h]
    · rw [if_neg (by omega), if_neg h]; exact g i (by omega)
theorem yPD_com (ν : wMem) (σ : ySt) (d r : Nat) {c : Nat} (h0 : c ≠ 0) (h9 : c ≠ 9) (j : Nat) (v : Int32) : wSI (yPut (yDR ν d r) σ) c j v = yPut (yDR (wSI ν c j v) d r) σ := by
  apply yM_ext
  · intro e i
    simp only [yPut, yDR, yS_get]
    repeat' split
    all_goals first | rfl | (exfalso; omega) | simp_all
  · rfl
theorem yLM_com (φ : Nat → Nat → Nat) (μ : wMem) {c : Nat} (h0 : c ≠ 0) (h13 : c ≠ 13) (j : Nat) (v : Int32) : ∀ n, yLM φ (wSI μ c j v) n = wSI (yLM φ μ n) c j v := by
  intro n
  apply yM_ext
  · intro e i
    by_cases h1 : e = 13 ∨ (e = 0 ∧ 28 ≤ i ∧ i ≤ 30)
    · induction n with
      | zero =>
        simp only [yLM, yS_get]
        repeat' split
        all_goals first | rfl | (exfalso; omega)
      | succ n ih =>
        show (if φ 6 n = 200 then _ else _ : wMem).1 e i = (wSI (if φ 6 n = 200 then _ else _ : wMem) c j v).1 e i
        rw [yS_get] at ih
        split
        · simp only [yS_get, ih]
          repeat' split
          all_goals first | rfl | (exfalso; omega)
        · simp only [yS_get, ih]
          repeat' split
          all_goals first | rfl | (exfalso; omega)
    · rw [yLM_o φ _ (by omega) (by omega), yS_get, yS_get, yLM_o φ _ (by omega) (by omega)]
  · rw [yLM_2]; show μ.2 = (yLM φ μ n).2; rw [yLM_2]
theorem yAlk.days {φ ψ : Nat → Nat → Nat} (h : yAlk φ ψ) : ∀ n, (∀ i, i < n → ψ 6 i = φ 6 i) → yDays ψ n = yDays φ n ∧ yRisks ψ n = yRisks φ n ∧ yCnt ψ n = yCnt φ n
  | 0, _ => ⟨rfl, rfl, rfl⟩
  | n + 1, g => by
    obtain ⟨a, b, c⟩ := yAlk.days h n (fun i hi => g i (by omega))
    refine ⟨?_, ?_, ?_⟩
    · show yDays ψ n + _ = yDays φ n + _
      rw [a, g n (by omega), h 0 0 (by decide) (by simp)]
    · show yRisks ψ n + _ = yRisks φ n + _
      unfold yRisk
      rw [b, g n (by omega), h 1 _ (by decide) (by simp), h 3 _ (by decide) (by simp)]
    · show yCnt ψ n + _ = yCnt φ n + _
      rw [c, g n (by omega)]
theorem yAlk.lm {φ ψ : Nat → Nat → Nat} (h : yAlk φ ψ) (μ : wMem) : ∀ n, (∀ i, i < n → ψ 6 i = φ 6 i) → yLM ψ μ n = yLM φ μ n
  | 0, _ => rfl
  | n + 1, g => by
    obtain ⟨a, b, c⟩ := yAlk.days h (n + 1) g
    obtain ⟨_, _, c'⟩ := yAlk.days h n (fun i hi => g i (by omega))
    show (if ψ 6 n = 200 then _ else _) = (if φ 6 n = 200 then _ else _)
    rw [yAlk.lm h μ n (fun i hi => g i (by omega)), a, b, c, c', g n (by omega), h.lay n (fun i hi => g i (by omega))]
/-- both put an act behind the others -/
theorem yq_add {φ : Nat → Nat → Nat} {μ μm : wMem} (O : yOk φ) (G : yGo φ) (F : yFC φ μ) (M : yFM φ 0 μm) (N : Nat) {a : Nat} (ha : yAct φ a) (hc : yCan φ (yLay φ (φ 0 6)) a = true) (h40 : φ 0 6 < 40) :
    ∃ v μ1 μm1, fX0_keeps N (nI a) (yCl φ μ) = some (v, μ1) ∧ fX6_adds N (nI a) (yMl φ μm) = some (v, μm1) ∧ yKC1 μ μ1 ∧ yKM1 μm μm1 ∧ yFC (yAdd φ a) μ1 ∧ yFM (yAdd φ a) 0 μm1 := by
  have A := yAdd_alk φ a
  have O' := A.ok O (by rw [yAdd_n]; omega)
  have G' := yAdd_go G ha hc
  have L := yLay_ok O G (φ 0 6) (Nat.le_refl _)
  have M1 := (yKM_0 μm 0).fm M
  have ag : ∀ i, i < φ 0 6 → yAdd φ a 6 i = φ 6 i := fun i hi => by rw [yAdd_6, if_neg (by omega)]
  obtain ⟨d1, d2, d3⟩ := A.days (φ 0 6) ag
  have l1 := A.lay (φ 0 6) ag
  have e6 : yAdd φ a 6 (φ 0 6) = a := by rw [yAdd_6, if_pos rfl]
  have Fl := (yCl_k φ μ).fc F
  have Ml := (yMl_k φ μm).fm M
  have t1 : nI (φ 0 6) + (1 : Int32) = nI (φ 0 6 + 1) := nI_add _ 1
  have Fa := yFC_add F a
  have Ma := yFM_add M1 a
  have ha' : yAct (yAdd φ a) a := by rw [A.act]; exact ha
  refine ⟨nI (yDays φ (φ 0 6) + (if a = 200 then yAdd φ a 0 0 else 1)),
    yPut (yDR (wSI (wSI μ 7 (φ 0 6) (nI a)) 1 6 (nI (φ 0 6 + 1))) (yDays φ (φ 0 6) + (if a = 200 then yAdd φ a 0 0 else 1)) (yRisks φ (φ 0 6) + (if a = 200 then 0 else yRisk (yAdd φ a) (a % 10) (a / 100)))) (yDo (yAdd φ a) (yLay φ (φ 0 6)) a),
    yTut (yLM (yAdd φ a) (wSI (wSI (wSI μm 0 0 0) 11 (φ 0 6) (nI a)) 7 6 (nI (φ 0 6 + 1))) (φ 0 6 + 1)) (yT (yAdd φ a) (yLay (yAdd φ a) (φ 0 6 + 1))), ?_, ?_, ?_, ?_, ?_, ?_⟩
  · unfold fX0_keeps wLet
    dsimp only
    have w6 : (wSI (yCl φ μ) 7 (φ 0 6) (nI a)).1 1 6 = nI (φ 0 6) := by rw [yS_get, if_neg (by simp)]; exact Fl.fld 6 (by decide)
    have mm : wSI (wSI (yCl φ μ) 7 (φ 0 6) (nI a)) 1 6 (nI (φ 0 6 + 1)) = yPut (yDR (wSI (wSI μ 7 (φ 0 6) (nI a)) 1 6 (nI (φ 0 6 + 1))) (yDays φ (φ 0 6)) (yRisks φ (φ 0 6))) (yLay φ (φ 0 6)) := by
      unfold yCl
      rw [yPD_com _ _ _ _ (by decide) (by decide), yPD_com _ _ _ _ (by decide) (by decide)]
    rw [Fl.fld 6 (by decide), yG (xI_in (by omega) (by omega)), xI_cl (by omega), w6, t1, mm, yc_does0 O' Fa (A.sok L) N ha', yBV, yDR_9]
  · unfold fX6_adds wLet
    dsimp only
    have q6 : (yMl φ μm).1 7 (Int32.toNatClampNeg (6 : Int32)) = nI (φ 0 6) := Ml.acts
    have c6 : Int32.toNatClampNeg (6 : Int32) = 6 := by decide
    have w6 : (wSI (yMl φ μm) 11 (φ 0 6) (nI a)).1 7 6 = nI (φ 0 6) := by rw [yS_get, if_neg (by simp)]; exact Ml.acts
    have mm : wSI (wSI (yMl φ μm) 11 (φ 0 6) (nI a)) 7 6 (nI (φ 0 6 + 1)) = yTut (yLM (yAdd φ a) (wSI (wSI (wSI μm 0 0 0) 11 (φ 0 6) (nI a)) 7 6 (nI (φ 0 6 + 1))) (φ 0 6)) (yT (yAdd φ a) (yLay (yAdd φ a) (φ 0 6))) := by
      have eT : yT (yAdd φ a) (yLay (yAdd φ a) (φ 0 6)) = yT φ (yLay φ (φ 0 6)) := by unfold yT; rw [l1, A 0 3 (by decide) (by simp)]
      rw [A.lm _ _ ag, eT, yLM_com _ _ (by decide) (by decide), yLM_com _ _ (by decide) (by decide)]
      unfold yMl
      rw [yTut_com _ _ (by omega), yTut_com _ _ (by omega)]
    have T := ym_goes O' Ma G' N (i := φ 0 6) (by rw [yAdd_n]; omega)
    rw [e6] at T
    have e28 : (yTut (yLM (yAdd φ a) (wSI (wSI (wSI μm 0 0 0) 11 (φ 0 6) (nI a)) 7 6 (nI (φ 0 6 + 1))) (φ 0 6 + 1)) (yT (yAdd φ a) (yLay (yAdd φ a) (φ 0 6 + 1)))).1 0 28 = nI (yDays φ (φ 0 6) + (if a = 200 then yAdd φ a 0 0 else 1)) := by
      rw [yTut_o _ _ (by omega), yLM_28]
      show nI (yDays (yAdd φ a) (φ 0 6) + _) = _
      rw [d1, e6]
    rw [q6, yG (show ok_in (6 : Int32) 35 = true by decide), yG (xI_in (by omega) (by omega)), xI_cl (by omega), yG (show ok_in (6 : Int32) 35 = true by decide), yG (show ok_in (6 : Int32) 35 = true by decide), c6, w6, t1, mm, T, yBV, e28]
  · exact ((yKC1_7 μ _ _).trans (yKC1_16 _ _)).trans ((yc_laid φ _ _ _ _).one)
  · exact (((yKM_0 μm 0).one.trans (yKM1_11 _ h40 _)).trans (yKM1_76 _ _)).trans ((ym_laid (yAdd φ a) _ _ _).one)
  · exact yFC_put (yFC_DR Fa _ _) _
  · exact yFM_put (yFM_LM Ma _) _
