set_option maxRecDepth 100000
/-! part 996: lies -/
theorem yStp_le {φ : Nat → Nat → Nat} (O : yOk φ) (G : yGo φ) (j : Nat) : ∀ i, i ≤ φ 0 6 → yStp φ i j ≤ 21
  | 0, _ => Nat.zero_le _
  | i + 1, h => by
    have hl := (G i (by omega)).1.le
    have S := (yLay_ok O G i (by omega)).sd
    have ih := yStp_le O G j i (by omega)
    show (if φ 6 i ≠ 200 ∧ j = yCnt φ i then 10 * (φ 6 i / 100) + (yLay φ i).sd else yStp φ i j) ≤ 21
    split
    · omega
    · exact ih
/-- the lies among the first j stamps -/
def yLs (φ : Nat → Nat → Nat) : Nat → Nat
  | 0 => 0
  | j + 1 => yLs φ j + (if j ≠ 0 ∧ yStp φ (φ 0 6) j % 10 = yStp φ (φ 0 6) (j - 1) % 10 then 1 else 0)
theorem yLs_le (φ : Nat → Nat → Nat) : ∀ j, yLs φ j ≤ j
  | 0 => Nat.le_refl _
  | j + 1 => by
    have := yLs_le φ j
    show yLs φ j + _ ≤ _
    split <;> omega
def yLl (φ : Nat → Nat → Nat) : Nat → Int32
  | 0 => -1
  | j + 1 => nI (yStp φ (φ 0 6) j % 10)
def yLL (μ : wMem) (m : Nat) (l : Int32) : wMem := wSI (wSI μ 0 11 (nI m)) 0 12 l
theorem yLL_11 (μ : wMem) (σ : ySt) (m : Nat) (l : Int32) : (yPut (yLL μ m l) σ).1 0 11 = nI m := by
  rw [yPut_o _ _ (by simp) (by simp)]; simp [yLL, yS_get]
theorem yLL_12 (μ : wMem) (σ : ySt) (m : Nat) (l : Int32) : (yPut (yLL μ m l) σ).1 0 12 = l := by
  rw [yPut_o _ _ (by simp) (by simp)]; simp [yLL, yS_get]
theorem yLL_s11 (μ : wMem) (σ : ySt) (m v : Nat) (l : Int32) : wSI (yPut (yLL μ m l) σ) 0 11 (nI v) = yPut (yLL μ v l) σ := by
  apply yM_ext
  · intro c i
    simp only [yPut, yLL, yS_get]
    repeat' split
    all_goals first | rfl | (exfalso; omega) | simp_all
  · rfl
theorem yLL_s12 (μ : wMem) (σ : ySt) (m : Nat) (l v : Int32) : wSI (yPut (yLL μ m l) σ) 0 12 v = yPut (yLL μ m v) σ := by
  apply yM_ext
  · intro c i
    simp only [yPut, yLL, yS_get]
    repeat' split
    all_goals first | rfl | (exfalso; omega) | simp_all
  · rfl
theorem yLL_0 (μ : wMem) (σ : ySt) (l : Int32) : wSI (wSI (yPut μ σ) 0 11 (nI 0)) 0 12 l = yPut (yLL μ 0 l) σ := by
  apply yM_ext
  · intro c i
    simp only [yPut, yLL, yS_get]
    repeat' split
    all_goals first | rfl | (exfalso; omega) | simp_all
  · rfl
theorem yFC_LL {φ : Nat → Nat → Nat} {μ : wMem} (h : yFC φ μ) (m : Nat) (l : Int32) : yFC φ (yLL μ m l) := yFC_of h fun c h1 _ i => by
  simp only [yLL, yS_get]
  simp [show c ≠ 0 by omega]
theorem yKC_LL (μ : wMem) (m : Nat) (l : Int32) : yKC μ (yLL μ m l) := fun c i a b => ⟨by
  simp only [yLL, yS_get]
  repeat' split
  all_goals first | rfl | (exfalso; have := a (by omega); omega), rfl⟩
theorem yc_lies_loop {φ : Nat → Nat → Nat} {μ : wMem} (O : yOk φ) (F : yFC φ μ) (G : yGo φ) (N : Nat) (K : wMem → Option (Int32 × wMem)) : ∀ (n M k : Nat), n < M → k + n = φ 0 6 →
    gX0_lies_26 N K M (nI k) (yPut (yLL μ (yLs φ (yCnt φ k)) (yLl φ (yCnt φ k))) (yLay φ k)) = K (yPut (yLL μ (yLs φ (yCnt φ (φ 0 6))) (yLl φ (yCnt φ (φ 0 6)))) (yLay φ (φ 0 6))) := by
  have h40 := O.acts
  have f6 : ∀ m l σ, (yPut (yLL μ m l) σ).1 1 6 = nI (φ 0 6) := fun m l σ => by rw [yPut_c _ _ (by decide) (by decide)]; exact (yFC_LL F m l).fld 6 (by decide)
  intro n
  induction n with
  | zero =>
    intro M k hM hk
    obtain ⟨M, rfl⟩ : ∃ q, M = q + 1 := ⟨M - 1, by omega⟩
    show gbX0_lies_26 N K _ _ _ = _
    unfold gbX0_lies_26
    rw [f6, yIf (xI_le (by omega) (by omega)), if_pos (by omega)]
    have : k = φ 0 6 := by omega
    rw [this]
  | succ n ih =>
    intro M k hM hk
    obtain ⟨M, rfl⟩ : ∃ q, M = q + 1 := ⟨M - 1, by omega⟩
    obtain ⟨hA, hC⟩ := G k (by omega)
    have hl := hA.le
    have S := yLay_ok O G k (by omega)
    have hsd := S.sd
    have fa : ∀ m l σ, (yPut (yLL μ m l) σ).1 7 k = nI (φ 6 k) := fun m l σ => by rw [yPut_c _ _ (by decide) (by decide)]; exact (yFC_LL F m l).act k (by omega)
    have ek : nI k + (1 : Int32) = nI (k + 1) := nI_add k 1
    have nx := ih M (k + 1) (by omega) (by omega)
    have cs := yCnt_step φ k
    have by' : fX0_liesBy N (nI (φ 6 k)) (yPut (yLL μ (yLs φ (yCnt φ k)) (yLl φ (yCnt φ k))) (yLay φ k)) = some (yPut (yLL μ (yLs φ (yCnt φ (k + 1))) (yLl φ (yCnt φ (k + 1)))) (yLay φ k)) := by
      unfold fX0_liesBy wLet
      dsimp only
      rw [yIf (xI_e200 (by omega))]
      by_cases g : φ 6 k = 200
      · rw [if_pos g] at cs ⊢
        have e : yCnt φ (k + 1) = yCnt φ k := by omega
        rw [e]
      · rw [if_neg g] at cs ⊢
        have at' := yStp_at φ g n
        have e : k + 1 + n = φ 0 6 := by omega
        rw [e] at at'
        have m10 : yStp φ (φ 0 6) (yCnt φ k) % 10 = (yLay φ k).sd := by rw [at']; omega
        have l1 : yLl φ (yCnt φ k + 1) = nI (yLay φ k).sd := by show nI (yStp φ (φ 0 6) (yCnt φ k) % 10) = _; rw [m10]
        have s1 : yLs φ (yCnt φ k + 1) = yLs φ (yCnt φ k) + (if yCnt φ k ≠ 0 ∧ yStp φ (φ 0 6) (yCnt φ k) % 10 = yStp φ (φ 0 6) (yCnt φ k - 1) % 10 then 1 else 0) := rfl
        rw [cs, l1, s1, m10, yLL_11, yLL_12, yPut_6]
        have w6 : ∀ m l v, (wSI (yPut (yLL μ m l) (yLay φ k)) 0 11 v).1 0 6 = nI (yLay φ k).sd := fun m l v => by rw [yS_get, if_neg (by omega), yPut_6]
        rw [w6, w6]
        have t1 : nI (yLs φ (yCnt φ k)) + (1 : Int32) = nI (yLs φ (yCnt φ k) + 1) := nI_add _ 1
        have t0 : nI (yLs φ (yCnt φ k)) + (0 : Int32) = nI (yLs φ (yCnt φ k) + 0) := nI_add _ 0
        rw [t1, t0, yLL_s11, yLL_s11, yLL_s12, yLL_s12]
        have cond : (yLl φ (yCnt φ k) = nI (yLay φ k).sd) = (yCnt φ k ≠ 0 ∧ (yLay φ k).sd = yStp φ (φ 0 6) (yCnt φ k - 1) % 10) := by
          apply propext
          cases hq : yCnt φ k with
          | zero =>
            constructor
            · intro h; exact absurd h.symm (xI_ne_m1 (by omega))
            · intro h; exact absurd rfl h.1
          | succ j =>
            show (nI (yStp φ (φ 0 6) j % 10) = nI (yLay φ k).sd) ↔ _
            rw [nI_eq (by omega) (by omega)]
            show _ ↔ _ ∧ (yLay φ k).sd = yStp φ (φ 0 6) j % 10
            omega
        rw [yIf cond]
        by_cases c : yCnt φ k ≠ 0 ∧ (yLay φ k).sd = yStp φ (φ 0 6) (yCnt φ k - 1) % 10
        · rw [if_pos c, if_pos c]
        · rw [if_neg c, if_neg c]
    show gbX0_lies_26 N K _ _ _ = _
    unfold gbX0_lies_26
    rw [f6, yIf (xI_le (by omega) (by omega)), if_neg (by omega), yG (xI_in (by omega) (by omega)), xI_cl (by omega), fa, by', yBV, yG (xI_in (by omega) (by omega)), fa, yc_does O (yFC_LL F _ _) S N hA, yBV]
    unfold wLet
    rw [ek]
    exact nx
theorem ym_lies_loop {φ : Nat → Nat → Nat} {μ : wMem} (O : yOk φ) (G : yGo φ) (h30 : μ.1 0 30 = nI (yCnt φ (φ 0 6))) (h13 : ∀ j, j < yCnt φ (φ 0 6) → μ.1 13 j = nI (yStp φ (φ 0 6) j)) (N : Nat) (K : Int32 → wMem → Option (Int32 × wMem)) : ∀ (n M i : Nat), n < M → 1 ≤ i → i + n = yCnt φ (φ 0 6) →
    gX6_liesNow_4 N K M (nI (yLs φ i)) (nI i) μ = K (nI (yLs φ (yCnt φ (φ 0 6)))) μ := by
  have cl := yCnt_lt O (i := φ 0 6) (Nat.le_refl _)
  intro n
  induction n with
  | zero =>
    intro M i hM h1 hi
    obtain ⟨M, rfl⟩ : ∃ q, M = q + 1 := ⟨M - 1, by omega⟩
    show gbX6_liesNow_4 N K _ _ _ μ = _
    unfold gbX6_liesNow_4
    rw [h30, yIf (xI_le (by omega) (by omega)), if_pos (by omega)]
    have : i = yCnt φ (φ 0 6) := by omega
    rw [← this]
  | succ n ih =>
    intro M i hM h1 hi
    obtain ⟨M, rfl⟩ : ∃ q, M = q + 1 := ⟨M - 1, by omega⟩
    have ei : nI i + (1 : Int32) = nI (i + 1) := nI_add i 1
    have nx := ih M (i + 1) (by omega) (by omega) (by omega)
    have b1 := yStp_le O G i (φ 0 6) (Nat.le_refl _)
    have b2 := yStp_le O G (i - 1) (φ 0 6) (Nat.le_refl _)
    have s1 : yLs φ (i + 1) = yLs φ i + (if i ≠ 0 ∧ yStp φ (φ 0 6) i % 10 = yStp φ (φ 0 6) (i - 1) % 10 then 1 else 0) := rfl
    have t1 : nI (yLs φ i) + (1 : Int32) = nI (yLs φ i + 1) := nI_add _ 1
    have t0 : nI (yLs φ i) + (0 : Int32) = nI (yLs φ i + 0) := nI_add _ 0
    show gbX6_liesNow_4 N K _ _ _ μ = _
    unfold gbX6_liesNow_4 wLet
    dsimp only
    rw [h30, yIf (xI_le (by omega) (by omega)), if_neg (by omega), yG (xI_in (by omega) (by omega)), xI_pred (by omega), yG (xI_in (by omega) (by omega)), xI_cl (by omega), xI_cl (by omega), h13 i (by omega), h13 (i - 1) (by omega),
      xI_r10 (by omega), xI_r10 (by omega), yIf (xI_e (by omega) (by omega)), ei, t1, t0]
    by_cases c : yStp φ (φ 0 6) i % 10 = yStp φ (φ 0 6) (i - 1) % 10
    · rw [if_pos ⟨by omega, c⟩] at s1
      rw [if_pos c, ← s1]
      exact nx
    · rw [if_neg (fun q => c q.2)] at s1
      rw [if_neg c, ← s1]
      exact nx
theorem yq_lies {φ : Nat → Nat → Nat} {μ μm : wMem} (O : yOk φ) (G : yGo φ) (F : yFC φ μ) (M : yFM φ 0 μm) {N : Nat} (hN : 42 ≤ N) : yBth (fX0_lies N) (fX6_lies N) μ μm := by
  have h40 := O.acts
  have M1 := (yKM_0 μm 0).fm M
  have lm : fX6_lays N (wSI μm 0 0 0) = some (yMl φ μm) := ym_lay O M1 G (by omega)
  have m30 : (yMl φ μm).1 0 30 = nI (yCnt φ (φ 0 6)) := by unfold yMl; rw [yTut_o _ _ (by omega), yLM_30]
  have m13 : ∀ j, j < yCnt φ (φ 0 6) → (yMl φ μm).1 13 j = nI (yStp φ (φ 0 6) j) := fun j hj => by unfold yMl; rw [yTut_c _ _ (by decide)]; exact yLM_13 φ _ _ _ hj
  have cl := yCnt_lt O (i := φ 0 6) (Nat.le_refl _)
  have ln : fX6_liesNow N (yMl φ μm) = some (nI (yLs φ (yCnt φ (φ 0 6))), yMl φ μm) := by
    unfold fX6_liesNow
    by_cases z : yCnt φ (φ 0 6) = 0
    · obtain ⟨N, rfl⟩ : ∃ q, N = q + 1 := ⟨N - 1, by omega⟩
      show gbX6_liesNow_4 _ _ _ _ _ _ = _
      unfold gbX6_liesNow_4
      rw [m30, z, if_pos (by decide)]
      rfl
    · exact ym_lies_loop O G m30 m13 N (fun x11 μ10 => some (x11, μ10)) (yCnt φ (φ 0 6) - 1) N 1 (by omega) (by omega) (by omega)
  by_cases g : φ 0 1 ≠ 0
  · refine yBth.mk' (v := nI (yLs φ (yCnt φ (φ 0 6)))) (μ1 := yPut (yLL μ (yLs φ (yCnt φ (φ 0 6))) (yLl φ (yCnt φ (φ 0 6)))) (yLay φ (φ 0 6))) (μm1 := yMl φ μm) ?_ ?_ ((yKC_LL _ _ _).trans (yKC_put _ _)) (yMl_k φ μm)
    · unfold fX0_lies wLet
      rw [yc_isFamily O F, yBd, yB1 g, yc_first, yBV]
      show gX0_lies_26 N _ N (nI 0) (wSI (wSI (yPut μ yFirst) 0 11 (nI 0)) 0 12 (-1)) = _
      rw [yLL_0]
      refine (yc_lies_loop O F G N (fun μ17 => some (μ17.1 0 11, μ17)) (φ 0 6) N 0 (by omega) (by omega)).trans ?_
      rw [yLL_11]
    · unfold fX6_lies wLet
      dsimp only
      rw [ym_isFamily O M1, yBd, yB1 g, lm, yBV, ln, yBd]
  · refine yBth.mk' (v := -2) (μ1 := μ) (μm1 := wSI μm 0 0 0) ?_ ?_ (yKC.rfl' _) (yKM_0 _ _)
    · unfold fX0_lies
      rw [yc_isFamily O F, yBd, yB2 g]
    · unfold fX6_lies wLet
      dsimp only
      rw [ym_isFamily O M1, yBd, yB2 g]
