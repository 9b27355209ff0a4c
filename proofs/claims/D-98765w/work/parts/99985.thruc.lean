set_option maxRecDepth 100000
/-! part 99985: goesThrough, joined -/
theorem yc_all {φ : Nat → Nat → Nat} {μ : wMem} (O : yOk φ) (F : yFC φ μ) (N : Nat) : fX0_all N μ = some (nI (2 ^ φ 0 2 - 1), μ) := by
  have p0 : 0 < 2 ^ φ 0 2 := Nat.pow_pos (by decide)
  unfold fX0_all
  rw [F.fld 2 (by decide), yAll_set _ O.persons]
  have : nI (2 ^ φ 0 2) - 1 = nI (2 ^ φ 0 2 - 1) := xI_sub (b := 1) (by omega)
  rw [this]
theorem yc_goesThrough {φ : Nat → Nat → Nat} (O : yOk φ) {w : Nat → Nat} {n c0 t : Nat} {μ : wMem} (F : yFC φ μ) (X : yWn φ w n μ c0 t) (h28 : μ.1 0 28 = nI n) {N : Nat} (hN : 50000 ≤ N) (a1 : Int32) :
    ∃ ν τ, fX0_goesThrough N c0 t n a1 μ = some (yPut ν τ) ∧ yKC μ ν ∧ ν.1 0 28 = nI n ∧ yWy (yGa φ w n) ν ∧ ν.1 0 29 = nI (yAnd φ w n 3136) ∧ ν.1 0 30 = nI (yOrr φ w n 3136) ∧ ∀ j, j < n → ν.1 18 j = nI (yHs φ w n j 3136) := by
  have n12 := X.2.1
  unfold fX0_goesThrough
  generalize hK : (fun (μ9 : wMem) => wBindV (fX0_asAtFirst N μ9) fun μ11 => _) = K
  obtain ⟨ν1, j1, j2, j3, j4⟩ := yc_through_2 (N := N) (c0 := c0) (t := t) (n := n) a1 K 40768 N 0 μ (by omega) rfl (fun y hy => absurd hy (by omega))
  have kc1 : yKC μ ν1 := fun c i a b => ⟨j3 c i (by omega) (by omega), j4 c i (by omega)⟩
  have sc0 : ∀ ν, fX0_scene N (yPut ν yFirst) = some (nI 0, yPut ν yFirst) := fun ν => yc_scene O (yFirst_ok φ) ν N
  have kk : yKe ν1 (wSI (wSL ν1 15 0 (1 : Int64)) 16 0 (0 : Int32)) := ⟨fun c i a _ _ => by rw [yS_get, if_neg (fun z => a z.1)]; rfl, fun c i a => by
    show (wSL ν1 15 0 (1 : Int64)).2 c i = _
    rw [yL_get, if_neg (fun z => a z.1)]⟩
  have Y0 : yWy (yGa φ w 0) (wSI (wSL ν1 15 0 (1 : Int64)) 16 0 (0 : Int32)) := fun j κ a b => by
    have h := j2 (3136 * j + κ) (by omega)
    have ga : yGa φ w 0 j κ = if j = 0 ∧ κ = 0 then [0] else [] := by
      unfold yGa
      by_cases q : j = 0
      · rw [if_pos (by omega), q]
        show (if κ = 0 then [0] else []) = _
        by_cases g : κ = 0
        · rw [if_pos g, if_pos ⟨rfl, g⟩]
        · rw [if_neg g, if_neg (fun z => g z.2)]
      · rw [if_neg (by omega), if_neg (fun z => q z.1)]
    rw [yS_get, ga]
    show (wSL ν1 15 0 (1 : Int64)).2 15 _ = _ ∧ (if _ then _ else ν1.1 16 _) = _
    rw [yL_get, h.1, h.2.1]
    by_cases q : j = 0 ∧ κ = 0
    · rw [if_pos q, if_pos (by omega), if_pos (by omega)]
      exact ⟨rfl, rfl⟩
    · rw [if_neg q, if_neg (by omega), if_neg (by omega)]
      exact ⟨rfl, rfl⟩
  have L0 : ∀ y, y < 40768 → (wSI (wSL ν1 15 0 (1 : Int64)) 16 0 (0 : Int32)).1 17 y = nI 0 := fun y hy => by
    rw [yS_get, if_neg (by omega)]
    exact (j2 y hy).2.2
  have kc2 : yKC μ (wSI (wSL ν1 15 0 (1 : Int64)) 16 0 (0 : Int32)) := kc1.trans kk.kc
  have h282 : (wSI (wSL ν1 15 0 (1 : Int64)) 16 0 (0 : Int32)).1 0 28 = nI n := by
    rw [kk.1 0 28 (by decide) (by decide) (by decide), j3 0 28 (by decide) (by decide)]
    exact h28
  have sL : wSL (yPut ν1 yFirst) 15 0 (1 : Int64) = yPut (wSL ν1 15 0 (1 : Int64)) yFirst := rfl
  have sI : wSI (yPut (wSL ν1 15 0 (1 : Int64)) yFirst) 16 0 (0 : Int32) = yPut (wSI (wSL ν1 15 0 (1 : Int64)) 16 0 (0 : Int32)) yFirst := yPut_sc _ _ (by decide) (by decide) _ _
  generalize hρ : wSI (wSL ν1 15 0 (1 : Int64)) 16 0 (0 : Int32) = ρ at *
  generalize hK2 : (fun (μ35 : wMem) => wBind (fX0_all N μ35) fun v38 μ37 => _) = K2 at hK
  obtain ⟨ν2, τ2, k1, k2, k3⟩ := yc_through_66 O F X (N := N) (by omega) a1 K2 n N 0 ρ yFirst (by omega) (by omega) kc2 h282 Y0
  have kc3 := kc2.trans k3.kc
  have h283 : ν2.1 0 28 = nI n := by rw [k3.1 0 28 (by decide) (by decide) (by decide)]; exact h282
  have L2 : yWl (yLaz φ w n n 0) ν2 := fun j κ a b => by
    rw [k3.1 17 _ (by decide) (by decide) (fun z => absurd z (by decide)), L0 _ (by omega)]
    unfold yLaz
    by_cases q : n < j ∨ j = n ∧ κ < 0
    · have : yLfz φ w n j κ = false := by
        unfold yLfz
        rw [decide_eq_false (by omega)]
        rfl
      rw [if_pos q, this, if_neg (by decide)]
    · rw [if_neg q, if_neg (by decide)]
  have s29 : wSI (yPut ν2 τ2) 0 29 (nI (2 ^ φ 0 2 - 1)) = yPut (wSI ν2 0 29 (nI (2 ^ φ 0 2 - 1))) τ2 := yPut_s0 _ _ (by decide) _
  have s30 : wSI (yPut (wSI ν2 0 29 (nI (2 ^ φ 0 2 - 1))) τ2) 0 30 (0 : Int32) = yPut (wSI (wSI ν2 0 29 (nI (2 ^ φ 0 2 - 1))) 0 30 (0 : Int32)) τ2 := yPut_s0 _ _ (by decide) _
  have g17 : ∀ c j, (c = 0 → j ≠ 29 ∧ j ≠ 30) → (wSI (wSI ν2 0 29 (nI (2 ^ φ 0 2 - 1))) 0 30 (0 : Int32)).1 c j = ν2.1 c j := fun c j h => by
    rw [yS_get, if_neg (fun z => (h z.1).2 z.2), yS_get, if_neg (fun z => (h z.1).1 z.2)]
  generalize hK3 : (fun (μ56 : wMem) => wLet ((μ56.1 0 28) - (1 : Int32) : Int32) fun x57 => _) = K3 at hK2
  obtain ⟨ν3, m1, m2, m3, m4, m5⟩ := yc_through_132 O n12 X.2.2.2 (c0 := c0) (t := t) (N := N) a1 K3 τ2 3136 N 0 (wSI (wSI ν2 0 29 (nI (2 ^ φ 0 2 - 1))) 0 30 (0 : Int32)) (by omega) rfl (by rw [g17 0 28 (by decide)]; exact h283) (fun j κ a b => by
    rw [g17 16 _ (fun z => absurd z (by decide))]
    exact k2 j κ a b) (fun j κ a b => by
    rw [g17 17 _ (fun z => absurd z (by decide))]
    exact L2 j κ a b) (by rw [yS_get, if_neg (by decide), yS_get, if_pos ⟨rfl, rfl⟩]; rfl) (by rw [yS_get, if_pos ⟨rfl, rfl⟩]; rfl)
  have kc4 : yKC μ ν3 := kc3.trans fun c i a b => ⟨by rw [m5.2 c i (by omega) (by omega), g17 c i (by omega)], by rw [m5.1]; rfl⟩
  have h284 : ν3.1 0 28 = nI n := by rw [m5.2 0 28 (by decide) (by decide), g17 0 28 (by decide)]; exact h283
  obtain ⟨ν4, τ4, p1, p2, p3⟩ := yc_through_219 O F X (N := N) (by omega) a1 (fun (μ73 : wMem) => some μ73) n N ν3 τ2 (by omega) (Nat.le_refl _) kc4 h284 (fun j κ a b => by
    rw [m5.1, m5.2 16 _ (by decide) (fun z => absurd z (by decide)), g17 16 _ (fun z => absurd z (by decide))]
    exact k2 j κ a b) m2 (fun j a b => absurd b (by omega))
  refine ⟨ν4, τ4, ?_, kc4.trans p3.kc, ?_, ?_, ?_, ?_, p2⟩
  · refine Eq.trans j1 ?_
    rw [← hK]
    show wBindV (fX0_asAtFirst N ν1) _ = _
    rw [yc_first, yBV, sc0, yBd, yG (xI_in (by omega) (by decide)), yWL, xI_cl (by decide), sL, sc0, yBd, yG (xI_in (by omega) (by decide)), yWL, xI_cl (by decide), sI]
    refine Eq.trans k1 ?_
    rw [← hK2]
    show wBind (fX0_all N (yPut ν2 τ2)) _ = _
    rw [yc_all O (yFC_put (kc3.fc F) τ2), yBd, yWL, s29, yWL, s30]
    refine Eq.trans m1 ?_
    rw [← hK3]
    show wLet ((yPut ν3 τ2).1 0 28 - (1 : Int32)) _ = _
    rw [yWL, yPut_o ν3 τ2 (by omega) (by decide), h284]
    exact p1
  · rw [p3.2 0 28 (by decide) (by decide) (by decide) (by decide)]; exact h284
  · refine p3.wy fun j κ a b => ?_
    rw [m5.1, m5.2 16 _ (by decide) (fun z => absurd z (by decide)), g17 16 _ (fun z => absurd z (by decide))]
    exact k2 j κ a b
  · rw [p3.2 0 29 (by decide) (by decide) (by decide) (by decide)]; exact m3
  · rw [p3.2 0 30 (by decide) (by decide) (by decide) (by decide)]; exact m4
