set_option maxRecDepth 100000
/-! part 99991: the twin's completes: a scene's acts -/
def yHolds (x : Nat) (L : List (Nat × Nat)) (ν : wMem) : Prop := ν.2 18 x = lN L.length ∧ ν.1 19 x = nI (yMnT 2000000000 L) ∧ ν.1 20 x = nI (yAnT 63 L) ∧ ν.1 21 x = nI (yOrT 0 L)
/-- where a scene is done, so are its next ones -/
def yNxt (φ : Nat → Nat → Nat) (w : Nat → Nat) (n j κ : Nat) (ν : wMem) : Prop := j < n → ∀ e, yOz φ w j κ e = true → ν.2 18 (3136 * (j + 1) + yTz φ (yNz φ w j κ e)) ≠ -1
theorem lN_m1 {a : Nat} (h : a < 2 ^ 63) : lN a ≠ -1 := fun z => by
  have := congrArg Int64.toInt z
  rw [lN_toInt63 h, show (-1 : Int64).toInt = -1 by decide] at this
  omega
def yIv (φ : Nat → Nat → Nat) (w : Nat → Nat) (n i : Nat) (ν : wMem) : Prop := ∀ j κ, i ≤ j → j ≤ n → κ < 3136 → ν.2 18 (3136 * j + κ) = -1 ∨ (yHolds (3136 * j + κ) (yWz φ w n (n - j) κ) ν ∧ yNxt φ w n j κ ν)
/-- all but the memo -/
def yKqz (μ ν : wMem) : Prop := (∀ c j, c ≠ 19 → c ≠ 20 → c ≠ 21 → ν.1 c j = μ.1 c j) ∧ ∀ c j, c ≠ 18 → ν.2 c j = μ.2 c j
theorem yKqz.rfl' (μ : wMem) : yKqz μ μ := ⟨fun _ _ _ _ _ => rfl, fun _ _ _ => rfl⟩
theorem yKqz.trans {μ ν ρ : wMem} (h : yKqz μ ν) (g : yKqz ν ρ) : yKqz μ ρ := ⟨fun c j a b d => (g.1 c j a b d).trans (h.1 c j a b d), fun c j a => (g.2 c j a).trans (h.2 c j a)⟩
theorem yKqz_fm {φ : Nat → Nat → Nat} {μ ν : wMem} (F : yFM φ 0 μ) (k : yKqz μ ν) : yFM φ 0 ν := yFM_of F fun c _ h2 i => k.1 c i (by omega) (by omega) (by omega)
theorem yKqz_L {μ ν : wMem} (k : yKqz μ ν) (x : Nat) (v : Int64) : yKqz μ (wSL ν 18 x v) := ⟨k.1, fun c j a => by rw [yL_get, if_neg (fun z => a z.1)]; exact k.2 c j a⟩
/-- the memo of other places is as it was -/
def yFq (p : Nat → Prop) (μ ν : wMem) : Prop := ∀ y, p y → ν.2 18 y = μ.2 18 y ∧ ν.1 19 y = μ.1 19 y ∧ ν.1 20 y = μ.1 20 y ∧ ν.1 21 y = μ.1 21 y
theorem yFq.holds {p : Nat → Prop} {μ ν : wMem} (h : yFq p μ ν) {y : Nat} (hp : p y) {L : List (Nat × Nat)} (H : yHolds y L μ) : yHolds y L ν := by
  obtain ⟨a, b, c, d⟩ := h y hp
  exact ⟨a.trans H.1, b.trans H.2.1, c.trans H.2.2.1, d.trans H.2.2.2⟩
theorem yFq.trans {p q r : Nat → Prop} {μ ν ρ : wMem} (h : yFq p μ ν) (g : yFq q ν ρ) (e : ∀ y, r y → p y ∧ q y) : yFq r μ ρ := fun y hy => by
  obtain ⟨a, b, c, d⟩ := h y (e y hy).1
  obtain ⟨a2, b2, c2, d2⟩ := g y (e y hy).2
  exact ⟨a2.trans a, b2.trans b, c2.trans c, d2.trans d⟩
theorem yTut_sc (ν : wMem) (τ : ySt) {c : Nat} (h0 : c ≠ 0) (j : Nat) (v : Int32) : wSI (yTut ν τ) c j v = yTut (wSI ν c j v) τ := by
  refine yM_ext (fun c2 i2 => ?_) rfl
  rw [yS_get]
  by_cases z : c2 = c
  · subst z
    rw [yTut_c _ _ h0, yTut_c _ _ h0, yS_get]
  · rw [if_neg (fun y => z y.1)]
    simp only [yTut, yS_get]
    simp [z]
theorem yU_sc (ν : wMem) (κ s m : Nat) {c : Nat} (h0 : c ≠ 0) (j : Nat) (v : Int32) : wSI (yU ν κ s m) c j v = yU (wSI ν c j v) κ s m := yTut_sc _ _ h0 _ _
theorem yU_re (ν : wMem) (κ κ2 s m : Nat) : wSI (wSI (wSI (yU ν κ2 s m) 0 23 (nI (κ / 49))) 0 25 (nI (κ / 7 % 7))) 0 26 (nI (κ % 7)) = yU ν κ s m := by
  unfold yU
  rw [yTut_s23, yTut_s25, yTut_s26]
  rfl
/-- what a call of completes at the stamp i does -/
def yCp (φ : Nat → Nat → Nat) (w : Nat → Nat) (n i0 : Nat) (μ0 : wMem) (i : Nat) (R : Int32 → Int32 → wMem → Option (Int32 × wMem)) : Prop :=
  ∀ κ s m ν, yVz φ κ → (φ 0 3 ≤ 1 → κ % 7 = 0) → yKqz μ0 ν → yIv φ w n i ν → ∃ ν1 s1 m1, R (nI i0) (nI i) (yU ν κ s m) = some (nI (3136 * i + κ), yU ν1 κ s1 m1) ∧ yKqz ν ν1 ∧ yIv φ w n i ν1 ∧ yHolds (3136 * i + κ) (yWz φ w n (n - i) κ) ν1 ∧ yFq (fun y => y < 3136 * i) ν ν1 ∧ yNxt φ w n i κ ν1 ∧ ∀ y, ν.2 18 y ≠ -1 → ν1.2 18 y ≠ -1
def yFz2 (φ : Nat → Nat → Nat) (w : Nat → Nat) (n i κ p c : Nat) : List (Nat × Nat) := if yOz φ w i κ (10 * c + p) = true then (yWz φ w n (n - (i + 1)) (yTz φ (yNz φ w i κ (10 * c + p)))).map fun x => (x.1, yRz φ w i (10 * c + p) + x.2) else []
theorem ym_comp_173 {φ : Nat → Nat → Nat} (O : yOk φ) {w : Nat → Nat} {n i0 i κ p : Nat} {μ0 : wMem} (F : yFM φ 0 μ0) (n12 : n ≤ 12) (hi : i < n) (hw : ∀ j, w j % 10 < 2) (hk : w i / 10 < φ 0 3) (hp : p < φ 0 2) (V : yVz φ κ) (hT : φ 0 3 ≤ 1 → κ % 7 = 0) (fit : yFit (φ 5 (w i / 10)) (w i % 10) (yMz w i) = true) {N : Nat} (R : Int32 → Int32 → wMem → Option (Int32 × wMem)) (hR : yCp φ w n i0 μ0 (i + 1) R) (K : wMem → Option (Int32 × wMem)) (Lp : List (Nat × Nat)) : ∀ (d M c : Nat) (ν : wMem) (s m : Nat), d < M → c + d = φ 0 2 + 1 → yKqz μ0 ν → yIv φ w n (i + 1) ν → yHolds (3136 * i + κ) (Lp ++ yQm c (yFz2 φ w n i κ p)) ν →
    ∃ ν1 s1 m1, gX6_completes_173 N R (nI i0) (nI i) (nI (3136 * i + κ)) (nI (w i / 10)) (nI (w i % 10)) (nI (κ / 49)) (nI (κ / 7 % 7)) (nI (κ % 7)) (nI p) K M (nI c - 1) (yU ν κ s m) = K (yU ν1 κ s1 m1) ∧ yKqz ν ν1 ∧ yIv φ w n (i + 1) ν1 ∧ yHolds (3136 * i + κ) (Lp ++ yQm (φ 0 2 + 1) (yFz2 φ w n i κ p)) ν1 ∧ yFq (fun y => y < 3136 * (i + 1) ∧ y ≠ 3136 * i + κ) ν ν1 ∧ (∀ c2, c ≤ c2 → c2 ≤ φ 0 2 → yOz φ w i κ (10 * c2 + p) = true → ν1.2 18 (3136 * (i + 1) + yTz φ (yNz φ w i κ (10 * c2 + p))) ≠ -1) ∧ ∀ y, y ≠ 3136 * i + κ → ν.2 18 y ≠ -1 → ν1.2 18 y ≠ -1 := by
  have h6 := O.persons
  have h22 := O.posts
  have hκ := yVz_lt O V
  have hch := O.children
  have hwi := hw i
  have bl : ∀ a b, yBit a b < 2 := yBit_lt
  obtain ⟨z, hzd⟩ : ∃ z, z = if w i / 10 = 0 then κ / 7 % 7 else κ % 7 := ⟨_, rfl⟩
  have hz : z ≤ φ 0 2 := by
    rw [hzd]
    split
    · exact V.2.1
    · exact V.2.2
  have q2 : ∀ (ν : wMem) κ s m, yKqz μ0 ν → (yU ν κ s m).1 7 (Int32.toNatClampNeg (2 : Int32)) = nI (φ 0 2) := fun ν κ s m k => (yFM_put (yKqz_fm F k) _).persons
  have q4 : ∀ (ν : wMem) κ s m, yKqz μ0 ν → (yU ν κ s m).1 7 (Int32.toNatClampNeg (4 : Int32)) = nI (φ 0 4) := fun ν κ s m k => (yFM_put (yKqz_fm F k) _).children
  have sideO : ∀ (ν : wMem) s m p, p < 32 → fX6_sideOf N (nI p) (yU ν κ s m) = some (nI (yBit (κ / 49) p), yU ν κ s m) := fun ν s m p hp => by
    unfold fX6_sideOf yU
    rw [yTut_23]
    show some ((nI (κ / 49) >>> _) &&& 1, _) = _
    rw [xI_bit (by omega) hp]
    rfl
  have zz : ∀ (J : Int32 → Int32 → wMem → Option (Int32 × wMem)) (x : Int32) (y : wMem), (if nI (w i / 10) = 0 then J (nI (κ / 7 % 7)) x y else J (nI (κ % 7)) x y) = J (nI z) x y := fun J x y => by
    rw [yIf (xI_e0 (by omega)), hzd]
    split <;> rfl
  have okx : ok_in (nI (3136 * i + κ)) 40768 = true := xI_in (by omega) (by decide)
  intro d
  induction d with
  | zero =>
    intro M c ν s m hM hc kc I H
    obtain ⟨M, rfl⟩ : ∃ q, M = q + 1 := ⟨M - 1, by omega⟩
    have : c = φ 0 2 + 1 := by omega
    subst this
    refine ⟨ν, s, m, ?_, yKqz.rfl' _, I, H, fun y _ => ⟨rfl, rfl, rfl, rfl⟩, fun c2 a b => absurd b (by omega), fun _ _ h => h⟩
    have e : nI (φ 0 2 + 1) - 1 = nI (φ 0 2) := xI_sub (a := φ 0 2 + 1) (b := 1) (by omega)
    show gbX6_completes_173 N _ _ _ _ _ _ _ _ _ _ _ _ _ _ = _
    unfold gbX6_completes_173
    rw [e, yG (show ok_in (2 : Int32) 35 = true by decide), q2 _ _ _ _ kc, yIf (xI_le (a := φ 0 2) (b := φ 0 2) (by omega) (by omega)), if_pos (Nat.le_refl _)]
  | succ d ih =>
    intro M c ν s m hM hc kc I H
    obtain ⟨M, rfl⟩ : ∃ q, M = q + 1 := ⟨M - 1, by omega⟩
    have hcP : c ≤ φ 0 2 := by omega
    have bl1 := bl (κ / 49) p
    have bl2 := bl (κ / 49) (c - 1)
    have add1 : nI c - 1 + (1 : Int32) = nI (c + 1) - 1 := by
      rw [← nI_add c 1]
      show nI c - 1 + 1 = nI c + 1 - 1
      rw [Int32.sub_add_cancel, Int32.add_sub_cancel]
    have guard : (nI (φ 0 2) ≤ nI c - 1) = (φ 0 2 + 1 ≤ c) := by
      by_cases g : c = 0
      · subst g
        have : ¬ nI (φ 0 2) ≤ nI 0 - 1 := fun h => by
          have h2 := Int32.le_iff_toInt_le.mp h
          rw [nI_toInt (by omega)] at h2
          have : (nI 0 - 1 : Int32).toInt = -1 := by decide
          omega
        exact propext ⟨fun h => absurd h this, fun h => by omega⟩
      · rw [xI_pred (by omega), xI_le (by omega) (by omega)]
        exact propext ⟨fun h => by omega, fun h => by omega⟩
    have e25 : (yU ν κ s m).1 0 25 = nI (κ / 7 % 7) := yTut_25 _ _
    have e26 : (yU ν κ s m).1 0 26 = nI (κ % 7) := yTut_26 _ _
    have oz := yOz_H O (i := i) hp hcP hk V
    rw [fit, Bool.true_and] at oz
    have okc : (Lp ++ yQm (c + 1) (yFz2 φ w n i κ p)) = (Lp ++ yQm c (yFz2 φ w n i κ p)) ++ yFz2 φ w n i κ p c := by rw [yQm_s, List.append_assoc]
    have nop : yOz φ w i κ (10 * c + p) = false → gX6_completes_173 N R (nI i0) (nI i) (nI (3136 * i + κ)) (nI (w i / 10)) (nI (w i % 10)) (nI (κ / 49)) (nI (κ / 7 % 7)) (nI (κ % 7)) (nI p) K (M + 1) (nI c - 1) (yU ν κ s m) = gX6_completes_173 N R (nI i0) (nI i) (nI (3136 * i + κ)) (nI (w i / 10)) (nI (w i % 10)) (nI (κ / 49)) (nI (κ / 7 % 7)) (nI (κ % 7)) (nI p) K M (nI (c + 1) - 1) (yU ν κ s m) → ∃ ν1 s1 m1, gX6_completes_173 N R (nI i0) (nI i) (nI (3136 * i + κ)) (nI (w i / 10)) (nI (w i % 10)) (nI (κ / 49)) (nI (κ / 7 % 7)) (nI (κ % 7)) (nI p) K (M + 1) (nI c - 1) (yU ν κ s m) = K (yU ν1 κ s1 m1) ∧ yKqz ν ν1 ∧ yIv φ w n (i + 1) ν1 ∧ yHolds (3136 * i + κ) (Lp ++ yQm (φ 0 2 + 1) (yFz2 φ w n i κ p)) ν1 ∧ yFq (fun y => y < 3136 * (i + 1) ∧ y ≠ 3136 * i + κ) ν ν1 ∧ (∀ c2, c ≤ c2 → c2 ≤ φ 0 2 → yOz φ w i κ (10 * c2 + p) = true → ν1.2 18 (3136 * (i + 1) + yTz φ (yNz φ w i κ (10 * c2 + p))) ≠ -1) ∧ ∀ y, y ≠ 3136 * i + κ → ν.2 18 y ≠ -1 → ν1.2 18 y ≠ -1 := fun okf e1 => by
      have e0 : yFz2 φ w n i κ p c = [] := if_neg (by rw [okf]; decide)
      obtain ⟨ν1, s1, m1, j1, j2, j3, j4, j5, j6, j7⟩ := ih M (c + 1) ν s m (by omega) (by omega) kc I (by rw [okc, e0, List.append_nil]; exact H)
      exact ⟨ν1, s1, m1, e1.trans j1, j2, j3, j4, j5, fun c2 a b e => by
        by_cases y : c2 = c
        · subst y
          rw [okf] at e
          cases e
        · exact j6 c2 (by omega) b e, j7⟩
    by_cases hH : yHz φ w i κ p c = true
    · have ok := oz.trans hH
      have hF : yFz2 φ w n i κ p c = (yWz φ w n (n - (i + 1)) (yTz φ (yNz φ w i κ (10 * c + p)))).map fun x => (x.1, yRz φ w i (10 * c + p) + x.2) := if_pos ok
      have hr : yRz φ w i (10 * c + p) = yRisk φ p (w i / 10) := by
        unfold yRz
        rw [show (10 * c + p) % 10 = p by omega]
      have rl := yRisk_le O hp hk
      unfold yHz at hH
      rw [Bool.and_eq_true, Bool.and_eq_true, Bool.and_eq_true, Bool.or_eq_true, Bool.and_eq_true, decide_eq_true_eq, decide_eq_true_eq, decide_eq_true_eq, decide_eq_true_eq, decide_eq_true_eq, ← hzd] at hH
      obtain ⟨h1, h2, h3, h4⟩ := hH
      have hn : ∀ v, v = z → fX6_noses N (nI p) (nI v) (nI (w i / 10)) (yU ν κ s m) = some (yB true, yU ν κ s m) := fun v hv => by
        rw [hv]
        refine (ym_noses O (μ := yU ν κ s m) (yFM_put (yKqz_fm F kc) _) N hz hp hk).trans ?_
        rw [h3]
      have hpc : c ≠ 0 → p ≠ c - 1 := fun a b => by
        have := (yOz_act O ok).2.2.2.2.2
        omega
      obtain ⟨s1, m1, hcr⟩ := ym_crossz (μ := ν) O (yKqz_fm F kc) N hp hcP hk hpc κ s m
      rw [yCz_N O hp hcP hk hT] at hcr
      have vN := yNz_v O hw ok
      have vT := yTz_v vN
      have hκ2 := yVz_lt O vT
      obtain ⟨ν1, s2, m2, k1, k2, k3, k4, k5, k6, k7⟩ := hR (yTz φ (yNz φ w i κ (10 * c + p))) s1 m1 ν vT ((yTz_d φ _).2.2.1) kc I
      have i1 : nI i + (1 : Int32) = nI (i + 1) := nI_add i 1
      have l63 := yWz_63 O w n (r := n - (i + 1)) (by omega) (yTz φ (yNz φ w i κ (10 * c + p)))
      generalize hκe : yTz φ (yNz φ w i κ (10 * c + p)) = κ2 at *
      generalize yWz φ w n (n - (i + 1)) κ2 = B at *
      have kν1 := kc.trans k2
      have Hx : yHolds (3136 * i + κ) (Lp ++ yQm c (yFz2 φ w n i κ p)) ν1 := k5.holds (by show _ < _; omega) H
      have k4a : (yU ν1 κ2 s2 m2).2 18 (3136 * (i + 1) + κ2) = lN B.length := k4.1
      have kid : ν1.2 18 (3136 * (i + 1) + κ2) ≠ -1 := by rw [k4.1]; exact lN_m1 l63
      have re := fun (ν2 : wMem) => yU_re ν2 κ κ2 s2 m2
      by_cases hB : B = []
      · obtain ⟨ν3, s3, m3, j1, j2, j3, j4, j5, j6, j7⟩ := ih M (c + 1) ν1 s2 m2 (by omega) (by omega) kν1 k3 (by rw [okc, hF, hB]; show yHolds _ (_ ++ []) _; rw [List.append_nil]; exact Hx)
        refine ⟨ν3, s3, m3, Eq.trans ?_ j1, k2.trans j2, j3, j4, k5.trans j5 (fun y hy => ⟨by show _ < _; exact hy.1, hy⟩), fun c2 a b e => by
          by_cases y : c2 = c
          · subst y
            rw [hκe]
            exact j7 _ (by omega) kid
          · exact j6 c2 (by omega) b e, fun y hy h => j7 y hy (k7 y h)⟩
        show gbX6_completes_173 N _ _ _ _ _ _ _ _ _ _ _ _ _ _ = _
        unfold gbX6_completes_173
        rw [yG (show ok_in (2 : Int32) 35 = true by decide), q2 _ _ _ _ kc, yIf guard, if_neg (by omega), sideO _ _ _ p (by omega), yBd, yWL, yIf (xI_e (by omega) (by omega)), if_pos h1, yG (show ok_in (4 : Int32) 35 = true by decide), q4 _ _ _ _ kc, ym_bit (by omega) (by omega), yBd, yB2 h2, yWL, e25, e26, yIf (xI_e0 (by omega))]
        by_cases hk0 : w i / 10 = 0
        · rw [if_pos hk0]
          show wBind (fX6_noses N (nI p) (nI (κ / 7 % 7)) (nI (w i / 10)) (yU ν κ s m)) _ = _
          rw [hn _ (by rw [hzd, if_pos hk0]), yBd, yIf (yB_0 _), if_neg (by decide), yWL]
          by_cases g3 : c = 0
          · rw [yIf (xI_m1 (by omega)), if_pos g3]
            show wBindV (fX6_crosses N (nI p) (nI c - 1) (nI (w i / 10)) (yU ν κ s m)) _ = _
            rw [hcr, yBV, i1, k1, yBd, yG (xI_in (by omega) (by decide)), xI_cl (by omega), k4a, yIf (lN_le0 l63), if_pos (by rw [hB]; rfl), yWL, yWL, yWL, re]
            show gX6_completes_173 N R (nI i0) (nI i) (nI (3136 * i + κ)) (nI (w i / 10)) (nI (w i % 10)) (nI (κ / 49)) (nI (κ / 7 % 7)) (nI (κ % 7)) (nI p) K M (nI c - 1 + 1) _ = _
            rw [add1]
          · have pr : nI c - 1 = nI (c - 1) := xI_pred (by omega)
            have h4' := h4.resolve_left g3
            rw [yIf (xI_m1 (by omega)), if_neg g3, yG (show ok_in (4 : Int32) 35 = true by decide), q4 _ _ _ _ kc, pr, ym_bit (by omega) (by omega), yBd, yB1 h4'.1, sideO _ _ _ (c - 1) (by omega), yBd, yIf (xI_e (by omega) (by omega)), if_pos h4'.2, ← pr]
            show wBindV (fX6_crosses N (nI p) (nI c - 1) (nI (w i / 10)) (yU ν κ s m)) _ = _
            rw [hcr, yBV, i1, k1, yBd, yG (xI_in (by omega) (by decide)), xI_cl (by omega), k4a, yIf (lN_le0 l63), if_pos (by rw [hB]; rfl), yWL, yWL, yWL, re]
            show gX6_completes_173 N R (nI i0) (nI i) (nI (3136 * i + κ)) (nI (w i / 10)) (nI (w i % 10)) (nI (κ / 49)) (nI (κ / 7 % 7)) (nI (κ % 7)) (nI p) K M (nI c - 1 + 1) _ = _
            rw [add1]
        · rw [if_neg hk0]
          show wBind (fX6_noses N (nI p) (nI (κ % 7)) (nI (w i / 10)) (yU ν κ s m)) _ = _
          rw [hn _ (by rw [hzd, if_neg hk0]), yBd, yIf (yB_0 _), if_neg (by decide), yWL]
          by_cases g3 : c = 0
          · rw [yIf (xI_m1 (by omega)), if_pos g3]
            show wBindV (fX6_crosses N (nI p) (nI c - 1) (nI (w i / 10)) (yU ν κ s m)) _ = _
            rw [hcr, yBV, i1, k1, yBd, yG (xI_in (by omega) (by decide)), xI_cl (by omega), k4a, yIf (lN_le0 l63), if_pos (by rw [hB]; rfl), yWL, yWL, yWL, re]
            show gX6_completes_173 N R (nI i0) (nI i) (nI (3136 * i + κ)) (nI (w i / 10)) (nI (w i % 10)) (nI (κ / 49)) (nI (κ / 7 % 7)) (nI (κ % 7)) (nI p) K M (nI c - 1 + 1) _ = _
            rw [add1]
          · have pr : nI c - 1 = nI (c - 1) := xI_pred (by omega)
            have h4' := h4.resolve_left g3
            rw [yIf (xI_m1 (by omega)), if_neg g3, yG (show ok_in (4 : Int32) 35 = true by decide), q4 _ _ _ _ kc, pr, ym_bit (by omega) (by omega), yBd, yB1 h4'.1, sideO _ _ _ (c - 1) (by omega), yBd, yIf (xI_e (by omega) (by omega)), if_pos h4'.2, ← pr]
            show wBindV (fX6_crosses N (nI p) (nI c - 1) (nI (w i / 10)) (yU ν κ s m)) _ = _
            rw [hcr, yBV, i1, k1, yBd, yG (xI_in (by omega) (by decide)), xI_cl (by omega), k4a, yIf (lN_le0 l63), if_pos (by rw [hB]; rfl), yWL, yWL, yWL, re]
            show gX6_completes_173 N R (nI i0) (nI i) (nI (3136 * i + κ)) (nI (w i / 10)) (nI (w i % 10)) (nI (κ / 49)) (nI (κ / 7 % 7)) (nI (κ % 7)) (nI p) K M (nI c - 1 + 1) _ = _
            rw [add1]
      · generalize hL : Lp ++ yQm c (yFz2 φ w n i κ p) = L at *
        have a2 : yMnT 2000000000 L ≤ 2000000000 := yMnT_le _ _
        have b2 : yMnT 2000000000 B ≤ 2000000000 := yMnT_le _ _
        have n18 : lN L.length + lN B.length = lN (L ++ B.map fun x => (x.1, yRisk φ p (w i / 10) + x.2)).length := by rw [lN_add, List.length_append, List.length_map]
        have n19 : min (yMnT 2000000000 L) (yMnT 2000000000 B + yRisk φ p (w i / 10)) = yMnT 2000000000 (L ++ B.map fun x => (x.1, yRisk φ p (w i / 10) + x.2)) := by
          have h := yMnT_add (a := yMnT 2000000000 L) (ρ := yRisk φ p (w i / 10)) (b := 2000000000) B (by omega)
          rw [Nat.add_comm (yMnT 2000000000 B), ← h]
          unfold yMnT
          rw [List.foldl_append]
        have n20 : yAnT 63 L &&& yAnT 63 B = yAnT 63 (L ++ B.map fun x => (x.1, yRisk φ p (w i / 10) + x.2)) := by
          rw [← yAnT_add (yRisk φ p (w i / 10)) B (yAnT 63 L) 63, yAnT_63 L 63 rfl]
          unfold yAnT
          rw [List.foldl_append]
        have n21 : yOrT 0 L ||| yOrT 0 B = yOrT 0 (L ++ B.map fun x => (x.1, yRisk φ p (w i / 10) + x.2)) := by
          rw [← yOrT_add (yRisk φ p (w i / 10)) B (yOrT 0 L) 0, Nat.or_zero]
          unfold yOrT
          rw [List.foldl_append]
        obtain ⟨ν2, hν2⟩ : ∃ ν2, ν2 = wSI (wSI (wSI (wSL ν1 18 (3136 * i + κ) (lN L.length + lN B.length)) 19 (3136 * i + κ) (nI (min (yMnT 2000000000 L) (yMnT 2000000000 B + yRisk φ p (w i / 10))))) 20 (3136 * i + κ) (nI (yAnT 63 L &&& yAnT 63 B))) 21 (3136 * i + κ) (nI (yOrT 0 L ||| yOrT 0 B)) := ⟨_, rfl⟩
        have g1 : ∀ c j, ν2.1 c j = if c = 21 ∧ j = 3136 * i + κ then nI (yOrT 0 L ||| yOrT 0 B) else if c = 20 ∧ j = 3136 * i + κ then nI (yAnT 63 L &&& yAnT 63 B) else if c = 19 ∧ j = 3136 * i + κ then nI (min (yMnT 2000000000 L) (yMnT 2000000000 B + yRisk φ p (w i / 10))) else ν1.1 c j := fun c j => by
          rw [hν2, yS_get, yS_get, yS_get]
          rfl
        have g2 : ∀ c j, ν2.2 c j = if c = 18 ∧ j = 3136 * i + κ then lN L.length + lN B.length else ν1.2 c j := fun c j => by
          rw [hν2]
          exact yL_get _ _ _ _ _ _
        have kk : yKqz ν1 ν2 := ⟨fun c j a b d => by rw [g1, if_neg (fun z => d z.1), if_neg (fun z => b z.1), if_neg (fun z => a z.1)], fun c j a => by rw [g2, if_neg (fun z => a z.1)]⟩
        have fr : yFq (fun y => y ≠ 3136 * i + κ) ν1 ν2 := fun y hy => by
          rw [g1, g1, g1, g2]
          refine ⟨if_neg (fun z => hy z.2), ?_, ?_, ?_⟩
          · rw [if_neg (fun z => hy z.2), if_neg (fun z => hy z.2), if_neg (fun z => hy z.2)]
          · rw [if_neg (fun z => hy z.2), if_neg (fun z => hy z.2), if_neg (fun z => hy z.2)]
          · rw [if_neg (fun z => hy z.2), if_neg (fun z => hy z.2), if_neg (fun z => hy z.2)]
        have I2 : yIv φ w n (i + 1) ν2 := fun j κ3 a b e => by
          have ne : 3136 * j + κ3 ≠ 3136 * i + κ := by omega
          rcases k3 j κ3 a b e with h | h
          · exact Or.inl ((fr _ ne).1.trans h)
          · exact Or.inr ⟨fr.holds ne h.1, fun a e he => by
              rw [(fr (3136 * (j + 1) + yTz φ (yNz φ w j κ3 e)) (by show _ ≠ _; omega)).1]
              exact h.2 a e he⟩
        obtain ⟨ν3, s3, m3, j1, j2, j3, j4, j5, j6, j7⟩ := ih M (c + 1) ν2 s2 m2 (by omega) (by omega) (kν1.trans kk) I2 (by
          rw [okc, hF, hr]
          refine ⟨?_, ?_, ?_, ?_⟩
          · rw [g2, if_pos ⟨rfl, rfl⟩, n18]
          · rw [g1, if_neg (by omega), if_neg (by omega), if_pos ⟨rfl, rfl⟩, n19]
          · rw [g1, if_neg (by omega), if_pos ⟨rfl, rfl⟩, n20]
          · rw [g1, if_pos ⟨rfl, rfl⟩, n21])
        refine ⟨ν3, s3, m3, Eq.trans ?_ j1, (k2.trans kk).trans j2, j3, j4, (k5.trans fr (r := fun y => y < 3136 * (i + 1) ∧ y ≠ 3136 * i + κ) (fun y hy => ⟨hy.1, hy.2⟩)).trans j5 (fun y hy => ⟨hy, hy⟩), fun c2 a b e => by
          by_cases y : c2 = c
          · subst y
            rw [hκe]
            exact j7 _ (by omega) (by rw [(fr (3136 * (i + 1) + κ2) (by show _ ≠ _; omega)).1]; exact kid)
          · exact j6 c2 (by omega) b e, fun y hy h => j7 y hy (by rw [(fr y hy).1]; exact k7 y h)⟩
        rw [hν2]
        have h18 : wSL (yU ν1 κ2 s2 m2) 18 (3136 * i + κ) ((yU ν1 κ2 s2 m2).2 18 (3136 * i + κ) + lN B.length) = yU (wSL ν1 18 (3136 * i + κ) (lN L.length + lN B.length)) κ2 s2 m2 := by
          have : (yU ν1 κ2 s2 m2).2 18 (3136 * i + κ) = lN L.length := Hx.1
          rw [this]
          rfl
        have h19c : (yU (wSL ν1 18 (3136 * i + κ) (lN L.length + lN B.length)) κ2 s2 m2).1 19 (3136 * (i + 1) + κ2) + nI (yRisk φ p (w i / 10)) = nI (yMnT 2000000000 B + yRisk φ p (w i / 10)) := by
          have : (yU (wSL ν1 18 (3136 * i + κ) (lN L.length + lN B.length)) κ2 s2 m2).1 19 (3136 * (i + 1) + κ2) = nI (yMnT 2000000000 B) := (yTut_c _ _ (by decide) _).trans k4.2.1
          rw [this, nI_add]
        have h19x : (yU (wSL ν1 18 (3136 * i + κ) (lN L.length + lN B.length)) κ2 s2 m2).1 19 (3136 * i + κ) = nI (yMnT 2000000000 L) := (yTut_c _ _ (by decide) _).trans Hx.2.1
        have hrk : fX6_riskOf N (nI p) (nI (w i / 10)) (yU (wSL ν1 18 (3136 * i + κ) (lN L.length + lN B.length)) κ2 s2 m2) = some (nI (yRisk φ p (w i / 10)), yU (wSL ν1 18 (3136 * i + κ) (lN L.length + lN B.length)) κ2 s2 m2) := ym_risk O (yFM_put (yKqz_fm F (yKqz_L kν1 _ _)) _) N hp hk
        have h20x : (yU (wSI (wSL ν1 18 (3136 * i + κ) (lN L.length + lN B.length)) 19 (3136 * i + κ) (nI (min (yMnT 2000000000 L) (yMnT 2000000000 B + yRisk φ p (w i / 10))))) κ2 s2 m2).1 20 (3136 * i + κ) = nI (yAnT 63 L) := by
          refine (yTut_c _ _ (by decide) _).trans ?_
          rw [yS_get, if_neg (by omega)]
          exact Hx.2.2.1
        have h20c : (yU (wSI (wSL ν1 18 (3136 * i + κ) (lN L.length + lN B.length)) 19 (3136 * i + κ) (nI (min (yMnT 2000000000 L) (yMnT 2000000000 B + yRisk φ p (w i / 10))))) κ2 s2 m2).1 20 (3136 * (i + 1) + κ2) = nI (yAnT 63 B) := by
          refine (yTut_c _ _ (by decide) _).trans ?_
          rw [yS_get, if_neg (by omega)]
          exact k4.2.2.1
        have h21x : (yU (wSI (wSI (wSL ν1 18 (3136 * i + κ) (lN L.length + lN B.length)) 19 (3136 * i + κ) (nI (min (yMnT 2000000000 L) (yMnT 2000000000 B + yRisk φ p (w i / 10))))) 20 (3136 * i + κ) (nI (yAnT 63 L &&& yAnT 63 B))) κ2 s2 m2).1 21 (3136 * i + κ) = nI (yOrT 0 L) := by
          refine (yTut_c _ _ (by decide) _).trans ?_
          rw [yS_get, if_neg (by omega), yS_get, if_neg (by omega)]
          exact Hx.2.2.2
        have h21c : (yU (wSI (wSI (wSL ν1 18 (3136 * i + κ) (lN L.length + lN B.length)) 19 (3136 * i + κ) (nI (min (yMnT 2000000000 L) (yMnT 2000000000 B + yRisk φ p (w i / 10))))) 20 (3136 * i + κ) (nI (yAnT 63 L &&& yAnT 63 B))) κ2 s2 m2).1 21 (3136 * (i + 1) + κ2) = nI (yOrT 0 B) := by
          refine (yTut_c _ _ (by decide) _).trans ?_
          rw [yS_get, if_neg (by omega), yS_get, if_neg (by omega)]
          exact k4.2.2.2
        show gbX6_completes_173 N _ _ _ _ _ _ _ _ _ _ _ _ _ _ = _
        unfold gbX6_completes_173
        rw [yG (show ok_in (2 : Int32) 35 = true by decide), q2 _ _ _ _ kc, yIf guard, if_neg (by omega), sideO _ _ _ p (by omega), yBd, yWL, yIf (xI_e (by omega) (by omega)), if_pos h1, yG (show ok_in (4 : Int32) 35 = true by decide), q4 _ _ _ _ kc, ym_bit (by omega) (by omega), yBd, yB2 h2, yWL, e25, e26, yIf (xI_e0 (by omega))]
        by_cases hk0 : w i / 10 = 0
        · rw [if_pos hk0]
          show wBind (fX6_noses N (nI p) (nI (κ / 7 % 7)) (nI (w i / 10)) (yU ν κ s m)) _ = _
          rw [hn _ (by rw [hzd, if_pos hk0]), yBd, yIf (yB_0 _), if_neg (by decide), yWL]
          by_cases g3 : c = 0
          · rw [yIf (xI_m1 (by omega)), if_pos g3]
            show wBindV (fX6_crosses N (nI p) (nI c - 1) (nI (w i / 10)) (yU ν κ s m)) _ = _
            rw [hcr, yBV, i1, k1, yBd, yG (xI_in (by omega) (by decide)), xI_cl (by omega), k4a, yIf (lN_le0 l63), if_neg (fun h => hB (List.eq_nil_of_length_eq_zero h)), yG okx, yG (xI_in (by omega) (by decide)), yG okx, xI_cl (by omega), yWL, h18, yG (xI_in (by omega) (by decide)), hrk, yBd, h19c, yWL, yG okx, yWL, h19x, yIf (xI_le (by omega) (by omega))]
            by_cases hle : yMnT 2000000000 L ≤ yMnT 2000000000 B + yRisk φ p (w i / 10)
            · rw [if_pos hle, yG okx]
              show wG (ok_in (nI (3136 * i + κ)) 40768) _ = _
              rw [show min (yMnT 2000000000 L) (yMnT 2000000000 B + yRisk φ p (w i / 10)) = _ from Nat.min_eq_left (by omega)] at h20x h20c h21x h21c ⊢
              rw [yG okx, xI_cl (by omega), yU_sc _ _ _ _ (by decide), yWL, yG okx, yG (xI_in (by omega) (by decide)), yG okx, h20x, h20c, xI_and, yU_sc _ _ _ _ (by decide), yWL, yG okx, yG (xI_in (by omega) (by decide)), yG okx, h21x, h21c, xI_or, yU_sc _ _ _ _ (by decide), yWL, yWL, yWL, yWL, re]
              show gX6_completes_173 N R (nI i0) (nI i) (nI (3136 * i + κ)) (nI (w i / 10)) (nI (w i % 10)) (nI (κ / 49)) (nI (κ / 7 % 7)) (nI (κ % 7)) (nI p) K M (nI c - 1 + 1) _ = _
              rw [add1]
            · rw [if_neg hle]
              show wG (ok_in (nI (3136 * i + κ)) 40768) _ = _
              rw [show min (yMnT 2000000000 L) (yMnT 2000000000 B + yRisk φ p (w i / 10)) = _ from Nat.min_eq_right (by omega)] at h20x h20c h21x h21c ⊢
              rw [yG okx, xI_cl (by omega), yU_sc _ _ _ _ (by decide), yWL, yG okx, yG (xI_in (by omega) (by decide)), yG okx, h20x, h20c, xI_and, yU_sc _ _ _ _ (by decide), yWL, yG okx, yG (xI_in (by omega) (by decide)), yG okx, h21x, h21c, xI_or, yU_sc _ _ _ _ (by decide), yWL, yWL, yWL, yWL, re]
              show gX6_completes_173 N R (nI i0) (nI i) (nI (3136 * i + κ)) (nI (w i / 10)) (nI (w i % 10)) (nI (κ / 49)) (nI (κ / 7 % 7)) (nI (κ % 7)) (nI p) K M (nI c - 1 + 1) _ = _
              rw [add1]
          · have pr : nI c - 1 = nI (c - 1) := xI_pred (by omega)
            have h4' := h4.resolve_left g3
            rw [yIf (xI_m1 (by omega)), if_neg g3, yG (show ok_in (4 : Int32) 35 = true by decide), q4 _ _ _ _ kc, pr, ym_bit (by omega) (by omega), yBd, yB1 h4'.1, sideO _ _ _ (c - 1) (by omega), yBd, yIf (xI_e (by omega) (by omega)), if_pos h4'.2, ← pr]
            show wBindV (fX6_crosses N (nI p) (nI c - 1) (nI (w i / 10)) (yU ν κ s m)) _ = _
            rw [hcr, yBV, i1, k1, yBd, yG (xI_in (by omega) (by decide)), xI_cl (by omega), k4a, yIf (lN_le0 l63), if_neg (fun h => hB (List.eq_nil_of_length_eq_zero h)), yG okx, yG (xI_in (by omega) (by decide)), yG okx, xI_cl (by omega), yWL, h18, yG (xI_in (by omega) (by decide)), hrk, yBd, h19c, yWL, yG okx, yWL, h19x, yIf (xI_le (by omega) (by omega))]
            by_cases hle : yMnT 2000000000 L ≤ yMnT 2000000000 B + yRisk φ p (w i / 10)
            · rw [if_pos hle, yG okx]
              show wG (ok_in (nI (3136 * i + κ)) 40768) _ = _
              rw [show min (yMnT 2000000000 L) (yMnT 2000000000 B + yRisk φ p (w i / 10)) = _ from Nat.min_eq_left (by omega)] at h20x h20c h21x h21c ⊢
              rw [yG okx, xI_cl (by omega), yU_sc _ _ _ _ (by decide), yWL, yG okx, yG (xI_in (by omega) (by decide)), yG okx, h20x, h20c, xI_and, yU_sc _ _ _ _ (by decide), yWL, yG okx, yG (xI_in (by omega) (by decide)), yG okx, h21x, h21c, xI_or, yU_sc _ _ _ _ (by decide), yWL, yWL, yWL, yWL, re]
              show gX6_completes_173 N R (nI i0) (nI i) (nI (3136 * i + κ)) (nI (w i / 10)) (nI (w i % 10)) (nI (κ / 49)) (nI (κ / 7 % 7)) (nI (κ % 7)) (nI p) K M (nI c - 1 + 1) _ = _
              rw [add1]
            · rw [if_neg hle]
              show wG (ok_in (nI (3136 * i + κ)) 40768) _ = _
              rw [show min (yMnT 2000000000 L) (yMnT 2000000000 B + yRisk φ p (w i / 10)) = _ from Nat.min_eq_right (by omega)] at h20x h20c h21x h21c ⊢
              rw [yG okx, xI_cl (by omega), yU_sc _ _ _ _ (by decide), yWL, yG okx, yG (xI_in (by omega) (by decide)), yG okx, h20x, h20c, xI_and, yU_sc _ _ _ _ (by decide), yWL, yG okx, yG (xI_in (by omega) (by decide)), yG okx, h21x, h21c, xI_or, yU_sc _ _ _ _ (by decide), yWL, yWL, yWL, yWL, re]
              show gX6_completes_173 N R (nI i0) (nI i) (nI (3136 * i + κ)) (nI (w i / 10)) (nI (w i % 10)) (nI (κ / 49)) (nI (κ / 7 % 7)) (nI (κ % 7)) (nI p) K M (nI c - 1 + 1) _ = _
              rw [add1]
        · rw [if_neg hk0]
          show wBind (fX6_noses N (nI p) (nI (κ % 7)) (nI (w i / 10)) (yU ν κ s m)) _ = _
          rw [hn _ (by rw [hzd, if_neg hk0]), yBd, yIf (yB_0 _), if_neg (by decide), yWL]
          by_cases g3 : c = 0
          · rw [yIf (xI_m1 (by omega)), if_pos g3]
            show wBindV (fX6_crosses N (nI p) (nI c - 1) (nI (w i / 10)) (yU ν κ s m)) _ = _
            rw [hcr, yBV, i1, k1, yBd, yG (xI_in (by omega) (by decide)), xI_cl (by omega), k4a, yIf (lN_le0 l63), if_neg (fun h => hB (List.eq_nil_of_length_eq_zero h)), yG okx, yG (xI_in (by omega) (by decide)), yG okx, xI_cl (by omega), yWL, h18, yG (xI_in (by omega) (by decide)), hrk, yBd, h19c, yWL, yG okx, yWL, h19x, yIf (xI_le (by omega) (by omega))]
            by_cases hle : yMnT 2000000000 L ≤ yMnT 2000000000 B + yRisk φ p (w i / 10)
            · rw [if_pos hle, yG okx]
              show wG (ok_in (nI (3136 * i + κ)) 40768) _ = _
              rw [show min (yMnT 2000000000 L) (yMnT 2000000000 B + yRisk φ p (w i / 10)) = _ from Nat.min_eq_left (by omega)] at h20x h20c h21x h21c ⊢
              rw [yG okx, xI_cl (by omega), yU_sc _ _ _ _ (by decide), yWL, yG okx, yG (xI_in (by omega) (by decide)), yG okx, h20x, h20c, xI_and, yU_sc _ _ _ _ (by decide), yWL, yG okx, yG (xI_in (by omega) (by decide)), yG okx, h21x, h21c, xI_or, yU_sc _ _ _ _ (by decide), yWL, yWL, yWL, yWL, re]
              show gX6_completes_173 N R (nI i0) (nI i) (nI (3136 * i + κ)) (nI (w i / 10)) (nI (w i % 10)) (nI (κ / 49)) (nI (κ / 7 % 7)) (nI (κ % 7)) (nI p) K M (nI c - 1 + 1) _ = _
              rw [add1]
            · rw [if_neg hle]
              show wG (ok_in (nI (3136 * i + κ)) 40768) _ = _
              rw [show min (yMnT 2000000000 L) (yMnT 2000000000 B + yRisk φ p (w i / 10)) = _ from Nat.min_eq_right (by omega)] at h20x h20c h21x h21c ⊢
              rw [yG okx, xI_cl (by omega), yU_sc _ _ _ _ (by decide), yWL, yG okx, yG (xI_in (by omega) (by decide)), yG okx, h20x, h20c, xI_and, yU_sc _ _ _ _ (by decide), yWL, yG okx, yG (xI_in (by omega) (by decide)), yG okx, h21x, h21c, xI_or, yU_sc _ _ _ _ (by decide), yWL, yWL, yWL, yWL, re]
              show gX6_completes_173 N R (nI i0) (nI i) (nI (3136 * i + κ)) (nI (w i / 10)) (nI (w i % 10)) (nI (κ / 49)) (nI (κ / 7 % 7)) (nI (κ % 7)) (nI p) K M (nI c - 1 + 1) _ = _
              rw [add1]
          · have pr : nI c - 1 = nI (c - 1) := xI_pred (by omega)
            have h4' := h4.resolve_left g3
            rw [yIf (xI_m1 (by omega)), if_neg g3, yG (show ok_in (4 : Int32) 35 = true by decide), q4 _ _ _ _ kc, pr, ym_bit (by omega) (by omega), yBd, yB1 h4'.1, sideO _ _ _ (c - 1) (by omega), yBd, yIf (xI_e (by omega) (by omega)), if_pos h4'.2, ← pr]
            show wBindV (fX6_crosses N (nI p) (nI c - 1) (nI (w i / 10)) (yU ν κ s m)) _ = _
            rw [hcr, yBV, i1, k1, yBd, yG (xI_in (by omega) (by decide)), xI_cl (by omega), k4a, yIf (lN_le0 l63), if_neg (fun h => hB (List.eq_nil_of_length_eq_zero h)), yG okx, yG (xI_in (by omega) (by decide)), yG okx, xI_cl (by omega), yWL, h18, yG (xI_in (by omega) (by decide)), hrk, yBd, h19c, yWL, yG okx, yWL, h19x, yIf (xI_le (by omega) (by omega))]
            by_cases hle : yMnT 2000000000 L ≤ yMnT 2000000000 B + yRisk φ p (w i / 10)
            · rw [if_pos hle, yG okx]
              show wG (ok_in (nI (3136 * i + κ)) 40768) _ = _
              rw [show min (yMnT 2000000000 L) (yMnT 2000000000 B + yRisk φ p (w i / 10)) = _ from Nat.min_eq_left (by omega)] at h20x h20c h21x h21c ⊢
              rw [yG okx, xI_cl (by omega), yU_sc _ _ _ _ (by decide), yWL, yG okx, yG (xI_in (by omega) (by decide)), yG okx, h20x, h20c, xI_and, yU_sc _ _ _ _ (by decide), yWL, yG okx, yG (xI_in (by omega) (by decide)), yG okx, h21x, h21c, xI_or, yU_sc _ _ _ _ (by decide), yWL, yWL, yWL, yWL, re]
              show gX6_completes_173 N R (nI i0) (nI i) (nI (3136 * i + κ)) (nI (w i / 10)) (nI (w i % 10)) (nI (κ / 49)) (nI (κ / 7 % 7)) (nI (κ % 7)) (nI p) K M (nI c - 1 + 1) _ = _
              rw [add1]
            · rw [if_neg hle]
              show wG (ok_in (nI (3136 * i + κ)) 40768) _ = _
              rw [show min (yMnT 2000000000 L) (yMnT 2000000000 B + yRisk φ p (w i / 10)) = _ from Nat.min_eq_right (by omega)] at h20x h20c h21x h21c ⊢
              rw [yG okx, xI_cl (by omega), yU_sc _ _ _ _ (by decide), yWL, yG okx, yG (xI_in (by omega) (by decide)), yG okx, h20x, h20c, xI_and, yU_sc _ _ _ _ (by decide), yWL, yG okx, yG (xI_in (by omega) (by decide)), yG okx, h21x, h21c, xI_or, yU_sc _ _ _ _ (by decide), yWL, yWL, yWL, yWL, re]
              show gX6_completes_173 N R (nI i0) (nI i) (nI (3136 * i + κ)) (nI (w i / 10)) (nI (w i % 10)) (nI (κ / 49)) (nI (κ / 7 % 7)) (nI (κ % 7)) (nI p) K M (nI c - 1 + 1) _ = _
              rw [add1]
    · rw [Bool.not_eq_true] at hH
      have ok := oz.trans hH
      refine nop ok ?_
      have J : gX6_completes_173 N R (nI i0) (nI i) (nI (3136 * i + κ)) (nI (w i / 10)) (nI (w i % 10)) (nI (κ / 49)) (nI (κ / 7 % 7)) (nI (κ % 7)) (nI p) K M (nI c - 1 + 1) (yU ν κ s m) = gX6_completes_173 N R (nI i0) (nI i) (nI (3136 * i + κ)) (nI (w i / 10)) (nI (w i % 10)) (nI (κ / 49)) (nI (κ / 7 % 7)) (nI (κ % 7)) (nI p) K M (nI (c + 1) - 1) (yU ν κ s m) := by rw [add1]
      have hnz : ∀ v, v = z → fX6_noses N (nI p) (nI v) (nI (w i / 10)) (yU ν κ s m) = some (yB (yBeh φ z p (w i / 10)), yU ν κ s m) := fun v hv => by
        rw [hv]
        exact ym_noses O (μ := yU ν κ s m) (yFM_put (yKqz_fm F kc) _) N hz hp hk
      show gbX6_completes_173 N _ _ _ _ _ _ _ _ _ _ _ _ _ _ = _
      unfold gbX6_completes_173
      rw [yG (show ok_in (2 : Int32) 35 = true by decide), q2 _ _ _ _ kc, yIf guard, if_neg (by omega), sideO _ _ _ p (by omega), yBd, yWL, yIf (xI_e (by omega) (by omega))]
      by_cases h1 : yBit (κ / 49) p = w i % 10
      · rw [if_pos h1, yG (show ok_in (4 : Int32) 35 = true by decide), q4 _ _ _ _ kc, ym_bit (by omega) (by omega), yBd]
        by_cases h2 : yBit (φ 0 4) p = 1
        · rw [yB1 h2]
          exact J
        · rw [yB2 h2, yWL, e25, e26, yIf (xI_e0 (by omega))]
          by_cases hk0 : w i / 10 = 0
          · rw [if_pos hk0]
            show wBind (fX6_noses N (nI p) (nI (κ / 7 % 7)) (nI (w i / 10)) (yU ν κ s m)) _ = _
            rw [hnz _ (by rw [hzd, if_pos hk0]), yBd]
            cases hb : yBeh φ z p (w i / 10) with
            | false =>
              rw [yIf (yB_0 _), if_pos rfl]
              exact J
            | true =>
              rw [yIf (yB_0 _), if_neg (by decide), yWL]
              by_cases g3 : c = 0
              · exfalso
                unfold yHz at hH
                rw [decide_eq_true h1, decide_eq_true h2, ← hzd, hb, decide_eq_true g3] at hH
                simp at hH
              · have pr : nI c - 1 = nI (c - 1) := xI_pred (by omega)
                rw [yIf (xI_m1 (by omega)), if_neg g3, yG (show ok_in (4 : Int32) 35 = true by decide), q4 _ _ _ _ kc, pr, ym_bit (by omega) (by omega), yBd]
                by_cases h5 : yBit (φ 0 4) (c - 1) = 1
                · rw [yB1 h5, sideO _ _ _ (c - 1) (by omega), yBd, yIf (xI_e (by omega) (by omega))]
                  by_cases h6 : yBit (κ / 49) (c - 1) = w i % 10
                  · exfalso
                    unfold yHz at hH
                    rw [decide_eq_true h1, decide_eq_true h2, ← hzd, hb, decide_eq_false g3, decide_eq_true h5, decide_eq_true h6] at hH
                    simp at hH
                  · rw [if_neg h6, ← pr]
                    exact J
                · rw [yB2 h5, ← pr]
                  exact J
          · rw [if_neg hk0]
            show wBind (fX6_noses N (nI p) (nI (κ % 7)) (nI (w i / 10)) (yU ν κ s m)) _ = _
            rw [hnz _ (by rw [hzd, if_neg hk0]), yBd]
            cases hb : yBeh φ z p (w i / 10) with
            | false =>
              rw [yIf (yB_0 _), if_pos rfl]
              exact J
            | true =>
              rw [yIf (yB_0 _), if_neg (by decide), yWL]
              by_cases g3 : c = 0
              · exfalso
                unfold yHz at hH
                rw [decide_eq_true h1, decide_eq_true h2, ← hzd, hb, decide_eq_true g3] at hH
                simp at hH
              · have pr : nI c - 1 = nI (c - 1) := xI_pred (by omega)
                rw [yIf (xI_m1 (by omega)), if_neg g3, yG (show ok_in (4 : Int32) 35 = true by decide), q4 _ _ _ _ kc, pr, ym_bit (by omega) (by omega), yBd]
                by_cases h5 : yBit (φ 0 4) (c - 1) = 1
                · rw [yB1 h5, sideO _ _ _ (c - 1) (by omega), yBd, yIf (xI_e (by omega) (by omega))]
                  by_cases h6 : yBit (κ / 49) (c - 1) = w i % 10
                  · exfalso
                    unfold yHz at hH
                    rw [decide_eq_true h1, decide_eq_true h2, ← hzd, hb, decide_eq_false g3, decide_eq_true h5, decide_eq_true h6] at hH
                    simp at hH
                  · rw [if_neg h6, ← pr]
                    exact J
                · rw [yB2 h5, ← pr]
                  exact J
      · rw [if_neg h1]
        exact J
