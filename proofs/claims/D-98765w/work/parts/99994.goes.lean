set_option maxRecDepth 100000
/-! part 99994: the twin's goesOn: who is had, what is reached -/
def yMsk (mk : Nat) (Q : Nat → Prop) : Prop := ∀ q, mk.testBit q = true ↔ Q q
theorem yMsk_or {mk p : Nat} {Q : Nat → Prop} (h : yMsk mk Q) : yMsk (mk ||| 2 ^ p) (fun q => Q q ∨ q = p) := fun q => by
  rw [Nat.testBit_or, Nat.testBit_two_pow, Bool.or_eq_true, h q, decide_eq_true_eq]
  exact ⟨fun z => z.elim Or.inl fun e => Or.inr e.symm, fun z => z.elim Or.inl fun e => Or.inr e.symm⟩
theorem yMsk.ext {mk : Nat} {Q R : Nat → Prop} (h : yMsk mk Q) (e : ∀ q, Q q ↔ R q) : yMsk mk R := fun q => (h q).trans (e q)
theorem yMsk_eq {a b : Nat} {Q : Nat → Prop} (h : yMsk a Q) (g : yMsk b Q) : a = b := Nat.eq_of_testBit_eq fun q => by
  have := (h q).trans (g q).symm
  cases x : a.testBit q <;> cases y : b.testBit q <;> simp_all
def yRc (S : Nat → Nat → Prop) (ν : wMem) : Prop := ∀ j κ, j ≤ 12 → κ < 3136 → (ν.1 23 (3136 * j + κ) = nI 1 ∧ S j κ) ∨ (ν.1 23 (3136 * j + κ) = nI 0 ∧ ¬ S j κ)
theorem yRc.ext {S T : Nat → Nat → Prop} {ν : wMem} (h : yRc S ν) (e : ∀ j κ, S j κ ↔ T j κ) : yRc T ν := fun j κ a b => by
  rw [← e j κ]
  exact h j κ a b
def yKh (μ ν : wMem) : Prop := (∀ c j, c ≠ 22 → c ≠ 23 → ν.1 c j = μ.1 c j) ∧ ν.2 = μ.2
theorem yKh_fm {φ : Nat → Nat → Nat} {μ ν : wMem} (F : yFM φ 0 μ) (k : yKh μ ν) : yFM φ 0 ν := yFM_of F fun c _ h2 i => k.1 c i (by omega) (by omega)
def yCk (φ : Nat → Nat → Nat) (w : Nat → Nat) (i κ p c : Nat) : Nat := yTz φ (yNz φ w i κ (10 * c + p))
/-- an act that can be and leads on to the end -/
def yTk (φ : Nat → Nat → Nat) (w : Nat → Nat) (n i κ p c : Nat) : Prop := yOz φ w i κ (10 * c + p) = true ∧ yWz φ w n (n - (i + 1)) (yCk φ w i κ p c) ≠ []
theorem ym_goes_17 {φ : Nat → Nat → Nat} (O : yOk φ) {w : Nat → Nat} {n i κ p : Nat} {νb : wMem} (F : yFM φ 0 νb) (n12 : n ≤ 12) (hi : i < n) (hw : ∀ j, w j % 10 < 2) (hk : w i / 10 < φ 0 3) (hp : p < φ 0 2) (V : yVz φ κ) (hT : φ 0 3 ≤ 1 → κ % 7 = 0) (fit : yFit (φ 5 (w i / 10)) (w i % 10) (yMz w i) = true) (Iv : yIv φ w n 0 νb) (nx : yNxt φ w n i κ νb) {N : Nat} (K : wMem → Option wMem) : ∀ (d M c : Nat) (ν : wMem) (κ1 s m mk : Nat) (Q : Nat → Prop) (S : Nat → Nat → Prop), d < M → c + d = φ 0 2 + 1 → yKh νb ν → ν.1 22 i = nI mk → yMsk mk Q → yRc S ν →
    ∃ ν1 κ2 s1 m1 mk1, gX6_goesOn_17 N (nI i) (nI κ) (nI (w i / 10)) (nI (w i % 10)) (nI p) K M (nI c - 1) (yU ν κ1 s m) = K (yU ν1 κ2 s1 m1) ∧ yKh νb ν1 ∧ ν1.1 22 i = nI mk1 ∧ yMsk mk1 (fun q => Q q ∨ (q = p ∧ ∃ c2, c ≤ c2 ∧ c2 ≤ φ 0 2 ∧ yTk φ w n i κ p c2)) ∧ yRc (fun j x => S j x ∨ (j = i + 1 ∧ ∃ c2, c ≤ c2 ∧ c2 ≤ φ 0 2 ∧ yTk φ w n i κ p c2 ∧ x = yCk φ w i κ p c2)) ν1 ∧ ∀ j, j ≠ i → ν1.1 22 j = ν.1 22 j := by
  have h6 := O.persons
  have h22 := O.posts
  have hκ := yVz_lt O V
  have hch := O.children
  have hwi := hw i
  obtain ⟨z, hzd⟩ : ∃ z, z = if w i / 10 = 0 then κ / 7 % 7 else κ % 7 := ⟨_, rfl⟩
  have hz : z ≤ φ 0 2 := by
    rw [hzd]
    split
    · exact V.2.1
    · exact V.2.2
  have q2 : ∀ (ν : wMem) κ s m, yKh νb ν → (yU ν κ s m).1 7 (Int32.toNatClampNeg (2 : Int32)) = nI (φ 0 2) := fun ν κ s m k => (yFM_put (yKh_fm F k) _).persons
  have q4 : ∀ (ν : wMem) κ s m, yKh νb ν → (yU ν κ s m).1 7 (Int32.toNatClampNeg (4 : Int32)) = nI (φ 0 4) := fun ν κ s m k => (yFM_put (yKh_fm F k) _).children
  have sideO : ∀ (ν : wMem) s m p, p < 32 → fX6_sideOf N (nI p) (yU ν κ s m) = some (nI (yBit (κ / 49) p), yU ν κ s m) := fun ν s m p hp => by
    unfold fX6_sideOf yU
    rw [yTut_23]
    show some ((nI (κ / 49) >>> _) &&& 1, _) = _
    rw [xI_bit (by omega) hp]
    rfl
  have e49 : nI κ / (49 : Int32) = nI (κ / 49) := xI_div (by omega) (b := 49) (by decide)
  have d7 : nI κ / (7 : Int32) = nI (κ / 7) := xI_div (by omega) (b := 7) (by decide)
  have e77 : (nI κ / (7 : Int32)) - (nI κ / (7 : Int32)) / (7 : Int32) * (7 : Int32) = nI (κ / 7 % 7) := by
    rw [d7]
    exact xI_rem (by omega) (b := 7) (by decide)
  have e7 : nI κ - nI κ / (7 : Int32) * (7 : Int32) = nI (κ % 7) := xI_rem (by omega) (b := 7) (by decide)
  have i1 : nI i + (1 : Int32) = nI (i + 1) := nI_add i 1
  intro d
  induction d with
  | zero =>
    intro M c ν κ1 s m mk Q S hM hc kc hmk hQ hS
    obtain ⟨M, rfl⟩ : ∃ q, M = q + 1 := ⟨M - 1, by omega⟩
    have : c = φ 0 2 + 1 := by omega
    subst this
    refine ⟨ν, κ1, s, m, mk, ?_, kc, hmk, hQ.ext fun q => ⟨Or.inl, fun x => x.elim id fun ⟨_, c2, a, b, _⟩ => absurd b (by omega)⟩, hS.ext fun j x => ⟨Or.inl, fun x => x.elim id fun ⟨_, c2, a, b, _⟩ => absurd b (by omega)⟩, fun _ _ => rfl⟩
    have e : nI (φ 0 2 + 1) - 1 = nI (φ 0 2) := xI_sub (a := φ 0 2 + 1) (b := 1) (by omega)
    show gbX6_goesOn_17 N _ _ _ _ _ _ _ _ _ = _
    unfold gbX6_goesOn_17
    rw [e, yG (show ok_in (2 : Int32) 35 = true by decide), q2 _ _ _ _ kc, yIf (xI_le (a := φ 0 2) (b := φ 0 2) (by omega) (by omega)), if_pos (Nat.le_refl _)]
  | succ d ih =>
    intro M c ν κ1 s m mk Q S hM hc kc hmk hQ hS
    obtain ⟨M, rfl⟩ : ∃ q, M = q + 1 := ⟨M - 1, by omega⟩
    have hcP : c ≤ φ 0 2 := by omega
    have bl1 := yBit_lt (κ / 49) p
    have bl2 := yBit_lt (κ / 49) (c - 1)
    have re := yU_re ν κ κ1 s m
    have add1 : nI c - 1 + (1 : Int32) = nI (c + 1) - 1 := by
      rw [← nI_add c 1]
      show nI c - 1 + 1 = nI c + 1 - 1
      rw [Int32.sub_add_cancel, Int32.add_sub_cancel]
    have J : ∀ ν κ s m, gX6_goesOn_17 N (nI i) (nI κ) (nI (w i / 10)) (nI (w i % 10)) (nI p) K M (nI c - 1 + 1) (yU ν κ s m) = gX6_goesOn_17 N (nI i) (nI κ) (nI (w i / 10)) (nI (w i % 10)) (nI p) K M (nI (c + 1) - 1) (yU ν κ s m) := fun _ _ _ _ => by rw [add1]
    have guard : (nI (φ 0 2) ≤ nI c - 1) = (φ 0 2 + 1 ≤ c) := by
      by_cases g : c = 0
      · subst g
        have : ¬ nI (φ 0 2) ≤ nI 0 - 1 := fun h => by
          have h2 := Int32.le_iff_toInt_le.mp h
          rw [nI_toInt (by omega)] at h2
          have : (nI 0 - 1 : Int32).toInt = -1 := by decide
          omega
        exact propext ⟨fun h => absurd h this, fun h => by omega⟩
      · rw [xI_pred (by omega), xI_le (by omega) (by omega)]
        exact propext ⟨fun h => by omega, fun h => by omega⟩
    have e25 : (yU ν κ s m).1 0 25 = nI (κ / 7 % 7) := yTut_25 _ _
    have e26 : (yU ν κ s m).1 0 26 = nI (κ % 7) := yTut_26 _ _
    have hn : ∀ v, v = z → fX6_noses N (nI p) (nI v) (nI (w i / 10)) (yU ν κ s m) = some (yB (yBeh φ z p (w i / 10)), yU ν κ s m) := fun v hv => by
      rw [hv]
      exact ym_noses O (μ := yU ν κ s m) (yFM_put (yKh_fm F kc) _) N hz hp hk
    have oz := yOz_H O (i := i) hp hcP hk V
    rw [fit, Bool.true_and] at oz
    have nop : ∀ κ3 s3 m3, ¬ yTk φ w n i κ p c → gX6_goesOn_17 N (nI i) (nI κ) (nI (w i / 10)) (nI (w i % 10)) (nI p) K (M + 1) (nI c - 1) (yU ν κ1 s m) = gX6_goesOn_17 N (nI i) (nI κ) (nI (w i / 10)) (nI (w i % 10)) (nI p) K M (nI (c + 1) - 1) (yU ν κ3 s3 m3) → ∃ ν1 κ2 s1 m1 mk1, gX6_goesOn_17 N (nI i) (nI κ) (nI (w i / 10)) (nI (w i % 10)) (nI p) K (M + 1) (nI c - 1) (yU ν κ1 s m) = K (yU ν1 κ2 s1 m1) ∧ yKh νb ν1 ∧ ν1.1 22 i = nI mk1 ∧ yMsk mk1 (fun q => Q q ∨ (q = p ∧ ∃ c2, c ≤ c2 ∧ c2 ≤ φ 0 2 ∧ yTk φ w n i κ p c2)) ∧ yRc (fun j x => S j x ∨ (j = i + 1 ∧ ∃ c2, c ≤ c2 ∧ c2 ≤ φ 0 2 ∧ yTk φ w n i κ p c2 ∧ x = yCk φ w i κ p c2)) ν1 ∧ ∀ j, j ≠ i → ν1.1 22 j = ν.1 22 j := fun κ3 s3 m3 nt e1 => by
      obtain ⟨ν1, κ2, s1, m1, mk1, j1, j2, j3, j4, j5, j6⟩ := ih M (c + 1) ν κ3 s3 m3 mk Q S (by omega) (by omega) kc hmk hQ hS
      have up : ∀ c2, (c + 1 ≤ c2 ∧ c2 ≤ φ 0 2 ∧ yTk φ w n i κ p c2) ↔ (c ≤ c2 ∧ c2 ≤ φ 0 2 ∧ yTk φ w n i κ p c2) := fun c2 => ⟨fun ⟨a, b, t⟩ => ⟨by omega, b, t⟩, fun ⟨a, b, t⟩ => ⟨by
        by_cases y : c2 = c
        · subst y; exact absurd t nt
        · omega, b, t⟩⟩
      refine ⟨ν1, κ2, s1, m1, mk1, e1.trans j1, j2, j3, j4.ext fun q => ?_, j5.ext fun j x => ?_, j6⟩
      · simp only [up]
      · have up2 : ∀ c2, (c + 1 ≤ c2 ∧ c2 ≤ φ 0 2 ∧ yTk φ w n i κ p c2 ∧ x = yCk φ w i κ p c2) ↔ (c ≤ c2 ∧ c2 ≤ φ 0 2 ∧ yTk φ w n i κ p c2 ∧ x = yCk φ w i κ p c2) := fun c2 => ⟨fun ⟨a, b, t, y⟩ => ⟨((up c2).mp ⟨a, b, t⟩).1, b, t, y⟩, fun ⟨a, b, t, y⟩ => ⟨((up c2).mpr ⟨a, b, t⟩).1, b, t, y⟩⟩
        simp only [up2]
    by_cases hH : yHz φ w i κ p c = true
    · have ok := oz.trans hH
      have hH0 := hH
      unfold yHz at hH
      rw [Bool.and_eq_true, Bool.and_eq_true, Bool.and_eq_true, Bool.or_eq_true, Bool.and_eq_true, decide_eq_true_eq, decide_eq_true_eq, decide_eq_true_eq, decide_eq_true_eq, decide_eq_true_eq, ← hzd] at hH
      obtain ⟨h1, h2, h3, h4⟩ := hH
      have hpc : c ≠ 0 → p ≠ c - 1 := fun a b => by
        have := (yOz_act O ok).2.2.2.2.2
        omega
      obtain ⟨s1, m1, hcr⟩ := ym_crossz (μ := ν) O (yKh_fm F kc) N hp hcP hk hpc κ s m
      rw [yCz_N O hp hcP hk hT] at hcr
      have vT := yTz_v (yNz_v O hw ok)
      have hκ2 := yVz_lt O vT
      have done := nx hi _ ok
      have l63 := yWz_63 O w n (r := n - (i + 1)) (by omega) (yTz φ (yNz φ w i κ (10 * c + p)))
      have tk : yTk φ w n i κ p c ↔ yWz φ w n (n - (i + 1)) (yTz φ (yNz φ w i κ (10 * c + p))) ≠ [] := ⟨fun h => h.2, fun h => ⟨ok, h⟩⟩
      have ck : yCk φ w i κ p c = yTz φ (yNz φ w i κ (10 * c + p)) := rfl
      generalize hκe : yTz φ (yNz φ w i κ (10 * c + p)) = κ2 at *
      have x31 : (3136 : Int32) * nI (i + 1) + nI κ2 = nI (3136 * (i + 1) + κ2) := by
        have : (3136 : Int32) * nI (i + 1) = nI (3136 * (i + 1)) := xI_mul 3136 _
        rw [this, nI_add]
      have c18 : (yU ν κ2 s1 m1).2 18 (3136 * (i + 1) + κ2) = lN (yWz φ w n (n - (i + 1)) κ2).length := by
        show ν.2 18 _ = _
        rw [kc.2]
        rcases Iv (i + 1) κ2 (Nat.zero_le _) hi hκ2 with h | h
        · exact absurd h done
        · exact h.1.1
      have l0 : ((0 : Int64) < lN (yWz φ w n (n - (i + 1)) κ2).length) = (0 < (yWz φ w n (n - (i + 1)) κ2).length) := lN_ltz (a := 0) (by decide) l63
      by_cases hB : yWz φ w n (n - (i + 1)) κ2 = []
      · refine nop κ2 s1 m1 (fun h => (tk.mp h) hB) ?_
        show gbX6_goesOn_17 N _ _ _ _ _ _ _ _ _ = _
        unfold gbX6_goesOn_17
        rw [yG (show ok_in (2 : Int32) 35 = true by decide), q2 _ _ _ _ kc, yIf guard, if_neg (by omega), e49, yWL, e77, yWL, e7, yWL, re, sideO _ _ _ p (by omega), yBd, yWL, yIf (xI_e (by omega) (by omega))]
        rw [if_pos h1, yG (show ok_in (4 : Int32) 35 = true by decide), q4 _ _ _ _ kc, ym_bit (by omega) (by omega), yBd, yB2 h2, yWL, e25, e26, yIf (xI_e0 (by omega))]
        by_cases hk0 : w i / 10 = 0
        · rw [if_pos hk0]
          show wBind (fX6_noses N (nI p) (nI (κ / 7 % 7)) (nI (w i / 10)) (yU ν κ s m)) _ = _
          rw [hn _ (by rw [hzd, if_pos hk0]), yBd, h3, yIf (yB_0 _), if_neg (by decide), yWL]
          by_cases g3 : c = 0
          · rw [yIf (xI_m1 (by omega)), if_pos g3]
            show wBindV (fX6_crosses N (nI p) (nI c - 1) (nI (w i / 10)) (yU ν κ s m)) _ = _
            rw [hcr, yBV, ym_kindz, yBd, i1, x31, yWL, yG (xI_in (by omega) (by decide)), xI_cl (by omega), c18, yIf l0]
            rw [if_neg (by rw [hB]; decide)]
            show gX6_goesOn_17 N (nI i) (nI κ) (nI (w i / 10)) (nI (w i % 10)) (nI p) K M (nI c - 1 + 1) _ = _
            rw [add1]
          · have pr : nI c - 1 = nI (c - 1) := xI_pred (by omega)
            have h4' := h4.resolve_left g3
            rw [yIf (xI_m1 (by omega)), if_neg g3, yG (show ok_in (4 : Int32) 35 = true by decide), q4 _ _ _ _ kc, pr, ym_bit (by omega) (by omega), yBd, yB1 h4'.1, sideO _ _ _ (c - 1) (by omega), yBd, yIf (xI_e (by omega) (by omega)), if_pos h4'.2, ← pr]
            show wBindV (fX6_crosses N (nI p) (nI c - 1) (nI (w i / 10)) (yU ν κ s m)) _ = _
            rw [hcr, yBV, ym_kindz, yBd, i1, x31, yWL, yG (xI_in (by omega) (by decide)), xI_cl (by omega), c18, yIf l0]
            rw [if_neg (by rw [hB]; decide)]
            show gX6_goesOn_17 N (nI i) (nI κ) (nI (w i / 10)) (nI (w i % 10)) (nI p) K M (nI c - 1 + 1) _ = _
            rw [add1]
        · rw [if_neg hk0]
          show wBind (fX6_noses N (nI p) (nI (κ % 7)) (nI (w i / 10)) (yU ν κ s m)) _ = _
          rw [hn _ (by rw [hzd, if_neg hk0]), yBd, h3, yIf (yB_0 _), if_neg (by decide), yWL]
          by_cases g3 : c = 0
          · rw [yIf (xI_m1 (by omega)), if_pos g3]
            show wBindV (fX6_crosses N (nI p) (nI c - 1) (nI (w i / 10)) (yU ν κ s m)) _ = _
            rw [hcr, yBV, ym_kindz, yBd, i1, x31, yWL, yG (xI_in (by omega) (by decide)), xI_cl (by omega), c18, yIf l0]
            rw [if_neg (by rw [hB]; decide)]
            show gX6_goesOn_17 N (nI i) (nI κ) (nI (w i / 10)) (nI (w i % 10)) (nI p) K M (nI c - 1 + 1) _ = _
            rw [add1]
          · have pr : nI c - 1 = nI (c - 1) := xI_pred (by omega)
            have h4' := h4.resolve_left g3
            rw [yIf (xI_m1 (by omega)), if_neg g3, yG (show ok_in (4 : Int32) 35 = true by decide), q4 _ _ _ _ kc, pr, ym_bit (by omega) (by omega), yBd, yB1 h4'.1, sideO _ _ _ (c - 1) (by omega), yBd, yIf (xI_e (by omega) (by omega)), if_pos h4'.2, ← pr]
            show wBindV (fX6_crosses N (nI p) (nI c - 1) (nI (w i / 10)) (yU ν κ s m)) _ = _
            rw [hcr, yBV, ym_kindz, yBd, i1, x31, yWL, yG (xI_in (by omega) (by decide)), xI_cl (by omega), c18, yIf l0]
            rw [if_neg (by rw [hB]; decide)]
            show gX6_goesOn_17 N (nI i) (nI κ) (nI (w i / 10)) (nI (w i % 10)) (nI p) K M (nI c - 1 + 1) _ = _
            rw [add1]
      · have c22 : (yU (wSI ν 23 (3136 * (i + 1) + κ2) (1 : Int32)) κ2 s1 m1).1 22 i = nI mk := by
          refine (yTut_c _ _ (by decide) _).trans ?_
          rw [yS_get, if_neg (by omega)]
          exact hmk
        obtain ⟨ν1, κ3, s2, m2, mk1, j1, j2, j3, j4, j5, j6⟩ := ih M (c + 1) (wSI (wSI ν 23 (3136 * (i + 1) + κ2) (1 : Int32)) 22 i (nI (mk ||| 2 ^ p))) κ2 s1 m1 (mk ||| 2 ^ p) (fun q => Q q ∨ q = p) (fun j x => S j x ∨ (j = i + 1 ∧ x = κ2)) (by omega) (by omega) ⟨fun c j a b => by rw [yS_get, if_neg (fun z => a z.1), yS_get, if_neg (fun z => b z.1)]; exact kc.1 c j a b, kc.2⟩ (by rw [yS_get, if_pos ⟨rfl, rfl⟩]) (yMsk_or hQ) (fun j x a b => by
          rw [yS_get, if_neg (by omega), yS_get]
          by_cases y : j = i + 1 ∧ x = κ2
          · rw [if_pos ⟨rfl, by rw [y.1, y.2]⟩]
            exact Or.inl ⟨rfl, Or.inr y⟩
          · rw [if_neg (by omega)]
            rcases hS j x a b with h | h
            · exact Or.inl ⟨h.1, Or.inl h.2⟩
            · exact Or.inr ⟨h.1, fun t => t.elim h.2 y⟩)
        have tc : yTk φ w n i κ p c := tk.mpr hB
        refine ⟨ν1, κ3, s2, m2, mk1, Eq.trans ?_ j1, j2, j3, j4.ext fun q => ?_, j5.ext fun j x => ?_, fun j hj => (j6 j hj).trans (by rw [yS_get, if_neg (fun z => hj z.2), yS_get, if_neg (by omega)])⟩
        · show gbX6_goesOn_17 N _ _ _ _ _ _ _ _ _ = _
          unfold gbX6_goesOn_17
          rw [yG (show ok_in (2 : Int32) 35 = true by decide), q2 _ _ _ _ kc, yIf guard, if_neg (by omega), e49, yWL, e77, yWL, e7, yWL, re, sideO _ _ _ p (by omega), yBd, yWL, yIf (xI_e (by omega) (by omega))]
          rw [if_pos h1, yG (show ok_in (4 : Int32) 35 = true by decide), q4 _ _ _ _ kc, ym_bit (by omega) (by omega), yBd, yB2 h2, yWL, e25, e26, yIf (xI_e0 (by omega))]
          by_cases hk0 : w i / 10 = 0
          · rw [if_pos hk0]
            show wBind (fX6_noses N (nI p) (nI (κ / 7 % 7)) (nI (w i / 10)) (yU ν κ s m)) _ = _
            rw [hn _ (by rw [hzd, if_pos hk0]), yBd, h3, yIf (yB_0 _), if_neg (by decide), yWL]
            by_cases g3 : c = 0
            · rw [yIf (xI_m1 (by omega)), if_pos g3]
              show wBindV (fX6_crosses N (nI p) (nI c - 1) (nI (w i / 10)) (yU ν κ s m)) _ = _
              rw [hcr, yBV, ym_kindz, yBd, i1, x31, yWL, yG (xI_in (by omega) (by decide)), xI_cl (by omega), c18, yIf l0]
              rw [if_pos (by
                cases hB2 : yWz φ w n (n - (i + 1)) κ2 with
                | nil => exact absurd hB2 hB
                | cons a l => rw [List.length_cons]; omega), yG (xI_in (by omega) (by decide)), yWL, yU_sc _ _ _ _ (by decide), yG (xI_in (by omega) (by decide)), yG (xI_in (by omega) (by decide)), xI_cl (by omega), c22, xI_pow _ (by omega), xI_or, yU_sc _ _ _ _ (by decide), yWL]
              show gX6_goesOn_17 N (nI i) (nI κ) (nI (w i / 10)) (nI (w i % 10)) (nI p) K M (nI c - 1 + 1) _ = _
              rw [add1]
            · have pr : nI c - 1 = nI (c - 1) := xI_pred (by omega)
              have h4' := h4.resolve_left g3
              rw [yIf (xI_m1 (by omega)), if_neg g3, yG (show ok_in (4 : Int32) 35 = true by decide), q4 _ _ _ _ kc, pr, ym_bit (by omega) (by omega), yBd, yB1 h4'.1, sideO _ _ _ (c - 1) (by omega), yBd, yIf (xI_e (by omega) (by omega)), if_pos h4'.2, ← pr]
              show wBindV (fX6_crosses N (nI p) (nI c - 1) (nI (w i / 10)) (yU ν κ s m)) _ = _
              rw [hcr, yBV, ym_kindz, yBd, i1, x31, yWL, yG (xI_in (by omega) (by decide)), xI_cl (by omega), c18, yIf l0]
              rw [if_pos (by
                cases hB2 : yWz φ w n (n - (i + 1)) κ2 with
                | nil => exact absurd hB2 hB
                | cons a l => rw [List.length_cons]; omega), yG (xI_in (by omega) (by decide)), yWL, yU_sc _ _ _ _ (by decide), yG (xI_in (by omega) (by decide)), yG (xI_in (by omega) (by decide)), xI_cl (by omega), c22, xI_pow _ (by omega), xI_or, yU_sc _ _ _ _ (by decide), yWL]
              show gX6_goesOn_17 N (nI i) (nI κ) (nI (w i / 10)) (nI (w i % 10)) (nI p) K M (nI c - 1 + 1) _ = _
              rw [add1]
          · rw [if_neg hk0]
            show wBind (fX6_noses N (nI p) (nI (κ % 7)) (nI (w i / 10)) (yU ν κ s m)) _ = _
            rw [hn _ (by rw [hzd, if_neg hk0]), yBd, h3, yIf (yB_0 _), if_neg (by decide), yWL]
            by_cases g3 : c = 0
            · rw [yIf (xI_m1 (by omega)), if_pos g3]
              show wBindV (fX6_crosses N (nI p) (nI c - 1) (nI (w i / 10)) (yU ν κ s m)) _ = _
              rw [hcr, yBV, ym_kindz, yBd, i1, x31, yWL, yG (xI_in (by omega) (by decide)), xI_cl (by omega), c18, yIf l0]
              rw [if_pos (by
                cases hB2 : yWz φ w n (n - (i + 1)) κ2 with
                | nil => exact absurd hB2 hB
                | cons a l => rw [List.length_cons]; omega), yG (xI_in (by omega) (by decide)), yWL, yU_sc _ _ _ _ (by decide), yG (xI_in (by omega) (by decide)), yG (xI_in (by omega) (by decide)), xI_cl (by omega), c22, xI_pow _ (by omega), xI_or, yU_sc _ _ _ _ (by decide), yWL]
              show gX6_goesOn_17 N (nI i) (nI κ) (nI (w i / 10)) (nI (w i % 10)) (nI p) K M (nI c - 1 + 1) _ = _
              rw [add1]
            · have pr : nI c - 1 = nI (c - 1) := xI_pred (by omega)
              have h4' := h4.resolve_left g3
              rw [yIf (xI_m1 (by omega)), if_neg g3, yG (show ok_in (4 : Int32) 35 = true by decide), q4 _ _ _ _ kc, pr, ym_bit (by omega) (by omega), yBd, yB1 h4'.1, sideO _ _ _ (c - 1) (by omega), yBd, yIf (xI_e (by omega) (by omega)), if_pos h4'.2, ← pr]
              show wBindV (fX6_crosses N (nI p) (nI c - 1) (nI (w i / 10)) (yU ν κ s m)) _ = _
              rw [hcr, yBV, ym_kindz, yBd, i1, x31, yWL, yG (xI_in (by omega) (by decide)), xI_cl (by omega), c18, yIf l0]
              rw [if_pos (by
                cases hB2 : yWz φ w n (n - (i + 1)) κ2 with
                | nil => exact absurd hB2 hB
                | cons a l => rw [List.length_cons]; omega), yG (xI_in (by omega) (by decide)), yWL, yU_sc _ _ _ _ (by decide), yG (xI_in (by omega) (by decide)), yG (xI_in (by omega) (by decide)), xI_cl (by omega), c22, xI_pow _ (by omega), xI_or, yU_sc _ _ _ _ (by decide), yWL]
              show gX6_goesOn_17 N (nI i) (nI κ) (nI (w i / 10)) (nI (w i % 10)) (nI p) K M (nI c - 1 + 1) _ = _
              rw [add1]
        · constructor
          · rintro ((h | h) | ⟨h, c2, a, b, t⟩)
            · exact Or.inl h
            · exact Or.inr ⟨h, c, Nat.le_refl _, hcP, tc⟩
            · exact Or.inr ⟨h, c2, by omega, b, t⟩
          · rintro (h | ⟨h, c2, a, b, t⟩)
            · exact Or.inl (Or.inl h)
            · exact Or.inl (Or.inr h)
        · constructor
          · rintro ((h | h) | ⟨h, c2, a, b, t, y⟩)
            · exact Or.inl h
            · exact Or.inr ⟨h.1, c, Nat.le_refl _, hcP, tc, by rw [ck]; exact h.2⟩
            · exact Or.inr ⟨h, c2, by omega, b, t, y⟩
          · rintro (h | ⟨h, c2, a, b, t, y⟩)
            · exact Or.inl (Or.inl h)
            · by_cases g : c2 = c
              · subst g
                exact Or.inl (Or.inr ⟨h, by rw [y, ck]⟩)
              · exact Or.inr ⟨h, c2, by omega, b, t, y⟩
    · rw [Bool.not_eq_true] at hH
      have ok := oz.trans hH
      refine nop κ s m (fun h => by
        have h1 := h.1
        rw [ok] at h1
        exact absurd h1 (by decide)) ?_
      show gbX6_goesOn_17 N _ _ _ _ _ _ _ _ _ = _
      unfold gbX6_goesOn_17
      rw [yG (show ok_in (2 : Int32) 35 = true by decide), q2 _ _ _ _ kc, yIf guard, if_neg (by omega), e49, yWL, e77, yWL, e7, yWL, re, sideO _ _ _ p (by omega), yBd, yWL, yIf (xI_e (by omega) (by omega))]
      by_cases h1 : yBit (κ / 49) p = w i % 10
      · rw [if_pos h1, yG (show ok_in (4 : Int32) 35 = true by decide), q4 _ _ _ _ kc, ym_bit (by omega) (by omega), yBd]
        by_cases h2 : yBit (φ 0 4) p = 1
        · rw [yB1 h2]
          show gX6_goesOn_17 N (nI i) (nI κ) (nI (w i / 10)) (nI (w i % 10)) (nI p) K M (nI c - 1 + 1) _ = _
          rw [add1]
        · rw [yB2 h2, yWL, e25, e26, yIf (xI_e0 (by omega))]
          by_cases hk0 : w i / 10 = 0
          · rw [if_pos hk0]
            show wBind (fX6_noses N (nI p) (nI (κ / 7 % 7)) (nI (w i / 10)) (yU ν κ s m)) _ = _
            rw [hn _ (by rw [hzd, if_pos hk0]), yBd]
            cases hb : yBeh φ z p (w i / 10) with
            | false =>
              rw [yIf (yB_0 _), if_pos rfl]
              show gX6_goesOn_17 N (nI i) (nI κ) (nI (w i / 10)) (nI (w i % 10)) (nI p) K M (nI c - 1 + 1) _ = _
              rw [add1]
            | true =>
              rw [yIf (yB_0 _), if_neg (by decide), yWL]
              by_cases g3 : c = 0
              · exfalso
                unfold yHz at hH
                rw [decide_eq_true h1, decide_eq_true h2, ← hzd, hb, decide_eq_true g3] at hH
                simp at hH
              · have pr : nI c - 1 = nI (c - 1) := xI_pred (by omega)
                rw [yIf (xI_m1 (by omega)), if_neg g3, yG (show ok_in (4 : Int32) 35 = true by decide), q4 _ _ _ _ kc, pr, ym_bit (by omega) (by omega), yBd]
                by_cases h5 : yBit (φ 0 4) (c - 1) = 1
                · rw [yB1 h5, sideO _ _ _ (c - 1) (by omega), yBd, yIf (xI_e (by omega) (by omega))]
                  by_cases h6 : yBit (κ / 49) (c - 1) = w i % 10
                  · exfalso
                    unfold yHz at hH
                    rw [decide_eq_true h1, decide_eq_true h2, ← hzd, hb, decide_eq_false g3, decide_eq_true h5, decide_eq_true h6] at hH
                    simp at hH
                  · rw [if_neg h6, ← pr]
                    show gX6_goesOn_17 N (nI i) (nI κ) (nI (w i / 10)) (nI (w i % 10)) (nI p) K M (nI c - 1 + 1) _ = _
                    rw [add1]
                · rw [yB2 h5, ← pr]
                  show gX6_goesOn_17 N (nI i) (nI κ) (nI (w i / 10)) (nI (w i % 10)) (nI p) K M (nI c - 1 + 1) _ = _
                  rw [add1]
          · rw [if_neg hk0]
            show wBind (fX6_noses N (nI p) (nI (κ % 7)) (nI (w i / 10)) (yU ν κ s m)) _ = _
            rw [hn _ (by rw [hzd, if_neg hk0]), yBd]
            cases hb : yBeh φ z p (w i / 10) with
            | false =>
              rw [yIf (yB_0 _), if_pos rfl]
              show gX6_goesOn_17 N (nI i) (nI κ) (nI (w i / 10)) (nI (w i % 10)) (nI p) K M (nI c - 1 + 1) _ = _
              rw [add1]
            | true =>
              rw [yIf (yB_0 _), if_neg (by decide), yWL]
              by_cases g3 : c = 0
              · exfalso
                unfold yHz at hH
                rw [decide_eq_true h1, decide_eq_true h2, ← hzd, hb, decide_eq_true g3] at hH
                simp at hH
              · have pr : nI c - 1 = nI (c - 1) := xI_pred (by omega)
                rw [yIf (xI_m1 (by omega)), if_neg g3, yG (show ok_in (4 : Int32) 35 = true by decide), q4 _ _ _ _ kc, pr, ym_bit (by omega) (by omega), yBd]
                by_cases h5 : yBit (φ 0 4) (c - 1) = 1
                · rw [yB1 h5, sideO _ _ _ (c - 1) (by omega), yBd, yIf (xI_e (by omega) (by omega))]
                  by_cases h6 : yBit (κ / 49) (c - 1) = w i % 10
                  · exfalso
                    unfold yHz at hH
                    rw [decide_eq_true h1, decide_eq_true h2, ← hzd, hb, decide_eq_false g3, decide_eq_true h5, decide_eq_true h6] at hH
                    simp at hH
                  · rw [if_neg h6, ← pr]
                    show gX6_goesOn_17 N (nI i) (nI κ) (nI (w i / 10)) (nI (w i % 10)) (nI p) K M (nI c - 1 + 1) _ = _
                    rw [add1]
                · rw [yB2 h5, ← pr]
                  show gX6_goesOn_17 N (nI i) (nI κ) (nI (w i / 10)) (nI (w i % 10)) (nI p) K M (nI c - 1 + 1) _ = _
                  rw [add1]
      · rw [if_neg h1]
        show gX6_goesOn_17 N (nI i) (nI κ) (nI (w i / 10)) (nI (w i % 10)) (nI p) K M (nI c - 1 + 1) _ = _
        rw [add1]
