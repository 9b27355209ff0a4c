set_option maxRecDepth 100000
/-! part 99996: the twin's laysHad: a stamp's scenes -/
theorem yWz_fit {φ : Nat → Nat → Nat} (O : yOk φ) {w : Nat → Nat} {n i κ : Nat} (hi : i < n) (hk : w i / 10 < φ 0 3) (V : yVz φ κ) (h : yWz φ w n (n - i) κ ≠ []) : yFit (φ 5 (w i / 10)) (w i % 10) (yMz w i) = true := by
  cases fit : yFit (φ 5 (w i / 10)) (w i % 10) (yMz w i) with
  | true => rfl
  | false =>
    exfalso
    apply h
    rw [yWz_pc φ w hi κ]
    refine yQm_nil fun p hp => yQm_nil fun c hc => ?_
    unfold yFz2
    rw [yOz_H O hp (by omega) hk V, fit]
    exact if_neg (by simp)
theorem ym_had_95 {φ : Nat → Nat → Nat} (O : yOk φ) {w : Nat → Nat} {n i : Nat} {νb : wMem} (F : yFM φ 0 νb) (n12 : n ≤ 12) (hi : i < n) (hw : ∀ j, w j % 10 < 2) (hk : w i / 10 < φ 0 3) (Iv : yIv φ w n 0 νb) {N : Nat} (hN : 100 ≤ N) (a1 : Int32) (S0 : Nat → Prop) (hS0 : ∀ x, x < 3136 → S0 x → yVz φ x ∧ (φ 0 3 ≤ 1 → x % 7 = 0) ∧ νb.2 18 (3136 * i + x) ≠ -1) (K : wMem → Option wMem) : ∀ (d M κ : Nat) (ν : wMem) (κ1 s m mk : Nat) (Q : Nat → Prop) (S : Nat → Nat → Prop), d < M → κ + d = 3136 → yKh νb ν → ν.1 22 i = nI mk → yMsk mk Q → yRc S ν → (∀ x, x < 3136 → (S i x ↔ S0 x)) →
    ∃ ν1 κ2 s1 m1 mk1, gX6_laysHad_95 N a1 (nI i) (nI (w i / 10)) (nI (w i % 10)) K M (nI κ) (yU ν κ1 s m) = K (yU ν1 κ2 s1 m1) ∧ yKh νb ν1 ∧ ν1.1 22 i = nI mk1 ∧ yMsk mk1 (fun q => Q q ∨ ∃ y, κ ≤ y ∧ y < 3136 ∧ S0 y ∧ yWz φ w n (n - i) y ≠ [] ∧ yPk φ w n i y q) ∧ yRc (fun j x => S j x ∨ (j = i + 1 ∧ ∃ y, κ ≤ y ∧ y < 3136 ∧ S0 y ∧ yWz φ w n (n - i) y ≠ [] ∧ yLkz φ w n i y x)) ν1 ∧ ∀ j, j ≠ i → ν1.1 22 j = ν.1 22 j := by
  intro d
  induction d with
  | zero =>
    intro M κ ν κ1 s m mk Q S hM hc kc hmk hQ hS hSi
    obtain ⟨M, rfl⟩ : ∃ q, M = q + 1 := ⟨M - 1, by omega⟩
    have : κ = 3136 := by omega
    subst this
    refine ⟨ν, κ1, s, m, mk, ?_, kc, hmk, hQ.ext fun q => ⟨Or.inl, fun x => x.elim id fun ⟨y, a, b, _⟩ => absurd b (by omega)⟩, hS.ext fun j x => ⟨Or.inl, fun x => x.elim id fun ⟨_, y, a, b, _⟩ => absurd b (by omega)⟩, fun _ _ => rfl⟩
    show gbX6_laysHad_95 N _ _ _ _ _ _ _ _ = _
    unfold gbX6_laysHad_95
    show (if nI 3136 ≤ nI 3136 then _ else _) = _
    rw [yIf (xI_le (a := 3136) (b := 3136) (by decide) (by decide)), if_pos (Nat.le_refl _)]
  | succ d ih =>
    intro M κ ν κ1 s m mk Q S hM hc kc hmk hQ hS hSi
    obtain ⟨M, rfl⟩ : ∃ q, M = q + 1 := ⟨M - 1, by omega⟩
    have add1 : nI κ + (1 : Int32) = nI (κ + 1) := nI_add κ 1
    have x4 : (3136 : Int32) * nI i + nI κ = nI (3136 * i + κ) := by
      have : (3136 : Int32) * nI i = nI (3136 * i) := xI_mul 3136 i
      rw [this, nI_add]
    have okx : ok_in (nI (3136 * i + κ)) 40768 = true := xI_in (by omega) (by decide)
    have hκ : κ < 3136 := by omega
    have head : ∀ x y : Option wMem, (if (3136 : Int32) ≤ nI κ then x else y) = y := fun x y => by
      show (if nI 3136 ≤ nI κ then x else y) = y
      rw [yIf (xI_le (a := 3136) (by decide) (by omega)), if_neg (by omega)]
    have c23 : (yU ν κ1 s m).1 23 (3136 * i + κ) = ν.1 23 (3136 * i + κ) := yTut_c _ _ (by decide) _
    have l63 := yWz_63 O w n (r := n - i) (by omega) κ
    have nop : ¬ (S0 κ ∧ yWz φ w n (n - i) κ ≠ []) → gX6_laysHad_95 N a1 (nI i) (nI (w i / 10)) (nI (w i % 10)) K (M + 1) (nI κ) (yU ν κ1 s m) = gX6_laysHad_95 N a1 (nI i) (nI (w i / 10)) (nI (w i % 10)) K M (nI (κ + 1)) (yU ν κ1 s m) → ∃ ν1 κ2 s1 m1 mk1, gX6_laysHad_95 N a1 (nI i) (nI (w i / 10)) (nI (w i % 10)) K (M + 1) (nI κ) (yU ν κ1 s m) = K (yU ν1 κ2 s1 m1) ∧ yKh νb ν1 ∧ ν1.1 22 i = nI mk1 ∧ yMsk mk1 (fun q => Q q ∨ ∃ y, κ ≤ y ∧ y < 3136 ∧ S0 y ∧ yWz φ w n (n - i) y ≠ [] ∧ yPk φ w n i y q) ∧ yRc (fun j x => S j x ∨ (j = i + 1 ∧ ∃ y, κ ≤ y ∧ y < 3136 ∧ S0 y ∧ yWz φ w n (n - i) y ≠ [] ∧ yLkz φ w n i y x)) ν1 ∧ ∀ j, j ≠ i → ν1.1 22 j = ν.1 22 j := fun nt e1 => by
      obtain ⟨ν1, κ2, s1, m1, mk1, j1, j2, j3, j4, j5, j6⟩ := ih M (κ + 1) ν κ1 s m mk Q S (by omega) (by omega) kc hmk hQ hS hSi
      refine ⟨ν1, κ2, s1, m1, mk1, e1.trans j1, j2, j3, j4.ext fun q => ?_, j5.ext fun j x => ?_, j6⟩
      · constructor
        · rintro (h | ⟨y, a, b⟩)
          · exact Or.inl h
          · exact Or.inr ⟨y, by omega, b⟩
        · rintro (h | ⟨y, a, b, c, e, f⟩)
          · exact Or.inl h
          · by_cases g : y = κ
            · subst g; exact absurd ⟨c, e⟩ nt
            · exact Or.inr ⟨y, by omega, b, c, e, f⟩
      · constructor
        · rintro (h | ⟨h, y, a, b⟩)
          · exact Or.inl h
          · exact Or.inr ⟨h, y, by omega, b⟩
        · rintro (h | ⟨h, y, a, b, c, e, f⟩)
          · exact Or.inl h
          · by_cases g : y = κ
            · subst g; exact absurd ⟨c, e⟩ nt
            · exact Or.inr ⟨h, y, by omega, b, c, e, f⟩
    rcases hS i κ (by omega) hκ with ⟨h23, hs⟩ | ⟨h23, hs⟩
    · have hs0 := (hSi κ hκ).mp hs
      obtain ⟨V, hT, dn⟩ := hS0 κ hκ hs0
      have H : yHolds (3136 * i + κ) (yWz φ w n (n - i) κ) νb ∧ yNxt φ w n i κ νb := by
        rcases Iv i κ (Nat.zero_le _) (by omega) hκ with h | h
        · exact absurd h dn
        · exact h
      have c18 : (yU ν κ1 s m).2 18 (3136 * i + κ) = lN (yWz φ w n (n - i) κ).length := by
        show ν.2 18 _ = _
        rw [kc.2]
        exact H.1.1
      by_cases hB : yWz φ w n (n - i) κ = []
      · refine nop (fun h => h.2 hB) ?_
        show gbX6_laysHad_95 N _ _ _ _ _ _ _ _ = _
        unfold gbX6_laysHad_95
        rw [head, x4, yG okx, yWL, xI_cl (by omega), c23, h23, if_neg (by decide), yG okx, c18, yIf (lN_le0 l63), if_pos (by rw [hB]; rfl)]
        show gX6_laysHad_95 N a1 (nI i) (nI (w i / 10)) (nI (w i % 10)) K M (nI κ + 1) _ = _
        rw [add1]
      · obtain ⟨ν1, κ2, s1, m1, mk1, k1, k2, k3, k4, k5, k6⟩ := ym_goesz O F n12 hi hw hk V hT (yWz_fit O hi hk V hB) Iv H.2 hN ν κ1 s m mk Q S kc hmk hQ hS
        obtain ⟨ν2, κ3, s2, m2, mk2, j1, j2, j3, j4, j5, j6⟩ := ih M (κ + 1) ν1 κ2 s1 m1 mk1 _ _ (by omega) (by omega) k2 k3 k4 k5 (fun x hx => ⟨fun h => h.elim (hSi x hx).mp fun g => absurd g.1 (by omega), fun h => Or.inl ((hSi x hx).mpr h)⟩)
        refine ⟨ν2, κ3, s2, m2, mk2, Eq.trans ?_ j1, j2, j3, j4.ext fun q => ?_, j5.ext fun j x => ?_, fun j hj => (j6 j hj).trans (k6 j hj)⟩
        · show gbX6_laysHad_95 N _ _ _ _ _ _ _ _ = _
          unfold gbX6_laysHad_95
          rw [head, x4, yG okx, yWL, xI_cl (by omega), c23, h23, if_neg (by decide), yG okx, c18, yIf (lN_le0 l63), if_neg (fun h => hB (List.eq_nil_of_length_eq_zero h)), k1, yBV]
          show gX6_laysHad_95 N a1 (nI i) (nI (w i / 10)) (nI (w i % 10)) K M (nI κ + 1) _ = _
          rw [add1]
        · constructor
          · rintro ((h | h) | ⟨y, a, b⟩)
            · exact Or.inl h
            · exact Or.inr ⟨κ, Nat.le_refl _, hκ, hs0, hB, h⟩
            · exact Or.inr ⟨y, by omega, b⟩
          · rintro (h | ⟨y, a, b, c, e, f⟩)
            · exact Or.inl (Or.inl h)
            · by_cases g : y = κ
              · subst g; exact Or.inl (Or.inr f)
              · exact Or.inr ⟨y, by omega, b, c, e, f⟩
        · constructor
          · rintro ((h | ⟨h, g⟩) | ⟨h, y, a, b⟩)
            · exact Or.inl h
            · exact Or.inr ⟨h, κ, Nat.le_refl _, hκ, hs0, hB, g⟩
            · exact Or.inr ⟨h, y, by omega, b⟩
          · rintro (h | ⟨h, y, a, b, c, e, f⟩)
            · exact Or.inl (Or.inl h)
            · by_cases g : y = κ
              · subst g; exact Or.inl (Or.inr ⟨h, f⟩)
              · exact Or.inr ⟨h, y, by omega, b, c, e, f⟩
    · refine nop (fun h => hs ((hSi κ hκ).mpr h.1)) ?_
      show gbX6_laysHad_95 N _ _ _ _ _ _ _ _ = _
      unfold gbX6_laysHad_95
      rw [head, x4, yG okx, yWL, xI_cl (by omega), c23, h23, if_pos (show nI 0 = (0 : Int32) from rfl)]
      show gX6_laysHad_95 N a1 (nI i) (nI (w i / 10)) (nI (w i % 10)) K M (nI κ + 1) _ = _
      rw [add1]
