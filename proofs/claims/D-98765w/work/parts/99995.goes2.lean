set_option maxRecDepth 100000
/-! part 99995: the twin's goesOn, whole -/
theorem ym_goes_3 {φ : Nat → Nat → Nat} (O : yOk φ) {w : Nat → Nat} {n i κ : Nat} {νb : wMem} (F : yFM φ 0 νb) (n12 : n ≤ 12) (hi : i < n) (hw : ∀ j, w j % 10 < 2) (hk : w i / 10 < φ 0 3) (V : yVz φ κ) (hT : φ 0 3 ≤ 1 → κ % 7 = 0) (fit : yFit (φ 5 (w i / 10)) (w i % 10) (yMz w i) = true) (Iv : yIv φ w n 0 νb) (nx : yNxt φ w n i κ νb) {N : Nat} (hN : 100 ≤ N) (K : wMem → Option wMem) : ∀ (d M p : Nat) (ν : wMem) (κ1 s m mk : Nat) (Q : Nat → Prop) (S : Nat → Nat → Prop), d < M → p + d = φ 0 2 → yKh νb ν → ν.1 22 i = nI mk → yMsk mk Q → yRc S ν →
    ∃ ν1 κ2 s1 m1 mk1, gX6_goesOn_3 N (nI i) (nI κ) (nI (w i / 10)) (nI (w i % 10)) K M (nI p) (yU ν κ1 s m) = K (yU ν1 κ2 s1 m1) ∧ yKh νb ν1 ∧ ν1.1 22 i = nI mk1 ∧ yMsk mk1 (fun q => Q q ∨ (p ≤ q ∧ q < φ 0 2 ∧ ∃ c2, c2 ≤ φ 0 2 ∧ yTk φ w n i κ q c2)) ∧ yRc (fun j x => S j x ∨ (j = i + 1 ∧ ∃ p2, p ≤ p2 ∧ p2 < φ 0 2 ∧ ∃ c2, c2 ≤ φ 0 2 ∧ yTk φ w n i κ p2 c2 ∧ x = yCk φ w i κ p2 c2)) ν1 ∧ ∀ j, j ≠ i → ν1.1 22 j = ν.1 22 j := by
  have h6 := O.persons
  have q2 : ∀ (ν : wMem) κ s m, yKh νb ν → (yU ν κ s m).1 7 (Int32.toNatClampNeg (2 : Int32)) = nI (φ 0 2) := fun ν κ s m k => (yFM_put (yKh_fm F k) _).persons
  intro d
  induction d with
  | zero =>
    intro M p ν κ1 s m mk Q S hM hc kc hmk hQ hS
    obtain ⟨M, rfl⟩ : ∃ q, M = q + 1 := ⟨M - 1, by omega⟩
    have : p = φ 0 2 := by omega
    subst this
    refine ⟨ν, κ1, s, m, mk, ?_, kc, hmk, hQ.ext fun q => ⟨Or.inl, fun x => x.elim id fun ⟨a, b, _⟩ => absurd b (by omega)⟩, hS.ext fun j x => ⟨Or.inl, fun x => x.elim id fun ⟨_, p2, a, b, _⟩ => absurd b (by omega)⟩, fun _ _ => rfl⟩
    show gbX6_goesOn_3 N _ _ _ _ _ _ _ _ = _
    unfold gbX6_goesOn_3
    rw [yG (show ok_in (2 : Int32) 35 = true by decide), q2 _ _ _ _ kc, yIf (xI_le (a := φ 0 2) (b := φ 0 2) (by omega) (by omega)), if_pos (Nat.le_refl _)]
  | succ d ih =>
    intro M p ν κ1 s m mk Q S hM hc kc hmk hQ hS
    obtain ⟨M, rfl⟩ : ∃ q, M = q + 1 := ⟨M - 1, by omega⟩
    have add1 : nI p + (1 : Int32) = nI (p + 1) := nI_add p 1
    obtain ⟨ν1, κ2, s1, m1, mk1, k1, k2, k3, k4, k5, k6⟩ := ym_goes_17 O F n12 hi hw hk (p := p) (by omega) V hT fit Iv nx (N := N) (fun (μ51 : wMem) => wLet (nI p + 1 : Int32) fun x52 => gX6_goesOn_3 N (nI i) (nI κ) (nI (w i / 10)) (nI (w i % 10)) K M x52 μ51) (φ 0 2 + 1) N 0 ν κ1 s m mk Q S (by omega) (by omega) kc hmk hQ hS
    obtain ⟨ν2, κ3, s2, m2, mk2, j1, j2, j3, j4, j5, j6⟩ := ih M (p + 1) ν1 κ2 s1 m1 mk1 _ _ (by omega) (by omega) k2 k3 k4 k5
    have e : (nI 0 - 1 : Int32) = -1 := by decide
    rw [e] at k1
    refine ⟨ν2, κ3, s2, m2, mk2, Eq.trans ?_ j1, j2, j3, j4.ext fun q => ?_, j5.ext fun j x => ?_, fun j hj => (j6 j hj).trans (k6 j hj)⟩
    · show gbX6_goesOn_3 N _ _ _ _ _ _ _ _ = _
      unfold gbX6_goesOn_3
      rw [yG (show ok_in (2 : Int32) 35 = true by decide), q2 _ _ _ _ kc, yIf (xI_le (by omega) (by omega)), if_neg (by omega)]
      refine Eq.trans k1 ?_
      rw [yWL, add1]
    · constructor
      · rintro ((h | ⟨h, c2, _, b, t⟩) | ⟨a, b, t⟩)
        · exact Or.inl h
        · subst h
          exact Or.inr ⟨Nat.le_refl _, by omega, c2, b, t⟩
        · exact Or.inr ⟨by omega, b, t⟩
      · rintro (h | ⟨a, b, c2, e2, t⟩)
        · exact Or.inl (Or.inl h)
        · by_cases y : q = p
          · subst y
            exact Or.inl (Or.inr ⟨rfl, c2, Nat.zero_le _, e2, t⟩)
          · exact Or.inr ⟨by omega, b, c2, e2, t⟩
    · constructor
      · rintro ((h | ⟨h, c2, _, b, t, y⟩) | ⟨h, p2, a, b, t⟩)
        · exact Or.inl h
        · exact Or.inr ⟨h, p, Nat.le_refl _, by omega, c2, b, t, y⟩
        · exact Or.inr ⟨h, p2, by omega, b, t⟩
      · rintro (h | ⟨h, p2, a, b, c2, e2, t, z⟩)
        · exact Or.inl (Or.inl h)
        · by_cases y : p2 = p
          · subst y
            exact Or.inl (Or.inr ⟨h, c2, Nat.zero_le _, e2, t, z⟩)
          · exact Or.inr ⟨h, p2, by omega, b, c2, e2, t, z⟩
/-- persons that can go on from a scene; where they lead -/
def yPk (φ : Nat → Nat → Nat) (w : Nat → Nat) (n i κ q : Nat) : Prop := q < φ 0 2 ∧ ∃ c2, c2 ≤ φ 0 2 ∧ yTk φ w n i κ q c2
def yLkz (φ : Nat → Nat → Nat) (w : Nat → Nat) (n i κ x : Nat) : Prop := ∃ p2, p2 < φ 0 2 ∧ ∃ c2, c2 ≤ φ 0 2 ∧ yTk φ w n i κ p2 c2 ∧ x = yCk φ w i κ p2 c2
theorem ym_goesz {φ : Nat → Nat → Nat} (O : yOk φ) {w : Nat → Nat} {n i κ : Nat} {νb : wMem} (F : yFM φ 0 νb) (n12 : n ≤ 12) (hi : i < n) (hw : ∀ j, w j % 10 < 2) (hk : w i / 10 < φ 0 3) (V : yVz φ κ) (hT : φ 0 3 ≤ 1 → κ % 7 = 0) (fit : yFit (φ 5 (w i / 10)) (w i % 10) (yMz w i) = true) (Iv : yIv φ w n 0 νb) (nx : yNxt φ w n i κ νb) {N : Nat} (hN : 100 ≤ N) (ν : wMem) (κ1 s m mk : Nat) (Q : Nat → Prop) (S : Nat → Nat → Prop) (kc : yKh νb ν) (hmk : ν.1 22 i = nI mk) (hQ : yMsk mk Q) (hS : yRc S ν) :
    ∃ ν1 κ2 s1 m1 mk1, fX6_goesOn N (nI i) (nI κ) (nI (w i / 10)) (nI (w i % 10)) (yU ν κ1 s m) = some (yU ν1 κ2 s1 m1) ∧ yKh νb ν1 ∧ ν1.1 22 i = nI mk1 ∧ yMsk mk1 (fun q => Q q ∨ yPk φ w n i κ q) ∧ yRc (fun j x => S j x ∨ (j = i + 1 ∧ yLkz φ w n i κ x)) ν1 ∧ ∀ j, j ≠ i → ν1.1 22 j = ν.1 22 j := by
  have h6 := O.persons
  obtain ⟨ν1, κ2, s1, m1, mk1, j1, j2, j3, j4, j5, j6⟩ := ym_goes_3 O F n12 hi hw hk V hT fit Iv nx hN (fun μ => some μ) (φ 0 2) N 0 ν κ1 s m mk Q S (by omega) (by omega) kc hmk hQ hS
  refine ⟨ν1, κ2, s1, m1, mk1, j1, j2, j3, j4.ext fun q => ?_, j5.ext fun j x => ?_, j6⟩
  · unfold yPk
    simp only [Nat.zero_le, true_and]
  · unfold yLkz
    simp only [Nat.zero_le, true_and]
