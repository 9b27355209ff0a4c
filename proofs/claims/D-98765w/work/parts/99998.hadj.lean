set_option maxRecDepth 100000
/-! part 99998: the twin's laysHad, joined; the component's bits -/
theorem ym_layHad {φ : Nat → Nat → Nat} (O : yOk φ) {w : Nat → Nat} {n i0 : Nat} {μ0 : wMem} (F : yFM φ 0 μ0) (X : yWm φ w n i0 μ0) {N : Nat} (hN : 50000 ≤ N) : ∃ νb ν κ s m, fX6_laysHad N (nI i0) μ0 = some (yU ν κ s m) ∧ yKqz μ0 νb ∧ yKh νb ν ∧ ∀ j, j < n → ∃ mk, ν.1 22 j = nI mk ∧ yMsk mk (yQz φ w n j) := by
  have n12 := X.2.1
  obtain ⟨νb, s, m, a1, a2, a3, a4⟩ := ym_layz O F X hN
  unfold fX6_laysHad
  rw [a1, yBV]
  obtain ⟨ν1, b1, b2, b3⟩ := ym_had_7 N (nI i0) (fun (μ7 : wMem) => gX6_laysHad_28 N (nI i0) (fun (μ17 : wMem) => gX6_laysHad_57 N (nI i0) (fun (μ39 : wMem) => some μ39) N 0 μ17) N 0 μ7) 0 s m 12 N 0 νb (by omega) rfl (fun y hy => absurd hy (by omega))
  obtain ⟨ν2, c1, c2, c3, c4⟩ := ym_had_28 N (nI i0) (fun (μ17 : wMem) => gX6_laysHad_57 N (nI i0) (fun (μ39 : wMem) => some μ39) N 0 μ17) 0 s m 40768 N 0 ν1 (by omega) rfl (fun y hy => absurd hy (by omega))
  have kk : yKh νb ν2 := ⟨fun c j a b => (c3.1 c j a b).trans (b3.1 c j a b), c3.2.trans b3.2⟩
  obtain ⟨ν3, κ3, s3, m3, d1, d2, d3⟩ := ym_had_57 O (yKqz_fm F a2) (yWm_keep X a2) a3 a4 (N := N) (by omega) (fun (μ39 : wMem) => some μ39) n N 0 ν2 0 s m (by omega) (by omega) kk (fun j hj => absurd hj (by omega)) (fun j _ b => (c4 j).trans (b2 j b)) (fun j x a b => by
    rw [c2 _ (by omega)]
    by_cases g : 3136 * j + x = 0
    · rw [if_pos g]
      have : j = 0 ∧ x = 0 := by omega
      exact Or.inl ⟨rfl, by omega, by rw [this.1, this.2]; rfl⟩
    · rw [if_neg g]
      refine Or.inr ⟨rfl, fun ⟨h1, h2⟩ => ?_⟩
      have j0 : j = 0 := by omega
      subst j0
      have : x = 0 := h2
      omega)
  exact ⟨νb, ν3, κ3, s3, m3, (b1.trans c1).trans d1, a2, d2, d3⟩
theorem yHe_bit {q : Nat → Bool} {m : Nat} {Q : Nat → Prop} (h : yMsk m Q) : ∀ e, yMsk (yHe q e m) (fun p => Q p ∨ ∃ e2, e2 < e ∧ q e2 = true ∧ e2 % 10 = p)
  | 0 => h.ext fun p => ⟨Or.inl, fun x => x.elim id fun ⟨_, a, _⟩ => absurd a (by omega)⟩
  | e + 1 => by
    have ih := yHe_bit (q := q) h e
    show yMsk (if q e = true then yHe q e m ||| 2 ^ (e % 10) else yHe q e m) _
    by_cases g : q e = true
    · rw [if_pos g]
      refine (yMsk_or ih (p := e % 10)).ext fun p => ?_
      constructor
      · rintro ((a | ⟨e2, a, b, c⟩) | a)
        · exact Or.inl a
        · exact Or.inr ⟨e2, by omega, b, c⟩
        · exact Or.inr ⟨e, by omega, g, a.symm⟩
      · rintro (a | ⟨e2, a, b, c⟩)
        · exact Or.inl (Or.inl a)
        · by_cases y : e2 = e
          · subst y; exact Or.inr c.symm
          · exact Or.inl (Or.inr ⟨e2, by omega, b, c⟩)
    · rw [if_neg g]
      refine ih.ext fun p => ?_
      constructor
      · rintro (a | ⟨e2, a, b, c⟩)
        · exact Or.inl a
        · exact Or.inr ⟨e2, by omega, b, c⟩
      · rintro (a | ⟨e2, a, b, c⟩)
        · exact Or.inl a
        · by_cases y : e2 = e
          · subst y; exact absurd b g
          · exact Or.inr ⟨e2, by omega, b, c⟩
theorem yHs_bit (φ : Nat → Nat → Nat) (w : Nat → Nat) (n i : Nat) : ∀ s, yMsk (yHs φ w n i s) (fun p => ∃ s2, s2 < s ∧ yFz φ w i s2 ≠ [] ∧ ∃ e, e < 100 ∧ yQd φ w n i s2 e = true ∧ e % 10 = p)
  | 0 => yMsk_0.ext fun p => ⟨fun x => x.elim, fun ⟨_, a, _⟩ => absurd a (by omega)⟩
  | s + 1 => by
    have ih := yHs_bit φ w n i s
    show yMsk (if yFz φ w i s = [] then yHs φ w n i s else yHe (yQd φ w n i s) 100 (yHs φ w n i s)) _
    by_cases g : yFz φ w i s = []
    · rw [if_pos g]
      refine ih.ext fun p => ?_
      constructor
      · rintro ⟨s2, a, b⟩; exact ⟨s2, by omega, b⟩
      · rintro ⟨s2, a, b, c⟩
        by_cases y : s2 = s
        · subst y; exact absurd g b
        · exact ⟨s2, by omega, b, c⟩
    · rw [if_neg g]
      refine (yHe_bit ih 100).ext fun p => ?_
      constructor
      · rintro (⟨s2, a, b⟩ | ⟨e, a, b, c⟩)
        · exact ⟨s2, by omega, b⟩
        · exact ⟨s, by omega, g, e, a, b, c⟩
      · rintro ⟨s2, a, b, c⟩
        by_cases y : s2 = s
        · subst y; exact Or.inr c
        · exact Or.inl ⟨s2, by omega, b, c⟩
