set_option maxRecDepth 100000
/-! part 999991: the twin's had -/
/-- as yKN, but for the twin's cells 23 (scenes reached) -/
def yKMh (μ ν : wMem) : Prop := ∀ c i, (c = 0 → i = 6 ∨ i = 14 ∨ i = 15 ∨ i = 34) → c ≠ 4 → (c < 13 ∨ c = 14 ∨ c = 15 ∨ 23 < c) → ν.1 c i = μ.1 c i ∧ ν.2 c i = μ.2 c i
theorem yKM.toh {μ ν : wMem} (h : yKM μ ν) : yKMh μ ν := fun c i a b d => h c i a b (by omega)
theorem ym_had {φ : Nat → Nat → Nat} (O : yOk φ) {c0 t n i : Nat} {μ μm : wMem} (F : yFM φ 0 μm) (X : ySl c0 t n i μ μm) {N : Nat} (hN : 50000 ≤ N) (a2 : Int32) : ∃ ν, fX6_had N (nI i) a2 μm = some (if yCsz φ (wAt μ c0 t) n (nI i) (yNg a2) = true then yHaz φ (yWvz φ (wAt μ c0 t) n) n a2 else -2, ν) ∧ yKMh μm ν := by
  have F1 : yFM φ 0 (wSI μm 0 0 (0 : Int32)) := yFM_of F fun c h1 _ j => by rw [yS_get, if_neg (by omega)]
  have X1 := ySl_0 X
  have i4 := X.2.1
  have n60 := X.2.2.1
  have c2 : (wSI μm 0 0 (0 : Int32)).1 2 i = nI n := X1.2.2.2.2.1
  have z0 : (0 : Int32).toInt = 0 := by decide
  unfold fX6_had yNg
  rw [yWL, yWL]
  by_cases g : a2 < 0
  · have C : ¬ yCsz φ (wAt μ c0 t) n (nI i) 0 = true := fun z => (yCsz_of z).2.2.1 rfl
    rw [if_pos g, if_pos g, if_neg C]
    exact ⟨_, rfl, (yKM_0z _).toh⟩
  · rw [if_neg g, if_neg g, ym_whyst O F1 (by omega) X1, yBd]
    by_cases C : yCsz φ (wAt μ c0 t) n (nI i) 1 = true
    · rw [if_pos C, if_pos C]
      dsimp only
      rw [if_pos rfl, yG (xI_in i4 (by decide)), xI_cl (by omega), c2]
      have nn : 0 ≤ a2.toInt := by
        have : ¬ a2.toInt < (0 : Int32).toInt := fun z => g (Int32.lt_iff_toInt_lt.mpr z)
        omega
      obtain ⟨_, _, _, A, n12⟩ := yCsz_of C
      have hw := (yWvz_ok O A).2
      have tn : (nI n).toInt = n := nI_toInt (by omega)
      unfold yHaz
      by_cases q : a2.toInt < n
      · have q2 : a2 < nI n := Int32.lt_iff_toInt_lt.mpr (by omega)
        obtain ⟨νb, ν, κ, s, m, j1, j2, j3, j4⟩ := ym_layHad O F1 (yWm_sl O X1 C) hN
        have ea : a2 = nI a2.toInt.toNat := by
          apply Int32.toInt_inj.mp
          rw [nI_toInt (by omega)]
          omega
        rw [if_pos q2, if_pos q, j1, yBV]
        generalize hp : a2.toInt.toNat = p at *
        have hp12 : p < n := by omega
        obtain ⟨mk, k1, k2⟩ := j4 p hp12
        have em : mk = yHs φ (yWvz φ (wAt μ c0 t) n) n p 3136 := yMsk_eq k2 (yHs_Q O hw hp12)
        have c22 : (yU ν κ s m).1 22 p = nI mk := (yTut_c _ _ (by decide) _).trans k1
        rw [ea, yG (xI_in (by omega) (by decide)), xI_cl (by omega), c22, em]
        refine ⟨_, rfl, fun c j a b d => ⟨?_, ?_⟩⟩
        · have e : (yU ν κ s m).1 c j = ν.1 c j := by
            by_cases q : c = 0
            · subst q
              exact yTut_o _ _ (by have := a rfl; omega)
            · exact yTut_c _ _ q _
          rw [e, j3.1 c j (by omega) (by omega), j2.1 c j (by omega) (by omega) (by omega), yS_get, if_neg (fun z => by have := a z.1; omega)]
        · show ν.2 c j = _
          rw [j3.2, j2.2 c j (by omega)]
          rfl
      · have q2 : ¬ a2 < nI n := fun z => by
          have := Int32.lt_iff_toInt_lt.mp z
          omega
        rw [if_neg q2, if_neg q]
        exact ⟨_, rfl, (yKM_0z _).toh⟩
    · rw [if_neg C, if_neg C]
      dsimp only
      rw [if_neg (by decide)]
      exact ⟨_, rfl, (yKM_0z _).toh⟩
