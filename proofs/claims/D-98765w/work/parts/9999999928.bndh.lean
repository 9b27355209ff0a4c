set_option maxRecDepth 100000
/-! every post looks: few crossings suffice to come anywhere -/
theorem hLoaf {φ : Nat → Nat → Nat} (O : yOk φ) (L : ∀ k, k < φ 0 3 → 1 ≤ φ 5 k) {σ τ : ySt} (S : ySok φ σ) {l : List Nat} (r : yRun φ σ l = some τ) (ne : ∀ i j, i < j → j ≤ l.length → bAt φ σ l i ≠ bAt φ σ l j) {i : Nat} (hi : i + 2 < l.length) : l[i + 1] ≠ 200 := by
  intro e
  obtain ⟨s1, t1⟩ := bAt_step r (show i < l.length by omega)
  obtain ⟨s2, t2⟩ := bAt_step r (show i + 1 < l.length by omega)
  rw [e] at t2
  by_cases g : l[i] = 200
  · rw [g] at t1
    rw [t1, bLoaf2 (bAt_ok O S r i)] at t2
    exact ne i (i + 1 + 1) (by omega) (by omega) t2.symm
  · have Si := bAt_ok O S r i
    obtain ⟨m1, m2⟩ := bMk _ Si.mk1 _ Si.sd Si.mk0
    rw [bDo_200] at t2
    have esd : (bAt φ σ l (i + 1)).sd = 1 - (bAt φ σ l i).sd := by rw [t1, bDo g]; rfl
    have emk : (bAt φ σ l (i + 1)).mk = yMk (bAt φ σ l i).mk (bAt φ σ l i).sd := by rw [t1, bDo g]; rfl
    obtain ⟨s3, t3⟩ := bAt_step r hi
    by_cases g2 : l[i + 2] = 200
    · rw [g2, show i + 2 = i + 1 + 1 from rfl, t2, ← bDo_200, bLoaf2 (bAt_ok O S r (i + 1))] at t3
      exact ne (i + 1) (i + 2 + 1) (by omega) (by omega) t3.symm
    · obtain ⟨_, c2, _, _, _, _, c7⟩ := bCross s3 g2
      have := bFit (L _ c2) c7 (by rw [show i + 2 = i + 1 + 1 from rfl, t2]; show 2 ≤ (bAt φ σ l (i + 1)).mk; omega)
      rw [show i + 2 = i + 1 + 1 from rfl, t2] at this
      apply this
      show (bAt φ σ l (i + 1)).mk % 2 = 1 - (bAt φ σ l (i + 1)).sd
      have := Si.sd
      omega
theorem fX {φ : Nat → Nat → Nat} (O : yOk φ) (L : ∀ k, k < φ 0 3 → 1 ≤ φ 5 k) {σ : ySt} (S : ySok φ σ) (X : bXi φ σ) : yFew φ 1 σ := by
  intro τ c w
  obtain ⟨l0, r0, _⟩ := w
  obtain ⟨l, r, ne⟩ := fShort r0
  have p6 := O.persons
  refine ⟨yCs φ 1000 1 l, ⟨l, r, rfl⟩, fCost O r ?_ (fLo fun t ht h => fLoaf O S r ne ht h)⟩
  have crlo := cr_lo l
  have mk : ∀ i, i + 4 < l.length → ∃ s, s < 2 ∧ (bAt φ σ l (i + 4)).mk = 10 + 3 * s ∧ (bAt φ σ l (i + 4)).sd = 1 - s := by
    intro i hi
    obtain ⟨_, t1⟩ := bAt_step r (show i + 1 < l.length by omega)
    obtain ⟨_, t2⟩ := bAt_step r (show i + 2 < l.length by omega)
    obtain ⟨_, t3⟩ := bAt_step r (show i + 3 < l.length by omega)
    have n1 := hLoaf O L S r ne (i := i) (by omega)
    have n2 := hLoaf O L S r ne (i := i + 1) (by omega)
    have n3 := hLoaf O L S r ne (i := i + 2) (by omega)
    have S1 := bAt_ok O S r (i + 1)
    have hs := S1.sd
    have a1 : (bAt φ σ l (i + 2)).sd = 1 - (bAt φ σ l (i + 1)).sd := by rw [show i + 2 = i + 1 + 1 from rfl, t1, bDo n1]; rfl
    have a2 : (bAt φ σ l (i + 3)).sd = 1 - (bAt φ σ l (i + 2)).sd := by rw [show i + 3 = i + 2 + 1 from rfl, t2, bDo n2]; rfl
    have a3 : (bAt φ σ l (i + 4)).sd = 1 - (bAt φ σ l (i + 3)).sd := by rw [show i + 4 = i + 3 + 1 from rfl, t3, bDo n3]; rfl
    have b1 : (bAt φ σ l (i + 2)).mk = yMk (bAt φ σ l (i + 1)).mk (bAt φ σ l (i + 1)).sd := by rw [show i + 2 = i + 1 + 1 from rfl, t1, bDo n1]; rfl
    have b2 : (bAt φ σ l (i + 3)).mk = yMk (bAt φ σ l (i + 2)).mk (bAt φ σ l (i + 2)).sd := by rw [show i + 3 = i + 2 + 1 from rfl, t2, bDo n2]; rfl
    have b3 : (bAt φ σ l (i + 4)).mk = yMk (bAt φ σ l (i + 3)).mk (bAt φ σ l (i + 3)).sd := by rw [show i + 4 = i + 3 + 1 from rfl, t3, bDo n3]; rfl
    have e3 : (bAt φ σ l (i + 3)).sd = (bAt φ σ l (i + 1)).sd := by omega
    refine ⟨(bAt φ σ l (i + 1)).sd, hs, ?_, by rw [a3, e3]⟩
    rw [b3, b2, b1, e3, a1]
    exact bMk3 _ S1.mk1 _ hs S1.mk0
  rcases Nat.lt_or_ge 5000 l.length with big | small
  · exfalso
    have pig := yPig (n := 4000) (m := 3136) (g := fun t => ((bAt φ σ l (t + 4)).ov * 7 + (bAt φ σ l (t + 4)).z0) * 7 + (bAt φ σ l (t + 4)).z1)
      (fun t _ => by
        have St := bAt_ok O S r (t + 4)
        have := yOv64 O St
        have := St.z0
        have := St.z1
        omega)
      (fun i j hi hj e => by
        have Si := bAt_ok O S r (i + 4)
        have Sj := bAt_ok O S r (j + 4)
        have z1 := Si.z0
        have z2 := Si.z1
        have z3 := Sj.z0
        have z4 := Sj.z1
        have eov : (bAt φ σ l (i + 4)).ov = (bAt φ σ l (j + 4)).ov := by omega
        have ez0 : (bAt φ σ l (i + 4)).z0 = (bAt φ σ l (j + 4)).z0 := by omega
        have ez1 : (bAt φ σ l (i + 4)).z1 = (bAt φ σ l (j + 4)).z1 := by omega
        obtain ⟨s, s1, s2, s3⟩ := mk i (by omega)
        obtain ⟨t, t1, t2, t3⟩ := mk j (by omega)
        have Xi := bXi_run O L _ _ _ S X (bAt_run r (i + 4))
        have Xj := bXi_run O L _ _ _ S X (bAt_run r (j + 4))
        have st : s = t := by
          rcases Nat.lt_trichotomy s t with q | q | q
          · exfalso
            obtain ⟨p, hp, hh⟩ := Xi.2.2.2 (by rw [s2]; omega)
            have := Xj.2.2.1 (by rw [t2]; omega) p hp
            rw [← eov, (hh p hp).mpr rfl] at this
            cases this
          · exact q
          · exfalso
            obtain ⟨p, hp, hh⟩ := Xj.2.2.2 (by rw [t2]; omega)
            have := Xi.2.2.1 (by rw [s2]; omega) p hp
            rw [eov, (hh p hp).mpr rfl] at this
            cases this
        have est : bAt φ σ l (i + 4) = bAt φ σ l (j + 4) := by
          show ((_, _, _, _, _) : ySt) = (_, _, _, _, _)
          exact Prod.ext eov (Prod.ext (by show (bAt φ σ l (i + 4)).sd = (bAt φ σ l (j + 4)).sd; omega) (Prod.ext ez0 (Prod.ext ez1 (by show (bAt φ σ l (i + 4)).mk = (bAt φ σ l (j + 4)).mk; omega))))
        rcases Nat.lt_trichotomy i j with q | q | q
        · exact absurd est (ne _ _ (by omega) (by omega))
        · exact q
        · exact absurd est.symm (ne _ _ (by omega) (by omega)))
    omega
  · omega
/-- the hard regime: two posts, one without looks, one with -/
def zMix (φ : Nat → Nat → Nat) : Prop := ∃ k k', k < φ 0 3 ∧ k' < φ 0 3 ∧ φ 5 k = 0 ∧ 1 ≤ φ 5 k'
/-- what is owed still of the bound -/
def zHard : Prop := ∀ φ, yOk φ → 0 < φ 0 0 → zMix φ → ∀ l σ, yRun φ yFirst l = some σ → ∀ b, b < 3 → (b = 2 → φ 0 7 = 0) → yBd1 φ b σ
theorem bnd_of (h : zHard) : yBnd := by
  intro φ O hl l σ r
  have S := bRun_ok O _ _ _ (yFirst_ok φ) r
  have hz := uTk_run O _ _ _ (fun w _ => Or.inl (by unfold ySt.z; split <;> rfl)) r
  by_cases allL : ∀ k, k < φ 0 3 → 1 ≤ φ 5 k
  · have X := bXi_run O allL _ _ _ (yFirst_ok φ) (bXi_first φ) r
    exact ⟨fX O allL S X, fun b hb => bX_bd O hl allL r hb⟩
  · obtain ⟨k, hk, h0⟩ : ∃ k, k < φ 0 3 ∧ φ 5 k = 0 := by
      refine Classical.byContradiction fun n => allL fun k hk => ?_
      rcases Nat.eq_zero_or_pos (φ 5 k) with z | z
      · exact absurd ⟨k, hk, z⟩ n
      · exact z
    refine ⟨?_, fun b hb => ?_⟩
    · by_cases c : φ 0 7 ≠ 0
      · exact fCmp O c S
      · exact fNo O (by omega) hk h0 S hz
    · by_cases no : ∀ k, k < φ 0 3 → φ 5 k = 0
      · exact bU_bd O hl no r hb
      · obtain ⟨k', hk', h1⟩ : ∃ k', k' < φ 0 3 ∧ 1 ≤ φ 5 k' := by
          refine Classical.byContradiction fun n => no fun k hk => ?_
          rcases Nat.eq_zero_or_pos (φ 5 k) with z | z
          · exact z
          · exact absurd ⟨k, hk, z⟩ n
        by_cases b2 : b = 2 ∧ φ 0 7 ≠ 0
        · obtain ⟨rfl, c⟩ := b2
          intro m τ rm em least
          have W : bLe φ 2 σ m := ⟨⟨τ, rm, em⟩, least⟩
          have len := bK_two O hl c hk h0 S W
          rw [kSc]
          exact ⟨len, fun z => absurd z (by decide)⟩
        · exact h φ O hl ⟨k, k', hk, hk', h0, h1⟩ l σ r b hb (fun e => Classical.byContradiction fun c => b2 ⟨e, c⟩)
