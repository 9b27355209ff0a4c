set_option maxRecDepth 100000
/-! part 999995: a family copied, the twin's side -/
theorem ym_copyRow_loop {j0 n0 k a b : Nat} (hab : k * a + k ≤ k * b ∨ k * b + k ≤ k * a) (ha : k * a + k ≤ n0) (hb : k * b + k ≤ n0) (hn : n0 < 1000) (N : Nat) (K : wMem → Option wMem) (μ : wMem) : ∀ (d M x : Nat) (ν : wMem), d < M → x + d = k → (∀ c i, ν.1 c i = if c = j0 ∧ k * b ≤ i ∧ i < k * b + x then μ.1 j0 (k * a + (i - k * b)) else μ.1 c i) → ν.2 = μ.2 →
    ∃ ρ, gX6_copyRow_3 N j0 n0 (nI k) (nI a) (nI b) K M (nI x) ν = K ρ ∧ (∀ c i, ρ.1 c i = if c = j0 ∧ k * b ≤ i ∧ i < k * b + k then μ.1 j0 (k * a + (i - k * b)) else μ.1 c i) ∧ ρ.2 = μ.2 := by
  intro d
  induction d with
  | zero =>
    intro M x ν hM hx h1 h2
    obtain ⟨M, rfl⟩ : ∃ q, M = q + 1 := ⟨M - 1, by omega⟩
    have : x = k := by omega
    subst this
    refine ⟨ν, ?_, h1, h2⟩
    show gbX6_copyRow_3 N j0 n0 _ _ _ K _ _ ν = _
    unfold gbX6_copyRow_3
    rw [yIf (xI_le (a := x) (b := x) (by omega) (by omega)), if_pos (Nat.le_refl _)]
  | succ d ih =>
    intro M x ν hM hx h1 h2
    obtain ⟨M, rfl⟩ : ∃ q, M = q + 1 := ⟨M - 1, by omega⟩
    have e1 : nI k * nI b + nI x = nI (k * b + x) := by rw [xI_mul, nI_add]
    have e2 : nI k * nI a + nI x = nI (k * a + x) := by rw [xI_mul, nI_add]
    have add1 : nI x + 1 = nI (x + 1) := nI_add x 1
    have src : ν.1 j0 (k * a + x) = μ.1 j0 (k * a + x) := by rw [h1, if_neg (by omega)]
    obtain ⟨ρ, j1, j2, j3⟩ := ih M (x + 1) (wSI ν j0 (k * b + x) (ν.1 j0 (k * a + x))) (by omega) (by omega) (fun c i => by
      rw [yS_get, src]
      by_cases g : c = j0 ∧ i = k * b + x
      · rw [if_pos g, if_pos (by omega)]
        have q : i - k * b = x := by omega
        rw [q]
      · rw [if_neg g, h1 c i]
        by_cases q : c = j0 ∧ k * b ≤ i ∧ i < k * b + x
        · rw [if_pos q, if_pos (by omega)]
        · rw [if_neg q, if_neg (by omega)]) h2
    refine ⟨ρ, ?_, j2, j3⟩
    rw [← j1]
    show gbX6_copyRow_3 N j0 n0 _ _ _ K _ _ ν = _
    unfold gbX6_copyRow_3
    rw [yIf (xI_le (a := k) (b := x) (by omega) (by omega)), if_neg (by omega), e1, e2, yG (xI_in (by omega) (by omega)), yG (xI_in (by omega) (by omega)), yWL, yWL, xI_cl (by omega), xI_cl (by omega), add1]
theorem ym_copyRow {j0 n0 k a b : Nat} (hab : k * a + k ≤ k * b ∨ k * b + k ≤ k * a) (ha : k * a + k ≤ n0) (hb : k * b + k ≤ n0) (hn : n0 < 1000) {N : Nat} (hN : 1000 ≤ N) (μ : wMem) :
    ∃ ρ, fX6_copyRow N j0 n0 (nI k) (nI a) (nI b) μ = some ρ ∧ (∀ c i, ρ.1 c i = if c = j0 ∧ k * b ≤ i ∧ i < k * b + k then μ.1 j0 (k * a + (i - k * b)) else μ.1 c i) ∧ ρ.2 = μ.2 :=
  ym_copyRow_loop hab ha hb hn N _ μ k N 0 μ (by omega) (by omega) (fun c i => by rw [if_neg (by omega)]) rfl
/-- how wide a family's rows are in the twin's cells -/
def yWd (c : Nat) : Nat := match c with | 6 => 1 | 7 => 7 | 8 => 6 | 9 => 6 | 10 => 6 | 11 => 40 | _ => 0
def yCpM (a b : Nat) (μ ν : wMem) : Prop := (∀ c i, ν.1 c i = if yWd c * b ≤ i ∧ i < yWd c * b + yWd c then μ.1 c (yWd c * a + (i - yWd c * b)) else μ.1 c i) ∧ ν.2 = μ.2
theorem ym_copyFamily {a b : Nat} (ha : a < 5) (hb : b < 5) (hab : a ≠ b) {N : Nat} (hN : 1000 ≤ N) (μ : wMem) : ∃ ν, fX6_copyFamily N (nI a) (nI b) μ = some ν ∧ yCpM a b μ ν := by
  obtain ⟨r1, e1, f1, g1⟩ := ym_copyRow (j0 := 6) (n0 := 5) (k := 1) (a := a) (b := b) (by omega) (by omega) (by omega) (by decide) hN μ
  obtain ⟨r2, e2, f2, g2⟩ := ym_copyRow (j0 := 7) (n0 := 35) (k := 7) (a := a) (b := b) (by omega) (by omega) (by omega) (by decide) hN r1
  obtain ⟨r3, e3, f3, g3⟩ := ym_copyRow (j0 := 8) (n0 := 30) (k := 6) (a := a) (b := b) (by omega) (by omega) (by omega) (by decide) hN r2
  obtain ⟨r4, e4, f4, g4⟩ := ym_copyRow (j0 := 9) (n0 := 30) (k := 6) (a := a) (b := b) (by omega) (by omega) (by omega) (by decide) hN r3
  obtain ⟨r5, e5, f5, g5⟩ := ym_copyRow (j0 := 10) (n0 := 30) (k := 6) (a := a) (b := b) (by omega) (by omega) (by omega) (by decide) hN r4
  obtain ⟨r6, e6, f6, g6⟩ := ym_copyRow (j0 := 11) (n0 := 200) (k := 40) (a := a) (b := b) (by omega) (by omega) (by omega) (by decide) hN r5
  refine ⟨r6, ?_, ⟨fun c i => ?_, by rw [g6, g5, g4, g3, g2, g1]⟩⟩
  · unfold fX6_copyFamily
    refine Eq.trans (congrArg (fun z => wBindV z _) e1) ?_
    rw [yBV]
    refine Eq.trans (congrArg (fun z => wBindV z _) e2) ?_
    rw [yBV]
    refine Eq.trans (congrArg (fun z => wBindV z _) e3) ?_
    rw [yBV]
    refine Eq.trans (congrArg (fun z => wBindV z _) e4) ?_
    rw [yBV]
    refine Eq.trans (congrArg (fun z => wBindV z _) e5) ?_
    rw [yBV]
    refine Eq.trans (congrArg (fun z => wBindV z _) e6) ?_
    rw [yBV]
  · by_cases c6 : c = 6
    · subst c6
      rw [f6, if_neg (by omega), f5, if_neg (by omega), f4, if_neg (by omega), f3, if_neg (by omega), f2, if_neg (by omega), f1]
      exact yIf (propext ⟨fun h => h.2, fun h => ⟨rfl, h⟩⟩) _ _
    by_cases c7 : c = 7
    · subst c7
      have u : ∀ x, r1.1 7 x = μ.1 7 x := fun x => by rw [f1, if_neg (by omega)]
      rw [f6, if_neg (by omega), f5, if_neg (by omega), f4, if_neg (by omega), f3, if_neg (by omega), f2, u, u]
      exact yIf (propext ⟨fun h => h.2, fun h => ⟨rfl, h⟩⟩) _ _
    by_cases c8 : c = 8
    · subst c8
      have u : ∀ x, r2.1 8 x = μ.1 8 x := fun x => by rw [f2, if_neg (by omega), f1, if_neg (by omega)]
      rw [f6, if_neg (by omega), f5, if_neg (by omega), f4, if_neg (by omega), f3, u, u]
      exact yIf (propext ⟨fun h => h.2, fun h => ⟨rfl, h⟩⟩) _ _
    by_cases c9 : c = 9
    · subst c9
      have u : ∀ x, r3.1 9 x = μ.1 9 x := fun x => by rw [f3, if_neg (by omega), f2, if_neg (by omega), f1, if_neg (by omega)]
      rw [f6, if_neg (by omega), f5, if_neg (by omega), f4, u, u]
      exact yIf (propext ⟨fun h => h.2, fun h => ⟨rfl, h⟩⟩) _ _
    by_cases c10 : c = 10
    · subst c10
      have u : ∀ x, r4.1 10 x = μ.1 10 x := fun x => by rw [f4, if_neg (by omega), f3, if_neg (by omega), f2, if_neg (by omega), f1, if_neg (by omega)]
      rw [f6, if_neg (by omega), f5, u, u]
      exact yIf (propext ⟨fun h => h.2, fun h => ⟨rfl, h⟩⟩) _ _
    by_cases c11 : c = 11
    · subst c11
      have u : ∀ x, r5.1 11 x = μ.1 11 x := fun x => by rw [f5, if_neg (by omega), f4, if_neg (by omega), f3, if_neg (by omega), f2, if_neg (by omega), f1, if_neg (by omega)]
      rw [f6, u, u]
      exact yIf (propext ⟨fun h => h.2, fun h => ⟨rfl, h⟩⟩) _ _
    have w0 : yWd c = 0 := by
      unfold yWd
      split <;> first | contradiction | rfl
    rw [w0, if_neg (by omega), f6, if_neg (by omega), f5, if_neg (by omega), f4, if_neg (by omega), f3, if_neg (by omega), f2, if_neg (by omega), f1, if_neg (by omega)]
/-- the family copied -/
theorem yCpM.new {φ : Nat → Nat → Nat} (O : yOk φ) {a b : Nat} {μ ν : wMem} (h : yCpM a b μ ν) (F : yFM φ a μ) : yFM φ b ν := by
  have O6 := O.persons
  have O2 := O.posts
  have O40 : φ 0 6 ≤ 40 := O.2.2.2.2.2.2.1
  have r : ∀ c x, x < yWd c → ν.1 c (yWd c * b + x) = μ.1 c (yWd c * a + x) := fun c x hx => by
    rw [h.1, if_pos (by omega), Nat.add_sub_cancel_left]
  obtain ⟨⟨a0, a1, a2, a3, a4, a5, a6, a7⟩, b1, b2, b3, b4⟩ := F
  have n6 : yWd 6 = 1 := rfl
  have n7 : yWd 7 = 7 := rfl
  have n8 : yWd 8 = 6 := rfl
  have n9 : yWd 9 = 6 := rfl
  have n10 : yWd 10 = 6 := rfl
  have n11 : yWd 11 = 40 := rfl
  have r6 := r 6 0 (by decide)
  rw [n6, Nat.one_mul, Nat.one_mul] at r6
  have r7 : ∀ x, x < 7 → ν.1 7 (7 * b + x) = μ.1 7 (7 * a + x) := fun x hx => r 7 x (by omega)
  refine ⟨⟨(r7 0 (by decide)).trans a0, r6.trans a1, (r7 2 (by decide)).trans a2, (r7 3 (by decide)).trans a3, (r7 4 (by decide)).trans a4, (r7 5 (by decide)).trans a5, (r7 6 (by decide)).trans a6, (r7 1 (by decide)).trans a7⟩, fun i hi => (r 8 i (by omega)).trans (b1 i hi), fun i hi => (r 9 i (by omega)).trans (b2 i hi), fun i hi => ?_, fun i hi => (r 11 i (by omega)).trans (b4 i hi)⟩
  obtain ⟨x1, x2, x3⟩ := b3 i hi
  have s1 := r 10 (3 * i) (by omega)
  have s2 := r 10 (3 * i + 1) (by omega)
  have s3 := r 10 (3 * i + 2) (by omega)
  exact ⟨s1.trans x1, s2.trans x2, s3.trans x3⟩
/-- the others are as they were -/
theorem yCpM.old {φ : Nat → Nat → Nat} (O : yOk φ) {a b f : Nat} (hf : f ≠ b) {μ ν : wMem} (h : yCpM a b μ ν) (F : yFM φ f μ) : yFM φ f ν := by
  have O6 := O.persons
  have O2 := O.posts
  have O40 : φ 0 6 ≤ 40 := O.2.2.2.2.2.2.1
  have r : ∀ c x, x < yWd c → ν.1 c (yWd c * f + x) = μ.1 c (yWd c * f + x) := fun c x hx => by
    have : yWd c * f + yWd c ≤ yWd c * b ∨ yWd c * b + yWd c ≤ yWd c * f := by
      rcases Nat.lt_or_gt_of_ne hf with g | g
      · exact .inl (Nat.mul_le_mul_left (yWd c) g)
      · exact .inr (Nat.mul_le_mul_left (yWd c) g)
    rw [h.1, if_neg (by omega)]
  obtain ⟨⟨a0, a1, a2, a3, a4, a5, a6, a7⟩, b1, b2, b3, b4⟩ := F
  have r6 := r 6 0 (by decide)
  have n6 : yWd 6 = 1 := rfl
  rw [n6, Nat.one_mul] at r6
  have n7 : yWd 7 = 7 := rfl
  have n8 : yWd 8 = 6 := rfl
  have n9 : yWd 9 = 6 := rfl
  have n10 : yWd 10 = 6 := rfl
  have n11 : yWd 11 = 40 := rfl
  have r7 : ∀ x, x < 7 → ν.1 7 (7 * f + x) = μ.1 7 (7 * f + x) := fun x hx => r 7 x (by omega)
  refine ⟨⟨(r7 0 (by decide)).trans a0, r6.trans a1, (r7 2 (by decide)).trans a2, (r7 3 (by decide)).trans a3, (r7 4 (by decide)).trans a4, (r7 5 (by decide)).trans a5, (r7 6 (by decide)).trans a6, (r7 1 (by decide)).trans a7⟩, fun i hi => (r 8 i (by omega)).trans (b1 i hi), fun i hi => (r 9 i (by omega)).trans (b2 i hi), fun i hi => ?_, fun i hi => (r 11 i (by omega)).trans (b4 i hi)⟩
  obtain ⟨x1, x2, x3⟩ := b3 i hi
  exact ⟨(r 10 (3 * i) (by omega)).trans x1, (r 10 (3 * i + 1) (by omega)).trans x2, (r 10 (3 * i + 2) (by omega)).trans x3⟩
/-- image and back of the twin, by numbers -/
theorem ym_image {k : Nat} (hk : k < 3) {N : Nat} (hN : 1000 ≤ N) (μ : wMem) : ∃ ν, fX6_image N (nI k) μ = some (0, wSI ν 12 k 1) ∧ yCpM 0 (k + 1) (wSI μ 0 0 0) ν := by
  obtain ⟨ν, e, h⟩ := ym_copyFamily (a := 0) (b := k + 1) (by decide) (by omega) (by omega) hN (wSI μ 0 0 0)
  refine ⟨ν, ?_, h⟩
  have e1 : (1 : Int32) + nI k = nI (k + 1) := by
    have := nI_add 1 k
    rw [Nat.add_comm 1 k] at this
    exact this
  unfold fX6_image
  have h3 := ym_in (nI k) (n := 3) (by decide) N (wSI μ 0 0 0)
  rw [yWL]
  refine Eq.trans (congrArg (fun z => wBind z _) h3) ?_
  rw [yBd, yB1 (yIs_n hk (by decide)), e1]
  refine Eq.trans (congrArg (fun z => wBindV z _) e) ?_
  rw [yBV, yG (xI_in hk (by decide)), yWL, xI_cl (by omega)]
theorem ym_image_no {a1 : Int32} (h : ¬ yIs a1 3) (N : Nat) (μ : wMem) : fX6_image N a1 μ = some (-2, wSI μ 0 0 0) := by
  unfold fX6_image
  have h3 := ym_in a1 (n := 3) (by decide) N (wSI μ 0 0 0)
  rw [yWL]
  refine Eq.trans (congrArg (fun z => wBind z _) h3) ?_
  rw [yBd, yB2 h]
theorem ym_back {k : Nat} (hk : k < 3) {N : Nat} (hN : 1000 ≤ N) {μ : wMem} (hx : μ.1 12 k ≠ 0) : ∃ ν, fX6_back N (nI k) μ = some (0, ν) ∧ yCpM (k + 1) 0 (wSI μ 0 0 0) ν := by
  obtain ⟨ν, e, h⟩ := ym_copyFamily (a := k + 1) (b := 0) (by omega) (by decide) (by omega) hN (wSI μ 0 0 0)
  refine ⟨ν, ?_, h⟩
  have e1 : (1 : Int32) + nI k = nI (k + 1) := by
    have := nI_add 1 k
    rw [Nat.add_comm 1 k] at this
    exact this
  have e12 : (wSI μ 0 0 (0 : Int32)).1 12 k = μ.1 12 k := by rw [yS_get, if_neg (by omega)]
  unfold fX6_back
  have h3 := ym_in (nI k) (n := 3) (by decide) N (wSI μ 0 0 0)
  rw [yWL]
  refine Eq.trans (congrArg (fun z => wBind z _) h3) ?_
  rw [yBd, yB1 (yIs_n hk (by decide)), yG (xI_in hk (by decide)), xI_cl (by omega), e12, if_neg hx, e1]
  refine Eq.trans (congrArg (fun z => wBindV z _) e) ?_
  rw [yBV]
theorem ym_back_0 {k : Nat} (hk : k < 3) (N : Nat) {μ : wMem} (hx : μ.1 12 k = 0) : fX6_back N (nI k) μ = some (-6, wSI μ 0 0 0) := by
  have e12 : (wSI μ 0 0 (0 : Int32)).1 12 k = μ.1 12 k := by rw [yS_get, if_neg (by omega)]
  unfold fX6_back
  have h3 := ym_in (nI k) (n := 3) (by decide) N (wSI μ 0 0 0)
  rw [yWL]
  refine Eq.trans (congrArg (fun z => wBind z _) h3) ?_
  rw [yBd, yB1 (yIs_n hk (by decide)), yG (xI_in hk (by decide)), xI_cl (by omega), e12, if_pos hx]
theorem ym_back_no {a1 : Int32} (h : ¬ yIs a1 3) (N : Nat) (μ : wMem) : fX6_back N a1 μ = some (-2, wSI μ 0 0 0) := by
  unfold fX6_back
  have h3 := ym_in a1 (n := 3) (by decide) N (wSI μ 0 0 0)
  rw [yWL]
  refine Eq.trans (congrArg (fun z => wBind z _) h3) ?_
  rw [yBd, yB2 h]
