set_option maxRecDepth 100000
/-! part 999994: a family copied, the component's side -/
/-- the component's family in any cells -/
def yFCg (φ : Nat → Nat → Nat) (μ : wMem) (b i0 i1 i2 i3 i4 i5 : Nat) : Prop :=
  (∀ i, i < 8 → μ.1 b i = nI (φ 0 i)) ∧
  (∀ i, i < φ 0 2 → μ.1 i0 i = nI (φ 1 i)) ∧
  (∀ i, i < φ 0 2 → μ.1 i1 i = nI (φ 2 i)) ∧
  (∀ i, i < φ 0 3 → μ.1 i2 i = nI (φ 3 i)) ∧
  (∀ i, i < φ 0 3 → μ.1 i3 i = nI (φ 4 i)) ∧
  (∀ i, i < φ 0 3 → μ.1 i4 i = nI (φ 5 i)) ∧
  (∀ i, i < φ 0 6 → μ.1 i5 i = nI (φ 6 i))
theorem yFCg_1 {φ : Nat → Nat → Nat} {μ : wMem} : yFCg φ μ 1 2 3 4 5 6 7 ↔ yFC φ μ := Iff.rfl
theorem yFCg_of {φ : Nat → Nat → Nat} {μ ν : wMem} {b i0 i1 i2 i3 i4 i5 d j0 j1 j2 j3 j4 j5 : Nat} (F : yFCg φ μ b i0 i1 i2 i3 i4 i5) (hb : ν.1 d = μ.1 b) (h0 : ν.1 j0 = μ.1 i0) (h1 : ν.1 j1 = μ.1 i1) (h2 : ν.1 j2 = μ.1 i2) (h3 : ν.1 j3 = μ.1 i3) (h4 : ν.1 j4 = μ.1 i4) (h5 : ν.1 j5 = μ.1 i5) : yFCg φ ν d j0 j1 j2 j3 j4 j5 := by
  unfold yFCg
  rw [hb, h0, h1, h2, h3, h4, h5]
  exact F
theorem yZ_get (μ : wMem) (n c i : Nat) : (wZ μ n).1 c i = if c = n then 0 else μ.1 c i := by
  show (if c = n then (fun _ => (0 : Int32)) else μ.1 c) i = _
  by_cases h : c = n
  · rw [if_pos h, if_pos h]
  · rw [if_neg h, if_neg h]
theorem yZ_get2 (μ : wMem) (n c i : Nat) : (wZ μ n).2 c i = if c = n then 0 else μ.2 c i := by
  show (if c = n then (fun _ => (0 : Int64)) else μ.2 c) i = _
  by_cases h : c = n
  · rw [if_pos h, if_pos h]
  · rw [if_neg h, if_neg h]
theorem yZ_o (μ : wMem) {n c : Nat} (h : c ≠ n) : (wZ μ n).1 c = μ.1 c ∧ (wZ μ n).2 c = μ.2 c := ⟨funext fun i => by rw [yZ_get, if_neg h], funext fun i => by rw [yZ_get2, if_neg h]⟩
theorem yCp_o (m : wMem) (c0 a b k : Nat) {c c1 : Nat} (h : c ≠ c1) : (wCpy m c0 c1 a b k).1 c = m.1 c := by
  unfold wCpy va_up
  exact if_neg h
theorem yCp_n (m : wMem) (c0 c1 : Nat) {k i : Nat} (h : i < k) : (wCpy m c0 c1 0 0 k).1 c1 i = m.1 c0 i := by
  show (if c1 = c1 then va_cpy (m.1 c0) (m.1 c1) 0 0 k else m.1 c1) i = _
  rw [if_pos rfl]
  show (if 0 ≤ i ∧ i < 0 + k then m.1 c0 (0 + (i - 0)) else _) = _
  rw [if_pos (by omega), Nat.zero_add, Nat.sub_zero]
def yKeI (n : Nat) (μ ν : wMem) : Prop := ∀ c, c < n → ν.1 c = μ.1 c ∧ ν.2 c = μ.2 c
theorem yKeI_Z {n k : Nat} {μ m : wMem} (h : yKeI n μ m) (hk : n ≤ k) : yKeI n μ (wZ m k) := fun c hc => by
  have := yZ_o m (n := k) (c := c) (by omega)
  rw [this.1, this.2]
  exact h c hc
/-- the eight numbers of the copy, one by one -/
def yCpP (μ : wMem) (b n k : Nat) (m : wMem) : Prop := yKeI n μ m ∧ ∀ j, j < k → m.1 n j = μ.1 b j
theorem yCpP_s {μ : wMem} {b n k : Nat} (hb : b < n) {m : wMem} (h : yCpP μ b n k m) : yCpP μ b n (k + 1) (wSI m n k (m.1 b k)) := by
  refine ⟨fun c hc => ⟨?_, (h.1 c hc).2⟩, fun j hj => ?_⟩
  · funext i
    rw [yS_get, if_neg (by omega)]
    exact congrFun (h.1 c hc).1 i
  · rw [yS_get]
    by_cases e : j = k
    · rw [if_pos ⟨rfl, e⟩, e]
      exact congrFun (h.1 b hb).1 k
    · rw [if_neg (fun g => e g.2)]
      exact h.2 j (by omega)
/-- then its six rows -/
def yCpQ (μ : wMem) (b n : Nat) (src len : Nat → Nat) (r : Nat) (m : wMem) : Prop := yCpP μ b n 8 m ∧ ∀ s, s < r → ∀ i, i < len s → m.1 (n + 1 + s) i = μ.1 (src s) i
theorem yCpQ_s {μ : wMem} {b n r : Nat} {src len : Nat → Nat} (hs : src r < n) {m : wMem} (h : yCpQ μ b n src len r m) : yCpQ μ b n src len (r + 1) (wCpy m (src r) (n + 1 + r) 0 0 (len r)) := by
  refine ⟨⟨fun c hc => ⟨?_, (h.1.1 c hc).2⟩, fun j hj => ?_⟩, fun s hs2 i hi => ?_⟩
  · rw [yCp_o _ _ _ _ _ (by omega)]
    exact (h.1.1 c hc).1
  · rw [yCp_o _ _ _ _ _ (by omega)]
    exact h.1.2 j hj
  · by_cases e : s = r
    · subst e
      rw [yCp_n _ _ _ hi]
      exact congrFun (h.1.1 _ hs).1 i
    · rw [yCp_o _ _ _ _ _ (by omega)]
      exact h.2 s (by omega) i hi
theorem yc_copy {φ : Nat → Nat → Nat} {μ : wMem} (O : yOk φ) {b i0 i1 i2 i3 i4 i5 n : Nat} (F : yFCg φ μ b i0 i1 i2 i3 i4 i5) (hb : b < n) (h0 : i0 < n) (h1 : i1 < n) (h2 : i2 < n) (h3 : i3 < n) (h4 : i4 < n) (h5 : i5 < n) :
    ∃ μ1, fX1_copy b i0 i1 i2 i3 i4 i5 n μ = some μ1 ∧ yFCg φ μ1 n (n + 1 + 0) (n + 1 + 1) (n + 1 + 2) (n + 1 + 3) (n + 1 + 4) (n + 1 + 5) ∧ yKeI n μ μ1 := by
  have O6 := O.persons
  have O2 := O.posts
  have O7 : φ 0 7 ≤ 1 := O.2.2.2.2.2.2.2.1
  have O40 : φ 0 6 ≤ 40 := O.2.2.2.2.2.2.1
  unfold fX1_copy
  have A0 : yCpP μ b n 0 (wZ (wZ (wZ (wZ (wZ (wZ (wZ μ n) (n + 1 + 0)) (n + 1 + 1)) (n + 1 + 2)) (n + 1 + 3)) (n + 1 + 4)) (n + 1 + 5)) := ⟨yKeI_Z (yKeI_Z (yKeI_Z (yKeI_Z (yKeI_Z (yKeI_Z (yKeI_Z (fun c _ => ⟨rfl, rfl⟩) (Nat.le_refl _)) (by omega)) (by omega)) (by omega)) (by omega)) (by omega)) (by omega), fun j hj => absurd hj (Nat.not_lt_zero j)⟩
  generalize wZ (wZ (wZ (wZ (wZ (wZ (wZ μ n) (n + 1 + 0)) (n + 1 + 1)) (n + 1 + 2)) (n + 1 + 3)) (n + 1 + 4)) (n + 1 + 5) = m0 at A0 ⊢
  rw [yWL]
  rw [yWL]
  have A1 : yCpP μ b n 1 (wSI m0 n 0 (m0.1 b 0)) := yCpP_s hb A0
  generalize wSI m0 n 0 (m0.1 b 0) = m1 at A1 ⊢
  rw [yWL]
  have A2 : yCpP μ b n 2 (wSI m1 n 1 (m1.1 b 1)) := yCpP_s hb A1
  generalize wSI m1 n 1 (m1.1 b 1) = m2 at A2 ⊢
  rw [yWL]
  have A3 : yCpP μ b n 3 (wSI m2 n 2 (m2.1 b 2)) := yCpP_s hb A2
  generalize wSI m2 n 2 (m2.1 b 2) = m3 at A3 ⊢
  rw [yWL]
  have A4 : yCpP μ b n 4 (wSI m3 n 3 (m3.1 b 3)) := yCpP_s hb A3
  generalize wSI m3 n 3 (m3.1 b 3) = m4 at A4 ⊢
  rw [yWL]
  have A5 : yCpP μ b n 5 (wSI m4 n 4 (m4.1 b 4)) := yCpP_s hb A4
  generalize wSI m4 n 4 (m4.1 b 4) = m5 at A5 ⊢
  rw [yWL]
  have A6 : yCpP μ b n 6 (wSI m5 n 5 (m5.1 b 5)) := yCpP_s hb A5
  generalize wSI m5 n 5 (m5.1 b 5) = m6 at A6 ⊢
  rw [yWL]
  have A7 : yCpP μ b n 7 (wSI m6 n 6 (m6.1 b 6)) := yCpP_s hb A6
  generalize wSI m6 n 6 (m6.1 b 6) = m7 at A7 ⊢
  have g7 : m7.1 b 7 = nI (φ 0 7) := (congrFun (A7.1 b hb).1 7).trans (F.1 7 (by decide))
  have okb : ok_b (m7.1 b 7) = true := by
    rw [g7]
    rcases (by omega : φ 0 7 = 0 ∨ φ 0 7 = 1) with q | q <;> rw [q] <;> rfl
  rw [yG okb]
  rw [yWL]
  have A8 : yCpP μ b n 8 (wSI m7 n 7 (m7.1 b 7)) := yCpP_s hb A7
  generalize wSI m7 n 7 (m7.1 b 7) = m8 at A8 ⊢
  let src : Nat → Nat := fun s => match s with | 0 => i0 | 1 => i1 | 2 => i2 | 3 => i3 | 4 => i4 | _ => i5
  let len : Nat → Nat := fun s => match s with | 0 => 6 | 1 => 6 | 2 => 2 | 3 => 2 | 4 => 2 | _ => 40
  have B0 : yCpQ μ b n src len 0 m8 := ⟨A8, fun s hs => absurd hs (Nat.not_lt_zero s)⟩
  clear A0 A1 A2 A3 A4 A5 A6 A7
  rw [yWL]
  have B1 : yCpQ μ b n src len 1 (wCpy m8 i0 (n + 1 + 0) 0 0 6) := yCpQ_s (r := 0) h0 B0
  generalize wCpy m8 i0 (n + 1 + 0) 0 0 6 = c0 at B1 ⊢
  rw [yWL]
  have B2 : yCpQ μ b n src len 2 (wCpy c0 i1 (n + 1 + 1) 0 0 6) := yCpQ_s (r := 1) h1 B1
  generalize wCpy c0 i1 (n + 1 + 1) 0 0 6 = c1 at B2 ⊢
  rw [yWL]
  have B3 : yCpQ μ b n src len 3 (wCpy c1 i2 (n + 1 + 2) 0 0 2) := yCpQ_s (r := 2) h2 B2
  generalize wCpy c1 i2 (n + 1 + 2) 0 0 2 = c2 at B3 ⊢
  rw [yWL]
  have B4 : yCpQ μ b n src len 4 (wCpy c2 i3 (n + 1 + 3) 0 0 2) := yCpQ_s (r := 3) h3 B3
  generalize wCpy c2 i3 (n + 1 + 3) 0 0 2 = c3 at B4 ⊢
  rw [yWL]
  have B5 : yCpQ μ b n src len 5 (wCpy c3 i4 (n + 1 + 4) 0 0 2) := yCpQ_s (r := 4) h4 B4
  generalize wCpy c3 i4 (n + 1 + 4) 0 0 2 = c4 at B5 ⊢
  rw [yWL]
  have B6 : yCpQ μ b n src len 6 (wCpy c4 i5 (n + 1 + 5) 0 0 40) := yCpQ_s (r := 5) h5 B5
  generalize wCpy c4 i5 (n + 1 + 5) 0 0 40 = c5 at B6 ⊢
  refine ⟨c5, rfl, ⟨fun i hi => (B6.1.2 i hi).trans (F.1 i hi), fun i hi => (B6.2 0 (by decide) i (show i < 6 by omega)).trans (F.2.1 i hi), fun i hi => (B6.2 1 (by decide) i (show i < 6 by omega)).trans (F.2.2.1 i hi), fun i hi => (B6.2 2 (by decide) i (show i < 2 by omega)).trans (F.2.2.2.1 i hi), fun i hi => (B6.2 3 (by decide) i (show i < 2 by omega)).trans (F.2.2.2.2.1 i hi), fun i hi => (B6.2 4 (by decide) i (show i < 2 by omega)).trans (F.2.2.2.2.2.1 i hi), fun i hi => (B6.2 5 (by decide) i (show i < 40 by omega)).trans (F.2.2.2.2.2.2 i hi)⟩, B6.1.1⟩
