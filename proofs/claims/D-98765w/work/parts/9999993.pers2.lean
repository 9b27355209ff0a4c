set_option maxRecDepth 100000
/-! part 9999993: the words behind a person's numbers -/
def zKid (φ : Nat → Nat → Nat) (ch st : Nat) : Nat → Nat → Nat := fun c i => if c = 0 ∧ i = 4 then ch else if c = 0 ∧ i = 5 then st else φ c i
theorem zKid_4 (φ : Nat → Nat → Nat) (ch st : Nat) : zKid φ ch st 0 4 = ch := by
  unfold zKid
  rw [if_pos ⟨rfl, rfl⟩]
theorem zKid_5 (φ : Nat → Nat → Nat) (ch st : Nat) : zKid φ ch st 0 5 = st := by
  unfold zKid
  rw [if_neg (by omega), if_pos ⟨rfl, rfl⟩]
theorem zKid_0 (φ : Nat → Nat → Nat) (ch st : Nat) {i : Nat} (h : i ≠ 4 ∧ i ≠ 5) : zKid φ ch st 0 i = φ 0 i := by
  unfold zKid
  rw [if_neg (by omega), if_neg (by omega)]
theorem zKid_c (φ : Nat → Nat → Nat) (ch st : Nat) {c : Nat} (h : c ≠ 0) (i : Nat) : zKid φ ch st c i = φ c i := by
  unfold zKid
  rw [if_neg (by omega), if_neg (by omega)]
theorem zKid_id (φ : Nat → Nat → Nat) : zKid φ (φ 0 4) (φ 0 5) = φ := by
  funext c i
  unfold zKid
  by_cases g : c = 0 ∧ i = 4
  · rw [if_pos g, g.1, g.2]
  · rw [if_neg g]
    by_cases g2 : c = 0 ∧ i = 5
    · rw [if_pos g2, g2.1, g2.2]
    · rw [if_neg g2]
theorem zKid_two (φ : Nat → Nat → Nat) (a b c d : Nat) : zKid (zKid φ a b) c d = zKid φ c d := by
  funext e i
  unfold zKid
  by_cases g : e = 0 ∧ i = 4
  · rw [if_pos g]
    exact (if_pos g).symm
  · rw [if_neg g]
    by_cases g2 : e = 0 ∧ i = 5
    · rw [if_pos g2]
      exact ((if_neg g).trans (if_pos g2)).symm
    · rw [if_neg g2, if_neg g, if_neg g, if_neg g2, if_neg g2]
theorem zKid_ok {φ : Nat → Nat → Nat} (O : yOk φ) {ch st : Nat} (h1 : ch < 64) (h2 : st < 64) : yOk (zKid φ ch st) := by
  have e := fun i (h : i ≠ 4 ∧ i ≠ 5) => zKid_0 φ ch st h
  refine ⟨by rw [e 0 (by decide)]; exact O.loaf, by rw [e 1 (by decide)]; exact O.lines, by rw [e 2 (by decide)]; exact O.persons, by rw [e 3 (by decide)]; exact O.posts, by rw [zKid_4]; exact h1, by rw [zKid_5]; exact h2, by rw [e 6 (by decide)]; exact O.acts, by rw [e 7 (by decide)]; exact O.compares, ?_, ?_, ?_, ?_, ?_⟩
  · intro i hi
    rw [e 2 (by decide)] at hi
    rw [zKid_c _ _ _ (by decide)]; exact O.like i hi
  · intro i hi
    rw [e 2 (by decide)] at hi
    rw [zKid_c _ _ _ (by decide)]; exact O.nose i hi
  · intro i hi
    rw [e 3 (by decide)] at hi
    rw [zKid_c _ _ _ (by decide)]; exact O.strict i hi
  · intro i hi
    rw [e 3 (by decide)] at hi
    rw [zKid_c _ _ _ (by decide)]; exact O.keen i hi
  · intro i hi
    rw [e 3 (by decide)] at hi
    rw [zKid_c _ _ _ (by decide)]; exact O.looks i hi
/-- a number of the family told anew, both sides -/
theorem zFa_kid {φ : Nat → Nat → Nat} {f x : Nat} {μ μm ν νm : wMem} (A : zFa φ f x μ μm) {ch st : Nat} (h1 : ch < 64) (h2 : st < 64) (hx : x = f + 1)
    (k1 : ∀ c i, c = f ∨ (x ≤ c ∧ c ≤ x + 5) → (c = f → i ≠ 4 ∧ i ≠ 5) → ν.1 c i = μ.1 c i) (k2 : ν.1 f 4 = nI ch) (k3 : ν.1 f 5 = nI st)
    (l1 : ∀ c i, 6 ≤ c ∧ c ≤ 11 → (c = 7 → i ≠ 32 ∧ i ≠ 33) → νm.1 c i = μm.1 c i) (l2 : νm.1 7 32 = nI ch) (l3 : νm.1 7 33 = nI st) : zFa (zKid φ ch st) f x ν νm := by
  obtain ⟨F, Fm, O, h6⟩ := A
  have e := fun i (h : i ≠ 4 ∧ i ≠ 5) => zKid_0 φ ch st h
  refine ⟨⟨fun i hi => ?_, fun i hi => ?_, fun i hi => ?_, fun i hi => ?_, fun i hi => ?_, fun i hi => ?_, fun i hi => ?_⟩, ?_, zKid_ok O h1 h2, by rw [e 6 (by decide)]; exact h6⟩
  · by_cases g : i = 4
    · rw [g, k2, zKid_4]
    · by_cases g2 : i = 5
      · rw [g2, k3, zKid_5]
      · rw [k1 f i (.inl rfl) (fun _ => ⟨g, g2⟩), e i ⟨g, g2⟩]
        exact F.1 i hi
  · rw [e 2 (by decide)] at hi
    rw [k1 _ i (by omega) (by omega), zKid_c _ _ _ (by decide)]; exact F.2.1 i hi
  · rw [e 2 (by decide)] at hi
    rw [k1 _ i (by omega) (by omega), zKid_c _ _ _ (by decide)]; exact F.2.2.1 i hi
  · rw [e 3 (by decide)] at hi
    rw [k1 _ i (by omega) (by omega), zKid_c _ _ _ (by decide)]; exact F.2.2.2.1 i hi
  · rw [e 3 (by decide)] at hi
    rw [k1 _ i (by omega) (by omega), zKid_c _ _ _ (by decide)]; exact F.2.2.2.2.1 i hi
  · rw [e 3 (by decide)] at hi
    rw [k1 _ i (by omega) (by omega), zKid_c _ _ _ (by decide)]; exact F.2.2.2.2.2.1 i hi
  · rw [e 6 (by decide), h6] at hi
    exact absurd hi (Nat.not_lt_zero i)
  · obtain ⟨⟨a0, a1, a2, a3, a4, a5, a6, a7⟩, b1, b2, b3, b4⟩ := Fm
    refine ⟨⟨?_, ?_, ?_, ?_, ?_, ?_, ?_, ?_⟩, fun i hi => ?_, fun i hi => ?_, fun i hi => ?_, fun i hi => ?_⟩
    · rw [l1 _ _ (by decide) (by omega), e 0 (by decide)]; exact a0
    · rw [l1 _ _ (by decide) (by omega), e 1 (by decide)]; exact a1
    · rw [l1 _ _ (by decide) (by omega), e 2 (by decide)]; exact a2
    · rw [l1 _ _ (by decide) (by omega), e 3 (by decide)]; exact a3
    · rw [zKid_4]; exact l2
    · rw [zKid_5]; exact l3
    · rw [l1 _ _ (by decide) (by omega), e 6 (by decide)]; exact a6
    · rw [l1 _ _ (by decide) (by omega), e 7 (by decide)]; exact a7
    · rw [e 2 (by decide)] at hi
      rw [l1 _ _ (by decide) (by omega), zKid_c _ _ _ (by decide)]; exact b1 i hi
    · rw [e 2 (by decide)] at hi
      rw [l1 _ _ (by decide) (by omega), zKid_c _ _ _ (by decide)]; exact b2 i hi
    · rw [e 3 (by decide)] at hi
      rw [l1 _ _ (by decide) (by omega), l1 _ _ (by decide) (by omega), l1 _ _ (by decide) (by omega), zKid_c _ _ _ (by decide), zKid_c _ _ _ (by decide), zKid_c _ _ _ (by decide)]; exact b3 i hi
    · rw [e 6 (by decide), h6] at hi
      exact absurd hi (Nat.not_lt_zero i)
theorem zFa_fr {φ : Nat → Nat → Nat} {r f x : Nat} {μ μm ν νm : wMem} (A : zFa φ f x μ μm) (hr : r < f) (hx : f < x) (h : yFr r μ ν) (g : zFb μm νm) : zFa φ f x ν νm :=
  ⟨yFCg_of A.1 (funext fun i => h.1 _ i (by omega)) (funext fun i => h.1 _ i (by omega)) (funext fun i => h.1 _ i (by omega)) (funext fun i => h.1 _ i (by omega)) (funext fun i => h.1 _ i (by omega)) (funext fun i => h.1 _ i (by omega)) (funext fun i => h.1 _ i (by omega)), yFM_b A.2.1 g, A.2.2⟩
/-- the frames of these words -/
def zLr (r f : Nat) (μ ν : wMem) : Prop := (∀ c i, (c = r → i < 2 ∨ 4 < i) → (c = f → i ≠ 4 ∧ i ≠ 5) → ν.1 c i = μ.1 c i) ∧ ν.2 = μ.2
def zLm (μ ν : wMem) : Prop := (∀ c i, (c = 0 → i < 7 ∨ 13 < i) → (c = 7 → i ≠ 32 ∧ i ≠ 33) → ν.1 c i = μ.1 c i) ∧ ∀ c i, (c = 0 → i ≠ 11) → ν.2 c i = μ.2 c i
theorem zLr.rfl' (r f : Nat) (μ : wMem) : zLr r f μ μ := ⟨fun _ _ _ _ => rfl, rfl⟩
theorem zLm.rfl' (μ : wMem) : zLm μ μ := ⟨fun _ _ _ _ => rfl, fun _ _ _ => rfl⟩
theorem zLr.trans {r f : Nat} {μ ν ρ : wMem} (h : zLr r f μ ν) (g : zLr r f ν ρ) : zLr r f μ ρ := ⟨fun c i a b => (g.1 c i a b).trans (h.1 c i a b), g.2.trans h.2⟩
theorem zLm.trans {μ ν ρ : wMem} (h : zLm μ ν) (g : zLm ν ρ) : zLm μ ρ := ⟨fun c i a b => (g.1 c i a b).trans (h.1 c i a b), fun c i a => (g.2 c i a).trans (h.2 c i a)⟩
theorem yFr.l {r f : Nat} {μ ν : wMem} (h : yFr r μ ν) : zLr r f μ ν := ⟨fun c i a _ => h.1 c i a, h.2⟩
theorem zFb.l {μ ν : wMem} (h : zFb μ ν) : zLm μ ν := ⟨fun c i a _ => h.1 c i a, h.2⟩
theorem zLr.k {r f x : Nat} {μ ν : wMem} (h : zLr r f μ ν) : zKr r f x μ ν := ⟨fun c i a b _ => h.1 c i a (fun e => absurd e b), h.2⟩
theorem zLm.k {μ ν : wMem} (h : zLm μ ν) : zKm μ ν := ⟨fun c i a _ b _ _ _ => h.1 c i a (fun e => by have := b e; omega), h.2⟩
theorem zLr_w (r f : Nat) (μ : wMem) {i : Nat} (h : i = 4 ∨ i = 5) (v : Int32) : zLr r f μ (wSI μ f i v) := ⟨fun c j _ b => by rw [yS_get, if_neg (fun g => by have := b g.1; omega)], rfl⟩
theorem zLm_w (μ : wMem) {i : Nat} (h : i = 32 ∨ i = 33) (v : Int32) : zLm μ (wSI μ 7 i v) := ⟨fun c j _ b => by rw [yS_get, if_neg (fun g => by have := b g.1; omega)], fun _ _ _ => rfl⟩
theorem zHs {a k : Nat} (ha : a < 64) (hk : k < 6) : wHs (nI a) (nI k) = (if a / 2 ^ k % 2 = 1 then 1 else 0) ∧ (∀ (N : Nat) (μ : wMem), fX6_isBit N (nI a) (nI k) μ = some ((if a / 2 ^ k % 2 = 1 then 1 else 0), μ)) ∧ nI a ||| ((1 : Int32) <<< (nI k &&& 31)) = nI (a ||| 2 ^ k) ∧ a ||| 2 ^ k < 64 := by
  have e1 : ((nI a >>> (nI k &&& 31)) &&& (1 : Int32)) = nI (a / 2 ^ k % 2) := xI_bit (by omega) (by omega)
  have e2 : (nI (a / 2 ^ k % 2) = (1 : Int32)) = (a / 2 ^ k % 2 = 1) := xI_eq (b := 1) (by omega) (by decide)
  refine ⟨?_, fun N μ => ?_, ?_, ?_⟩
  · unfold wHs
    rw [e1, yIf e2]
  · unfold fX6_isBit
    rw [e1, yIf e2]
    by_cases g : a / 2 ^ k % 2 = 1
    · rw [if_pos g, if_pos g]
    · rw [if_neg g, if_neg g]
  · rw [xI_pow k (by omega), xI_or]
  · have : (2 : Nat) ^ k < 2 ^ 6 := Nat.pow_lt_pow_right (by decide) hk
    exact Nat.or_lt_two_pow (n := 6) ha this
