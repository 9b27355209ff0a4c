set_option maxRecDepth 100000
/-! part 999996: tokens: where both readers skip to and run to -/
def ySk (b : Nat → Int32) : Nat → Nat → Nat
  | 0, p => p
  | d + 1, p => if b p = 32 ∨ b p = 10 then ySk b d (p + 1) else p
def yRn (b : Nat → Int32) (lo hi : Int32) : Nat → Nat → Nat
  | 0, p => p
  | d + 1, p => if b p < lo ∨ hi < b p then p else yRn b lo hi d (p + 1)
theorem ySk_le (b : Nat → Int32) : ∀ d p, p ≤ ySk b d p ∧ ySk b d p ≤ p + d := by
  intro d
  induction d with
  | zero => intro p; exact ⟨Nat.le_refl _, Nat.le_refl _⟩
  | succ d ih =>
    intro p
    unfold ySk
    have := ih (p + 1)
    by_cases h : b p = 32 ∨ b p = 10
    · rw [if_pos h]
      omega
    · rw [if_neg h]
      omega
theorem yRn_le (b : Nat → Int32) (lo hi : Int32) : ∀ d p, p ≤ yRn b lo hi d p ∧ yRn b lo hi d p ≤ p + d := by
  intro d
  induction d with
  | zero => intro p; exact ⟨Nat.le_refl _, Nat.le_refl _⟩
  | succ d ih =>
    intro p
    unfold yRn
    have := ih (p + 1)
    by_cases h : b p < lo ∨ hi < b p
    · rw [if_pos h]
      omega
    · rw [if_neg h]
      omega
theorem yRn_in (b : Nat → Int32) (lo hi : Int32) : ∀ d p i, p ≤ i → i < yRn b lo hi d p → ¬ (b i < lo ∨ hi < b i) := by
  intro d
  induction d with
  | zero => intro p i h1 h2; exact absurd h2 (Nat.not_lt.mpr h1)
  | succ d ih =>
    intro p i h1 h2
    unfold yRn at h2
    by_cases h : b p < lo ∨ hi < b p
    · rw [if_pos h] at h2
      omega
    · rw [if_neg h] at h2
      by_cases e : p = i
      · rw [← e]
        exact h
      · exact ih (p + 1) i (by omega) h2
theorem yI_tri {a c : Int32} : ¬ (a < c ∨ c < a) ↔ a = c := by
  rw [Int32.lt_iff_toInt_lt, Int32.lt_iff_toInt_lt]
  constructor
  · intro h
    apply Int32.toInt_inj.mp
    omega
  · intro h
    subst h
    omega
def yFr (r : Nat) (μ ν : wMem) : Prop := (∀ c i, (c = r → i < 2 ∨ 4 < i) → ν.1 c i = μ.1 c i) ∧ ν.2 = μ.2
theorem yFr.rfl' (r : Nat) (μ : wMem) : yFr r μ μ := ⟨fun _ _ _ => rfl, rfl⟩
theorem yFr.trans {r : Nat} {μ ν ρ : wMem} (h : yFr r μ ν) (g : yFr r ν ρ) : yFr r μ ρ := ⟨fun c i a => (g.1 c i a).trans (h.1 c i a), g.2.trans h.2⟩
theorem yFr.put {r : Nat} (μ : wMem) {i : Nat} (h : 2 ≤ i ∧ i ≤ 4) (v : Int32) : yFr r μ (wSI μ r i v) := ⟨fun c j a => by rw [yS_get, if_neg (fun g => by have := a g.1; omega)], rfl⟩
def yTc (b : Nat → Int32) (n r : Nat) (μ : wMem) : Prop := r ≠ 8 ∧ n ≤ 600 ∧ μ.1 r 0 = nI n ∧ ∀ i, i < n → μ.1 8 i = b i
theorem yTc.of {b : Nat → Int32} {n r : Nat} {μ ν : wMem} (T : yTc b n r μ) (h : yFr r μ ν) : yTc b n r ν := ⟨T.1, T.2.1, (h.1 r 0 (by omega)).trans T.2.2.1, fun i hi => (h.1 8 i (fun e => absurd e.symm T.1)).trans (T.2.2.2 i hi)⟩
theorem yTc.by' {b : Nat → Int32} {n r p : Nat} {μ : wMem} (T : yTc b n r μ) (h : μ.1 r 2 = nI p) (hp : p < n) : wBy μ r = b p := by
  have := T.2.1
  show μ.1 8 (μ.1 r 2).toNatClampNeg = _
  rw [h, xI_cl (by omega)]
  exact T.2.2.2 p hp
theorem yInc_at {r p : Nat} {μ : wMem} (h : μ.1 r 2 = nI p) : (wInc μ r).1 r 2 = nI (p + 1) := by
  unfold wInc
  rw [yS_get, if_pos ⟨rfl, rfl⟩, h]
  exact nI_add p 1
theorem yr_skip {b : Nat → Int32} {n r : Nat} : ∀ (d p N : Nat) (μ : wMem), p + d = n → d < N → yTc b n r μ → μ.1 r 2 = nI p → ∃ ν, wSkip N r μ = some ν ∧ ν.1 r 2 = nI (ySk b d p) ∧ yFr r μ ν := by
  intro d
  induction d with
  | zero =>
    intro p N μ hp hN T h
    obtain ⟨N, rfl⟩ : ∃ q, N = q + 1 := ⟨N - 1, by omega⟩
    have n6 := T.2.1
    refine ⟨μ, ?_, h, yFr.rfl' r μ⟩
    unfold wSkip
    rw [h, T.2.2.1, yIf (xI_lt (a := p) (b := n) (by omega) (by omega)), if_neg (by omega)]
  | succ d ih =>
    intro p N μ hp hN T h
    obtain ⟨N, rfl⟩ : ∃ q, N = q + 1 := ⟨N - 1, by omega⟩
    have n6 := T.2.1
    have eb := T.by' h (by omega)
    have F : yFr r μ (wInc μ r) := yFr.put μ (by omega) _
    obtain ⟨ν, j1, j2, j3⟩ := ih (p + 1) N (wInc μ r) (by omega) (by omega) (T.of F) (yInc_at h)
    unfold wSkip ySk
    rw [eb, h, T.2.2.1, yIf (xI_lt (a := p) (b := n) (by omega) (by omega)), if_pos (by omega), if_pos (xI_in (by omega) (by decide))]
    by_cases g1 : b p = 32
    · rw [if_pos g1, if_pos (.inl g1)]
      exact ⟨ν, j1, j2, F.trans j3⟩
    · rw [if_neg g1]
      by_cases g2 : b p = 10
      · rw [if_pos g2, if_pos (.inr g2)]
        exact ⟨ν, j1, j2, F.trans j3⟩
      · rw [if_neg g2, if_neg (fun z => z.elim g1 g2)]
        exact ⟨μ, rfl, h, yFr.rfl' r μ⟩
theorem yI_l64 {a c : Int32} : (a.toInt64 < c.toInt64) = (a < c) := propext (by rw [Int64.lt_iff_toInt_lt, Int32.lt_iff_toInt_lt, Int32.toInt_toInt64, Int32.toInt_toInt64])
theorem zNx {b : Nat → Int32} {n r p : Nat} {μ : wMem} (T : yTc b n r μ) (hp : p ≤ n) (h : μ.1 r 2 = nI p) (lo hi : Int32) : wNxOk μ r = true ∧ wNx μ r lo hi = if p < n ∧ ¬ (b p < lo ∨ hi < b p) then 1 else 0 := by
  have n6 := T.2.1
  have lt : (nI p < nI n) = (p < n) := xI_lt (by omega) (by omega)
  unfold wNxOk wNx
  rw [h, T.2.2.1]
  by_cases g : p < n
  · have eb : μ.1 8 (nI p).toNatClampNeg = b p := by
      rw [xI_cl (by omega)]
      exact T.2.2.2 p g
    have g2 : nI p < nI n := by rw [lt]; exact g
    rw [decide_eq_true g2, if_pos g2, eb, yIf yI_l64, xI_in (by omega) (by decide)]
    refine ⟨rfl, ?_⟩
    by_cases g3 : b p < lo
    · rw [if_pos g3, if_neg (fun z => z.2 (.inl g3))]
    · rw [if_neg g3, yIf yI_l64]
      by_cases g4 : hi < b p
      · rw [if_pos g4, if_neg (fun z => z.2 (.inr g4))]
      · rw [if_neg g4, if_pos ⟨g, fun z => z.elim g3 g4⟩]
  · have g2 : ¬ nI p < nI n := by rw [lt]; exact g
    rw [decide_eq_false g2, if_neg g2, if_neg (fun z => g z.1)]
    exact ⟨rfl, rfl⟩
theorem yr_run {b : Nat → Int32} {n r : Nat} {lo hi : Int32} : ∀ (d p N : Nat) (μ : wMem), p + d = n → d < N → yTc b n r μ → μ.1 r 2 = nI p → ∃ ν, wRun lo hi N r μ = some ν ∧ ν.1 r 2 = nI (yRn b lo hi d p) ∧ ν.1 r 3 = μ.1 r 3 ∧ yFr r μ ν := by
  intro d
  induction d with
  | zero =>
    intro p N μ hp hN T h
    obtain ⟨N, rfl⟩ : ∃ q, N = q + 1 := ⟨N - 1, by omega⟩
    obtain ⟨a1, a2⟩ := zNx T (by omega) h lo hi
    refine ⟨μ, ?_, h, rfl, yFr.rfl' r μ⟩
    unfold wRun
    rw [if_neg (by omega)] at a2
    rw [if_pos a1, if_pos a2]
  | succ d ih =>
    intro p N μ hp hN T h
    obtain ⟨N, rfl⟩ : ∃ q, N = q + 1 := ⟨N - 1, by omega⟩
    obtain ⟨a1, a2⟩ := zNx T (by omega) h lo hi
    have F : yFr r μ (wInc μ r) := yFr.put μ (by omega) _
    obtain ⟨ν, j1, j2, j4, j3⟩ := ih (p + 1) N (wInc μ r) (by omega) (by omega) (T.of F) (yInc_at h)
    unfold wRun yRn
    rw [if_pos a1]
    by_cases g : b p < lo ∨ hi < b p
    · rw [if_neg (fun z => z.2 g)] at a2
      rw [if_pos a2, if_pos g]
      exact ⟨μ, rfl, h, rfl, yFr.rfl' r μ⟩
    · rw [if_pos ⟨by omega, g⟩] at a2
      rw [if_neg (by rw [a2]; decide), if_neg g]
      refine ⟨ν, j1, j2, ?_, F.trans j3⟩
      rw [j4]
      unfold wInc
      rw [yS_get, if_neg (by omega)]
/-- the numbers: what both make of a run of digits -/
def yVc (b : Nat → Int32) : Nat → Nat → Nat → Nat
  | 0, _, v => v
  | d + 1, p, v => if b p < 48 ∨ (57 : Int32) < b p then v else yVc b d (p + 1) (min 99999 (10 * v + ((b p).toInt - 48).toNat))
def yVm (b : Nat → Int32) : Nat → Nat → Nat → Nat
  | 0, _, v => v
  | d + 1, p, v => if b p < 48 ∨ (57 : Int32) < b p then v else yVm b d (p + 1) (if v ≤ 100000 then 10 * v + ((b p).toInt - 48).toNat else 1000000)
theorem yDig {x : Int32} (h : ¬ (x < 48 ∨ (57 : Int32) < x)) : ∃ k, k ≤ 9 ∧ x = nI (k + 48) ∧ (x.toInt - 48).toNat = k := by
  rw [Int32.lt_iff_toInt_lt, Int32.lt_iff_toInt_lt] at h
  have e1 : (48 : Int32).toInt = 48 := by decide
  have e2 : (57 : Int32).toInt = 57 := by decide
  rw [e1, e2] at h
  refine ⟨(x.toInt - 48).toNat, by omega, ?_, rfl⟩
  apply Int32.toInt_inj.mp
  rw [nI_toInt (by omega)]
  omega
def yVr (v w : Nat) : Prop := v ≤ 99999 ∧ w ≤ 1000009 ∧ (v = w ∨ (v = 99999 ∧ 99999 ≤ w))
theorem yVr_s {v w k : Nat} (h : yVr v w) (hk : k ≤ 9) : yVr (min 99999 (10 * v + k)) (if w ≤ 100000 then 10 * w + k else 1000000) := by
  obtain ⟨h1, h2, h3⟩ := h
  unfold yVr
  by_cases g : w ≤ 100000
  · rw [if_pos g]
    omega
  · rw [if_neg g]
    omega
theorem yVr_all (b : Nat → Int32) : ∀ d p v w, yVr v w → yVr (yVc b d p v) (yVm b d p w) := by
  intro d
  induction d with
  | zero => intro p v w h; exact h
  | succ d ih =>
    intro p v w h
    unfold yVc yVm
    by_cases g : b p < 48 ∨ (57 : Int32) < b p
    · rw [if_pos g, if_pos g]
      exact h
    · obtain ⟨k, hk, _, ek⟩ := yDig g
      rw [if_neg g, if_neg g, ek]
      exact ih _ _ _ (yVr_s h hk)
theorem yr_num {b : Nat → Int32} {n r : Nat} : ∀ (d p N v : Nat) (μ : wMem), p + d = n → d < N → yTc b n r μ → μ.1 r 2 = nI p → μ.1 r 4 = nI v → v ≤ 99999 → ∃ ν, wNum N r μ = some ν ∧ ν.1 r 2 = nI (yRn b 48 57 d p) ∧ ν.1 r 4 = nI (yVc b d p v) ∧ ν.1 r 3 = μ.1 r 3 ∧ yFr r μ ν := by
  intro d
  induction d with
  | zero =>
    intro p N v μ hp hN T h h4 hv
    obtain ⟨N, rfl⟩ : ∃ q, N = q + 1 := ⟨N - 1, by omega⟩
    obtain ⟨a1, a2⟩ := zNx T (by omega) h 48 57
    refine ⟨μ, ?_, h, h4, rfl, yFr.rfl' r μ⟩
    unfold wNum
    rw [if_neg (by omega)] at a2
    rw [if_pos a1, if_pos a2]
  | succ d ih =>
    intro p N v μ hp hN T h h4 hv
    obtain ⟨N, rfl⟩ : ∃ q, N = q + 1 := ⟨N - 1, by omega⟩
    obtain ⟨a1, a2⟩ := zNx T (by omega) h 48 57
    have eb := T.by' h (by omega)
    unfold wNum yRn yVc
    rw [if_pos a1]
    by_cases g : b p < 48 ∨ (57 : Int32) < b p
    · rw [if_neg (fun z => z.2 g)] at a2
      rw [if_pos a2, if_pos g, if_pos g]
      exact ⟨μ, rfl, h, h4, rfl, yFr.rfl' r μ⟩
    · obtain ⟨k, hk, ek, ek2⟩ := yDig g
      rw [if_pos ⟨by omega, g⟩] at a2
      rw [if_neg (by rw [a2]; decide), if_neg g, if_neg g, ek2, eb, h4, ek]
      have e1 : (10 : Int32) * nI v + nI (k + 48) - 48 = nI (10 * v + k) := by
        have a := xI_mul 10 v
        have c := nI_add (10 * v) (k + 48)
        have f := xI_sub (a := 10 * v + (k + 48)) (b := 48) (by omega)
        have g : 10 * v + (k + 48) - 48 = 10 * v + k := by omega
        rw [g] at f
        refine Eq.trans ?_ f
        rw [← c, ← a]
        rfl
      have e2 : (if (10 : Int32) * nI v + nI (k + 48) - 48 < 99999 then (10 : Int32) * nI v + nI (k + 48) - 48 else 99999) = nI (min 99999 (10 * v + k)) := by
        rw [e1]
        have e3 : (nI (10 * v + k) < (99999 : Int32)) = (10 * v + k < 99999) := xI_lt (b := 99999) (by omega) (by decide)
        rw [yIf e3]
        by_cases q : 10 * v + k < 99999
        · rw [if_pos q]
          congr 1
          omega
        · rw [if_neg q]
          have : min 99999 (10 * v + k) = 99999 := by omega
          rw [this]
          rfl
      rw [e2]
      have F : yFr r μ (wInc (wSI μ r 4 (nI (min 99999 (10 * v + k)))) r) := (yFr.put μ (by omega) _).trans (yFr.put _ (by omega) _)
      have h2' : (wSI μ r 4 (nI (min 99999 (10 * v + k)))).1 r 2 = nI p := by rw [yS_get, if_neg (by omega)]; exact h
      obtain ⟨ν, j1, j2, j4, j5, j3⟩ := ih (p + 1) N (min 99999 (10 * v + k)) _ (by omega) (by omega) (T.of F) (yInc_at h2') (by unfold wInc; rw [yS_get, if_neg (by omega), yS_get, if_pos ⟨rfl, rfl⟩]) (by omega)
      refine ⟨ν, j1, j2, j4, ?_, F.trans j3⟩
      rw [j5]
      unfold wInc
      rw [yS_get, if_neg (by omega), yS_get, if_neg (by omega)]
