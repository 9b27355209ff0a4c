set_option maxRecDepth 100000
/-! part 999997: tokens, the twin's side -/
def zFm (μ ν : wMem) : Prop := (∀ c i, (c = 0 → i < 7 ∨ 10 < i) → ν.1 c i = μ.1 c i) ∧ ∀ c i, (c = 0 → i ≠ 11) → ν.2 c i = μ.2 c i
theorem zFm.rfl' (μ : wMem) : zFm μ μ := ⟨fun _ _ _ => rfl, fun _ _ _ => rfl⟩
theorem zFm.trans {μ ν ρ : wMem} (h : zFm μ ν) (g : zFm ν ρ) : zFm μ ρ := ⟨fun c i a => (g.1 c i a).trans (h.1 c i a), fun c i a => (g.2 c i a).trans (h.2 c i a)⟩
theorem zFm.put (μ : wMem) {i : Nat} (h : 7 ≤ i ∧ i ≤ 10) (v : Int32) : zFm μ (wSI μ 0 i v) := ⟨fun c j a => by rw [yS_get, if_neg (fun g => by have := a g.1; omega)], fun _ _ _ => rfl⟩
theorem zFm.putL (μ : wMem) (v : Int64) : zFm μ (wSL μ 0 11 v) := ⟨fun _ _ _ => rfl, fun c j a => by rw [yL_get, if_neg (fun g => a g.1 g.2)]⟩
def zTm (b : Nat → Int32) (n : Nat) (μ : wMem) : Prop := n ≤ 600 ∧ μ.1 0 6 = nI n ∧ ∀ i, i < n → μ.1 5 i = b i
theorem zTm.of {b : Nat → Int32} {n : Nat} {μ ν : wMem} (T : zTm b n μ) (h : zFm μ ν) : zTm b n ν := ⟨T.1, (h.1 0 6 (by omega)).trans T.2.1, fun i hi => (h.1 5 i (by omega)).trans (T.2.2 i hi)⟩
theorem zm_isByte {b : Nat → Int32} {n : Nat} {μ : wMem} (T : zTm b n μ) {p : Nat} (hp : p ≤ n) (lo hi : Int32) (N : Nat) : fX6_isByte N (nI p) lo hi μ = some (if p < n ∧ ¬ (b p < lo ∨ hi < b p) then 1 else 0, μ) := by
  obtain ⟨n6, t1, t2⟩ := T
  unfold fX6_isByte
  rw [t1, yIf (xI_le (a := n) (b := p) (by omega) (by omega))]
  by_cases g : p < n
  · rw [if_neg (by omega), yG (xI_in (by omega) (by decide)), yG (xI_in (by omega) (by decide)), xI_cl (by omega), t2 p g]
    by_cases g3 : b p < lo
    · rw [if_pos g3, if_neg (fun z => z.2 (.inl g3))]
    · rw [if_neg g3]
      by_cases g4 : hi < b p
      · rw [if_pos g4, if_neg (fun z => z.2 (.inr g4))]
      · rw [if_neg g4, if_pos ⟨g, fun z => z.elim g3 g4⟩]
  · rw [if_pos (by omega), if_neg (fun z => g z.1)]
theorem zm_at {μ : wMem} {p : Nat} (h : μ.1 0 7 = nI p) : (wSI μ 0 7 (μ.1 0 7 + (1 : Int32))).1 0 7 = nI (p + 1) := by
  rw [yS_get, if_pos ⟨rfl, rfl⟩, h]
  exact nI_add p 1
theorem zm_skip {b : Nat → Int32} {n : Nat} (N : Nat) : ∀ (d p M : Nat) (μ : wMem), p + d = n → d < M → zTm b n μ → μ.1 0 7 = nI p → ∃ ν, (∀ K : wMem → Option wMem, gX6_next_0 N K M μ = K ν) ∧ ν.1 0 7 = nI (ySk b d p) ∧ zFm μ ν := by
  intro d
  induction d with
  | zero =>
    intro p M μ hp hM T h
    obtain ⟨M, rfl⟩ : ∃ q, M = q + 1 := ⟨M - 1, by omega⟩
    have i1 := zm_isByte T (p := p) (by omega) 32 32 N
    have i2 := zm_isByte T (p := p) (by omega) 10 10 N
    rw [if_neg (by omega)] at i1 i2
    refine ⟨μ, ?_, h, zFm.rfl' μ⟩
    intro K
    show gbX6_next_0 N K _ μ = _
    unfold gbX6_next_0
    rw [h, i1, yBd, yWL, if_pos rfl, h, i2, yBd, if_pos rfl]
  | succ d ih =>
    intro p M μ hp hM T h
    obtain ⟨M, rfl⟩ : ∃ q, M = q + 1 := ⟨M - 1, by omega⟩
    have F : zFm μ (wSI μ 0 7 (μ.1 0 7 + (1 : Int32))) := zFm.put μ (by omega) _
    obtain ⟨ν, j1, j2, j3⟩ := ih (p + 1) M _ (by omega) (by omega) (T.of F) (zm_at h)
    have i1 := zm_isByte T (p := p) (by omega) 32 32 N
    have i2 := zm_isByte T (p := p) (by omega) 10 10 N
    unfold ySk
    by_cases g1 : b p = 32
    · rw [if_pos ⟨by omega, yI_tri.mpr g1⟩] at i1
      rw [if_pos (.inl g1)]
      refine ⟨ν, ?_, j2, F.trans j3⟩
      intro K
      rw [← j1 K]
      show gbX6_next_0 N K _ μ = _
      unfold gbX6_next_0
      rw [h, i1, yBd, yWL, if_neg (by decide)]
      dsimp only
      rw [yWL, h]
    · rw [if_neg (fun z => g1 (yI_tri.mp z.2))] at i1
      by_cases g2 : b p = 10
      · rw [if_pos ⟨by omega, yI_tri.mpr g2⟩] at i2
        rw [if_pos (.inr g2)]
        refine ⟨ν, ?_, j2, F.trans j3⟩
        intro K
        rw [← j1 K]
        show gbX6_next_0 N K _ μ = _
        unfold gbX6_next_0
        rw [h, i1, yBd, yWL, if_pos rfl, h, i2, yBd, if_neg (by decide)]
        dsimp only
        rw [yWL, h]
      · rw [if_neg (fun z => g2 (yI_tri.mp z.2))] at i2
        rw [if_neg (fun z => z.elim g1 g2)]
        refine ⟨μ, ?_, h, zFm.rfl' μ⟩
        intro K
        show gbX6_next_0 N K _ μ = _
        unfold gbX6_next_0
        rw [h, i1, yBd, yWL, if_pos rfl, h, i2, yBd, if_pos rfl]
theorem zm_num {b : Nat → Int32} {n : Nat} (N : Nat) : ∀ (d p M v : Nat) (μ : wMem), p + d = n → d < M → zTm b n μ → μ.1 0 7 = nI p → μ.1 0 10 = nI v → v ≤ 1000009 → ∃ ν, (∀ K : wMem → Option wMem, gX6_next_208 N K M μ = K ν) ∧ ν.1 0 7 = nI (yRn b 48 57 d p) ∧ ν.1 0 10 = nI (yVm b d p v) ∧ (∀ i, i = 8 ∨ i = 9 → ν.1 0 i = μ.1 0 i) ∧ zFm μ ν := by
  intro d
  induction d with
  | zero =>
    intro p M v μ hp hM T h h10 hv
    obtain ⟨M, rfl⟩ : ∃ q, M = q + 1 := ⟨M - 1, by omega⟩
    have i1 := zm_isByte T (p := p) (by omega) 48 57 N
    rw [if_neg (by omega)] at i1
    refine ⟨μ, ?_, h, h10, fun _ _ => rfl, zFm.rfl' μ⟩
    intro K
    show gbX6_next_208 N K _ μ = _
    unfold gbX6_next_208
    rw [h, i1, yBd, if_pos rfl]
  | succ d ih =>
    intro p M v μ hp hM T h h10 hv
    obtain ⟨M, rfl⟩ : ∃ q, M = q + 1 := ⟨M - 1, by omega⟩
    have n6 := T.1
    have i1 := zm_isByte T (p := p) (by omega) 48 57 N
    unfold yRn yVm
    by_cases g : b p < 48 ∨ (57 : Int32) < b p
    · rw [if_neg (fun z => z.2 g)] at i1
      rw [if_pos g, if_pos g]
      refine ⟨μ, ?_, h, h10, fun _ _ => rfl, zFm.rfl' μ⟩
      intro K
      show gbX6_next_208 N K _ μ = _
      unfold gbX6_next_208
      rw [h, i1, yBd, if_pos rfl]
    · obtain ⟨k, hk, ek, ek2⟩ := yDig g
      rw [if_pos ⟨by omega, g⟩] at i1
      rw [if_neg g, if_neg g, ek2]
      have eb : μ.1 5 p = nI (k + 48) := (T.2.2 p (by omega)).trans ek
      have e1 : (10 : Int32) * nI v + nI (k + 48) - 48 = nI (10 * v + k) := by
        have a := xI_mul 10 v
        have c := nI_add (10 * v) (k + 48)
        have f := xI_sub (a := 10 * v + (k + 48)) (b := 48) (by omega)
        have g : 10 * v + (k + 48) - 48 = 10 * v + k := by omega
        rw [g] at f
        refine Eq.trans ?_ f
        rw [← c, ← a]
        rfl
      have e3 : (nI v ≤ (100000 : Int32)) = (v ≤ 100000) := xI_le (b := 100000) (by omega) (by decide)
      have go : ∀ w : Nat, w ≤ 1000009 → ∃ ν, (∀ K : wMem → Option wMem, gX6_next_208 N K M (wSI (wSI μ 0 10 (nI w)) 0 7 ((wSI μ 0 10 (nI w)).1 0 7 + (1 : Int32))) = K ν) ∧ ν.1 0 7 = nI (yRn b 48 57 d (p + 1)) ∧ ν.1 0 10 = nI (yVm b d (p + 1) w) ∧ (∀ i, i = 8 ∨ i = 9 → ν.1 0 i = μ.1 0 i) ∧ zFm μ ν := fun w hw => by
        have F : zFm μ (wSI (wSI μ 0 10 (nI w)) 0 7 ((wSI μ 0 10 (nI w)).1 0 7 + (1 : Int32))) := (zFm.put μ (by omega) _).trans (zFm.put _ (by omega) _)
        have h7 : (wSI μ 0 10 (nI w)).1 0 7 = nI p := by rw [yS_get, if_neg (by omega)]; exact h
        obtain ⟨ν, j1, j2, j4, j5, j3⟩ := ih (p + 1) M w _ (by omega) (by omega) (T.of F) (zm_at h7) (by rw [yS_get, if_neg (by omega), yS_get, if_pos ⟨rfl, rfl⟩]) hw
        refine ⟨ν, j1, j2, j4, fun i hi => ?_, F.trans j3⟩
        rw [j5 i hi, yS_get, if_neg (by omega), yS_get, if_neg (by omega)]
      by_cases q : v ≤ 100000
      · obtain ⟨ν, j1, j2⟩ := go (10 * v + k) (by omega)
        rw [if_pos q]
        refine ⟨ν, ?_, j2⟩
        intro K
        rw [← j1 K]
        show gbX6_next_208 N K _ μ = _
        unfold gbX6_next_208
        rw [h, i1, yBd, if_neg (by decide), yWL, h10, yIf e3, if_pos q, h, yG (xI_in (by omega) (by decide)), xI_cl (by omega), eb, e1]
        rfl
      · obtain ⟨ν, j1, j2⟩ := go 1000000 (by omega)
        rw [if_neg q]
        refine ⟨ν, ?_, j2⟩
        intro K
        rw [← j1 K]
        show gbX6_next_208 N K _ μ = _
        unfold gbX6_next_208
        rw [h, i1, yBd, if_neg (by decide), yWL, h10, yIf e3, if_neg q]
        rfl
/-- a word by a number: as long as it is short enough -/
def zHw (b : Nat → Int32) (fr : Nat) : Nat → Int64
  | 0 => 0
  | k + 1 => if k ≤ 11 then 27 * zHw b fr k + (b (fr + k)).toInt64 - 96 else -1
theorem zm_word {b : Nat → Int32} {n fr : Nat} (N : Nat) : ∀ (d p M k : Nat) (μ : wMem), p + d = n → fr + k = p → d < M → zTm b n μ → μ.1 0 7 = nI p → μ.2 0 11 = zHw b fr k → ∃ ν, (∀ K : wMem → Option wMem, gX6_next_102 N K M (nI k) μ = K ν) ∧ ν.1 0 7 = nI (yRn b 97 122 d p) ∧ ν.2 0 11 = zHw b fr (yRn b 97 122 d p - fr) ∧ (∀ i, i = 8 ∨ i = 9 → ν.1 0 i = μ.1 0 i) ∧ zFm μ ν := by
  intro d
  induction d with
  | zero =>
    intro p M k μ hp hk hM T h h11
    obtain ⟨M, rfl⟩ : ∃ q, M = q + 1 := ⟨M - 1, by omega⟩
    have i1 := zm_isByte T (p := p) (by omega) 97 122 N
    rw [if_neg (by omega)] at i1
    refine ⟨μ, ?_, h, ?_, fun _ _ => rfl, zFm.rfl' μ⟩
    · intro K
      show gbX6_next_102 N K _ _ μ = _
      unfold gbX6_next_102
      rw [h, i1, yBd, if_pos rfl]
    · have : yRn b 97 122 0 p - fr = k := by
        show p - fr = k
        omega
      rw [this]
      exact h11
  | succ d ih =>
    intro p M k μ hp hk hM T h h11
    obtain ⟨M, rfl⟩ : ∃ q, M = q + 1 := ⟨M - 1, by omega⟩
    have n6 := T.1
    have i1 := zm_isByte T (p := p) (by omega) 97 122 N
    unfold yRn
    by_cases g : b p < 97 ∨ (122 : Int32) < b p
    · rw [if_neg (fun z => z.2 g)] at i1
      rw [if_pos g]
      refine ⟨μ, ?_, h, ?_, fun _ _ => rfl, zFm.rfl' μ⟩
      · intro K
        show gbX6_next_102 N K _ _ μ = _
        unfold gbX6_next_102
        rw [h, i1, yBd, if_pos rfl]
      · have : p - fr = k := by omega
        rw [this]
        exact h11
    · rw [if_pos ⟨by omega, g⟩] at i1
      rw [if_neg g]
      have eb : μ.1 5 p = b (fr + k) := by rw [hk]; exact T.2.2 p (by omega)
      have add1 : nI k + (1 : Int32) = nI (k + 1) := nI_add k 1
      have e3 : (nI k ≤ (11 : Int32)) = (k ≤ 11) := xI_le (b := 11) (by omega) (by decide)
      have go : ∀ ρ : wMem, zFm μ ρ → ρ.1 0 7 = nI p → ρ.2 0 11 = zHw b fr (k + 1) → (∀ i, i = 8 ∨ i = 9 → ρ.1 0 i = μ.1 0 i) → ∃ ν, (∀ K : wMem → Option wMem, gX6_next_102 N K M (nI (k + 1)) (wSI ρ 0 7 (ρ.1 0 7 + (1 : Int32))) = K ν) ∧ ν.1 0 7 = nI (yRn b 97 122 d (p + 1)) ∧ ν.2 0 11 = zHw b fr (yRn b 97 122 d (p + 1) - fr) ∧ (∀ i, i = 8 ∨ i = 9 → ν.1 0 i = μ.1 0 i) ∧ zFm μ ν := fun ρ F h7 hw h89 => by
        have F2 : zFm μ (wSI ρ 0 7 (ρ.1 0 7 + (1 : Int32))) := F.trans (zFm.put _ (by omega) _)
        obtain ⟨ν, j1, j2, j4, j5, j3⟩ := ih (p + 1) M (k + 1) _ (by omega) (by omega) (by omega) (T.of F2) (zm_at h7) hw
        refine ⟨ν, j1, j2, j4, fun i hi => ?_, F2.trans j3⟩
        rw [j5 i hi, yS_get, if_neg (by omega), h89 i hi]
      by_cases q : k ≤ 11
      · obtain ⟨ν, j1, j2⟩ := go (wSL μ 0 11 (27 * zHw b fr k + (b (fr + k)).toInt64 - 96)) (zFm.putL μ _) h (by rw [yL_get, if_pos ⟨rfl, rfl⟩, zHw, if_pos q]) (fun _ _ => rfl)
        refine ⟨ν, ?_, j2⟩
        intro K
        rw [← j1 K]
        show gbX6_next_102 N K _ _ μ = _
        unfold gbX6_next_102
        rw [h, i1, yBd, if_neg (by decide), yWL, yIf e3, if_pos q, h, yG (xI_in (by omega) (by decide)), xI_cl (by omega), eb, h11]
        dsimp only
        rw [yWL, yWL, yIf e3, if_pos q]
        dsimp only
        rw [yWL, yWL, add1]
      · obtain ⟨ν, j1, j2⟩ := go (wSL (wSL μ 0 11 (-1)) 0 11 (-1)) ((zFm.putL μ _).trans (zFm.putL _ _)) h (by rw [yL_get, if_pos ⟨rfl, rfl⟩, zHw, if_neg q]) (fun _ _ => rfl)
        refine ⟨ν, ?_, j2⟩
        intro K
        rw [← j1 K]
        show gbX6_next_102 N K _ _ μ = _
        unfold gbX6_next_102
        rw [h, i1, yBd, if_neg (by decide), yWL, yIf e3, if_neg q]
        dsimp only
        rw [yWL, yWL, yIf e3, if_neg q, yWL]
        dsimp only
        rw [yWL, yWL, add1]
