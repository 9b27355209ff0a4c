set_option maxRecDepth 100000
/-! part 9999991: what is taken, asked, told -/
def zFb (μ ν : wMem) : Prop := (∀ c i, (c = 0 → i < 7 ∨ 13 < i) → ν.1 c i = μ.1 c i) ∧ ∀ c i, (c = 0 → i ≠ 11) → ν.2 c i = μ.2 c i
theorem zFb.rfl' (μ : wMem) : zFb μ μ := ⟨fun _ _ _ => rfl, fun _ _ _ => rfl⟩
theorem zFb.trans {μ ν ρ : wMem} (h : zFb μ ν) (g : zFb ν ρ) : zFb μ ρ := ⟨fun c i a => (g.1 c i a).trans (h.1 c i a), fun c i a => (g.2 c i a).trans (h.2 c i a)⟩
theorem zFm.b {μ ν : wMem} (h : zFm μ ν) : zFb μ ν := ⟨fun c i a => h.1 c i (by omega), h.2⟩
theorem zFm.bad {μ ν : wMem} (h : zFm μ ν) : ν.1 0 12 = μ.1 0 12 := h.1 0 12 (by omega)
def zM (n t p : Nat) : Nat := 2 * (n - p) + (if t = 0 then 0 else 1)
theorem zM_next {n t p t1 p1 : Nat} (h : p ≤ p1) (h1 : p1 ≤ n) (h2 : t1 ≠ 0 → p < p1) (ht : t ≠ 0) : zM n t1 p1 < zM n t p := by
  unfold zM
  rw [if_neg ht]
  by_cases g : t1 = 0
  · rw [if_pos g]
    omega
  · rw [if_neg g]
    have := h2 g
    omega
/-- it failed: why and where -/
def zBad (k fr : Nat) (μm : wMem) : Prop := 1 ≤ k ∧ k ≤ 3 ∧ μm.1 0 12 = nI k ∧ μm.1 0 13 = nI fr
theorem zBad.ne {k fr : Nat} {μm : wMem} (h : zBad k fr μm) : ¬ μm.1 0 12 = 0 := by
  rw [h.2.2.1]
  obtain ⟨h1, h2, _⟩ := h
  have : (nI k = (0 : Int32)) = (k = 0) := xI_eq (b := 0) (by omega) (by decide)
  rw [this]
  omega
theorem zm_fails {μm : wMem} (h12 : μm.1 0 12 = 0) {fr : Nat} (h9 : μm.1 0 9 = nI fr) {k : Nat} (hk : 1 ≤ k ∧ k ≤ 3) (N : Nat) : ∃ ν, fX6_fails N (nI k) μm = some ν ∧ zBad k fr ν ∧ zFb μm ν ∧ ν.1 0 8 = μm.1 0 8 := by
  refine ⟨wSI (wSI μm 0 12 (nI k)) 0 13 (nI fr), ?_, ⟨hk.1, hk.2, ?_, ?_⟩, ⟨fun c i a => ?_, fun _ _ _ => rfl⟩, ?_⟩
  · unfold fX6_fails
    rw [if_pos h12, yWL, yWL, yS_get, if_neg (by omega), h9]
  · rw [yS_get, if_neg (by omega), yS_get, if_pos ⟨rfl, rfl⟩]
  · rw [yS_get, if_pos ⟨rfl, rfl⟩]
  · rw [yS_get, if_neg (fun g => by have := a g.1; omega), yS_get, if_neg (fun g => by have := a g.1; omega)]
  · rw [yS_get, if_neg (by omega), yS_get, if_neg (by omega)]
theorem zm_fails_no {μm : wMem} (h12 : ¬ μm.1 0 12 = 0) (a : Int32) (N : Nat) : fX6_fails N a μm = some μm := by
  unfold fX6_fails
  rw [if_neg h12]
theorem zm_is_no {μm : wMem} (h12 : ¬ μm.1 0 12 = 0) (a : Int64) (N : Nat) : fX6_is N a μm = some (0, μm) := by
  unfold fX6_is
  rw [if_neg h12]
theorem zm_takes_no {μm : wMem} (h12 : ¬ μm.1 0 12 = 0) (a : Int64) (N : Nat) : fX6_takes N a μm = some (0, μm) := by
  unfold fX6_takes
  rw [zm_is_no h12, yBd, if_pos rfl]
theorem zm_asks_no {μm : wMem} (h12 : ¬ μm.1 0 12 = 0) (a : Int64) (N : Nat) : fX6_asks N a μm = some μm := by
  unfold fX6_asks
  rw [zm_takes_no h12, yBd, if_pos rfl, zm_fails_no h12, yBV]
theorem zm_number_no {μm : wMem} (h12 : ¬ μm.1 0 12 = 0) (a : Int64) (lo hi : Int32) (N : Nat) : fX6_number N a lo hi μm = some (lo, μm) := by
  unfold fX6_number
  rw [zm_asks_no h12, yBV]
  unfold fX6_number_2
  rw [if_neg h12, yBd]
theorem z_takes {b : Nat → Int32} {n r t p fr : Nat} {μ μm : wMem} (S : zSy b n r μ μm t p fr) (h12 : μm.1 0 12 = 0) {w : Nat} (hw : w < 12) {N : Nat} (hN : 2000 ≤ N) :
    (wIs wLen wByt N r t w μ = some 0 ∧ wTakes wLen wByt N r t w μ = some (0, t, μ) ∧ fX6_is N (zWh w) μm = some (0, μm) ∧ fX6_takes N (zWh w) μm = some (0, μm)) ∨
    (∃ t1 μ1 μm1 p1 fr1, wIs wLen wByt N r t w μ = some 1 ∧ wTakes wLen wByt N r t w μ = some (1, t1, μ1) ∧ fX6_is N (zWh w) μm = some (1, μm) ∧ fX6_takes N (zWh w) μm = some (1, μm1) ∧ fX6_next N μm = some μm1 ∧ zSy b n r μ1 μm1 t1 p1 fr1 ∧ μm1.1 0 12 = 0 ∧ yFr r μ μ1 ∧ zFm μm μm1 ∧ zM n t1 p1 < zM n t p ∧ t = 1) := by
  obtain ⟨v, j1, j2, j3⟩ := z_is S h12 hw (N := N) (by omega)
  cases v
  · left
    refine ⟨j1, ?_, j2, ?_⟩
    · unfold wTakes
      rw [j1]
      rfl
    · unfold fX6_takes
      rw [j2, yBd]
      exact if_pos rfl
  · right
    have t1 := j3 rfl
    obtain ⟨u, μ1, μm1, p1, fr1, i1, i2, i3, i4, i5, i6, i7⟩ := z_next S.1 S.2.1 S.2.2.1 S.2.2.2.2.2.1 S.2.2.2.2.2.2.1 (N := N) (by omega)
    refine ⟨u, μ1, μm1, p1, fr1, j1, ?_, j2, ?_, i2, i3, i5.bad.trans h12, i4, i5, zM_next i6 i3.2.2.1 i7 (by omega), t1⟩
    · unfold wTakes
      rw [j1]
      show (if yB true = 0 then some (0, t, μ) else (wNext N r μ).bind fun z => some (yB true, z.1, z.2)) = _
      rw [if_neg (by decide), i1]
      rfl
    · unfold fX6_takes
      rw [j2, yBd]
      refine (if_neg (by decide)).trans ?_
      rw [i2, yBV]
theorem z_needs {b : Nat → Int32} {n r t p fr : Nat} {μ μm : wMem} (S : zSy b n r μ μm t p fr) (h12 : μm.1 0 12 = 0) {w : Nat} (hw : w < 12) {N : Nat} (hN : 2000 ≤ N) :
    (∃ t1 μ1 μm1 p1 fr1, wNeeds wLen wByt N r t w μ = some (.inl ((), t1, μ1)) ∧ fX6_asks N (zWh w) μm = some μm1 ∧ zSy b n r μ1 μm1 t1 p1 fr1 ∧ μm1.1 0 12 = 0 ∧ yFr r μ μ1 ∧ zFm μm μm1 ∧ zM n t1 p1 < zM n t p) ∨
    (∃ μm1, wNeeds wLen wByt N r t w μ = some (.inr (nI 1, t, μ)) ∧ fX6_asks N (zWh w) μm = some μm1 ∧ zBad 1 fr μm1 ∧ zFb μm μm1) := by
  rcases z_takes S h12 hw hN with ⟨_, j2, _, j4⟩ | ⟨t1, μ1, μm1, p1, fr1, _, j2, _, j4, _, j6, j7, j8, j9, j10, _⟩
  · right
    obtain ⟨ν, f1, f2, f3, _⟩ := zm_fails h12 S.2.2.2.2.2.2.2.2.1 (k := 1) (by decide) N
    refine ⟨ν, ?_, ?_, f2, f3⟩
    · unfold wNeeds
      rw [j2]
      rfl
    · unfold fX6_asks
      rw [j4, yBd, if_pos rfl]
      refine Eq.trans (congrArg (fun z => wBindV z _) f1) ?_
      rw [yBV]
  · left
    refine ⟨t1, μ1, μm1, p1, fr1, ?_, ?_, j6, j7, j8, j9, j10⟩
    · unfold wNeeds
      rw [j2]
      rfl
    · unfold fX6_asks
      rw [j4, yBd, if_neg (by decide)]
theorem z_in {u lo hi : Nat} (hu : u < 2 ^ 31) (hl : lo < 2 ^ 31) (hh : hi < 2 ^ 31) : wIn3 (nI u) (nI lo) (nI hi) = (if lo ≤ u ∧ u ≤ hi then 1 else 0) ∧ ∀ (N : Nat) (μ : wMem), fX6_in N (nI u).toInt64 (nI lo).toInt64 (nI hi).toInt64 μ = some ((if lo ≤ u ∧ u ≤ hi then 1 else 0), μ) := by
  have e1 : ((nI u).toInt64 < (nI lo).toInt64) = (u < lo) := by rw [yI_l64]; exact xI_lt hu hl
  have e2 : ((nI hi).toInt64 < (nI u).toInt64) = (hi < u) := by rw [yI_l64]; exact xI_lt hh hu
  unfold wIn3 fX6_in
  constructor
  · rw [yIf e1, yIf e2]
    by_cases g : u < lo
    · rw [if_pos g, if_neg (by omega)]
    · rw [if_neg g]
      by_cases g2 : hi < u
      · rw [if_pos g2, if_neg (by omega)]
      · rw [if_neg g2, if_pos (by omega)]
  · intro N μ
    rw [yIf e1, yIf e2]
    by_cases g : u < lo
    · rw [if_pos g, if_neg (by omega)]
    · rw [if_neg g]
      by_cases g2 : hi < u
      · rw [if_pos g2, if_neg (by omega)]
      · rw [if_neg g2, if_pos (by omega)]
theorem z_told {b : Nat → Int32} {n r t p fr : Nat} {μ μm : wMem} (S : zSy b n r μ μm t p fr) (h12 : μm.1 0 12 = 0) {w : Nat} (hw : w < 12) {N : Nat} (hN : 2000 ≤ N) {lo hi : Nat} (hl : lo ≤ 1) (hh : hi ≤ 100) :
    (∃ v t1 μ1 μm1 p1 fr1, lo ≤ v ∧ v ≤ hi ∧ wTold wLen wByt N r t w (nI lo) (nI hi) μ = some (.inl (nI v, t1, μ1)) ∧ fX6_number N (zWh w) (nI lo) (nI hi) μm = some (nI v, μm1) ∧ zSy b n r μ1 μm1 t1 p1 fr1 ∧ μm1.1 0 12 = 0 ∧ yFr r μ μ1 ∧ zFm μm μm1 ∧ zM n t1 p1 < zM n t p) ∨
    (∃ k t1 μ1 μm1 fr1, wTold wLen wByt N r t w (nI lo) (nI hi) μ = some (.inr (nI k, t1, μ1)) ∧ μ1.1 r 3 = nI fr1 ∧ fX6_number N (zWh w) (nI lo) (nI hi) μm = some (nI lo, μm1) ∧ zBad k fr1 μm1 ∧ yFr r μ μ1 ∧ zFb μm μm1) := by
  rcases z_needs S h12 hw hN with ⟨t1, μ1, μm1, p1, fr1, j1, j2, j3, j4, j5, j6, j7⟩ | ⟨μm1, j1, j2, j3, j4⟩
  · have c8 := j3.2.2.2.2.2.2.2.2.2.1
    have t5 := j3.2.2.2.2.1
    have e8 : (nI t1 = (2 : Int32)) = (t1 = 2) := xI_eq (b := 2) (by omega) (by decide)
    by_cases g : t1 = 2
    · obtain ⟨v, u, ⟨r1, r2, r3⟩, v1, v2⟩ := j3.2.2.2.2.2.2.2.2.2.2.1 g
      have iv := z_in (u := v) (lo := lo) (hi := hi) (by omega) (by omega) (by omega)
      have iu := z_in (u := u) (lo := lo) (hi := hi) (by omega) (by omega) (by omega)
      by_cases q : lo ≤ v ∧ v ≤ hi
      · have uv : u = v := by omega
        subst uv
        rw [if_pos q] at iv iu
        left
        obtain ⟨t2, μ2, μm2, p2, fr2, i1, i2, i3, i4, i5, i6, i7⟩ := z_next j3.1 j3.2.1 j3.2.2.1 j3.2.2.2.2.2.1 j3.2.2.2.2.2.2.1 (N := N) (by omega)
        refine ⟨u, t2, μ2, μm2, p2, fr2, q.1, q.2, ?_, ?_, i3, i5.bad.trans j4, j5.trans i4, j6.trans i5, Nat.lt_trans (zM_next i6 i3.2.2.1 i7 (by omega)) j7⟩
        · unfold wTold
          rw [j1]
          show (if t1 = 2 then _ else _) = _
          rw [if_pos g, v1, iv.1, if_neg (by decide), i1]
          rfl
        · unfold fX6_number
          rw [j2, yBV]
          unfold fX6_number_2
          rw [if_pos j4, c8, yIf e8, if_pos g, v2, iu.2, yBd, if_neg (by decide), yWL, i2, yBV, v2, yBd]
      · right
        have q2 : ¬ (lo ≤ u ∧ u ≤ hi) := by omega
        rw [if_neg q] at iv
        rw [if_neg q2] at iu
        obtain ⟨ν, f1, f2, f3, _⟩ := zm_fails j4 j3.2.2.2.2.2.2.2.2.1 (k := 2) (by decide) N
        refine ⟨2, t1, μ1, ν, fr1, ?_, j3.2.2.2.2.2.2.2.1, ?_, f2, j5, j6.b.trans f3⟩
        · unfold wTold
          rw [j1]
          show (if t1 = 2 then _ else _) = _
          rw [if_pos g, v1, iv.1, if_pos rfl]
          rfl
        · unfold fX6_number
          rw [j2, yBV]
          unfold fX6_number_2
          rw [if_pos j4, c8, yIf e8, if_pos g, v2, iu.2, yBd, if_pos rfl]
          have f1' : fX6_fails N 2 μm1 = some ν := f1
          rw [f1', yBV, yBd]
    · right
      obtain ⟨ν, f1, f2, f3, _⟩ := zm_fails j4 j3.2.2.2.2.2.2.2.2.1 (k := 1) (by decide) N
      refine ⟨1, t1, μ1, ν, fr1, ?_, j3.2.2.2.2.2.2.2.1, ?_, f2, j5, j6.b.trans f3⟩
      · unfold wTold
        rw [j1]
        show (if t1 = 2 then _ else _) = _
        rw [if_neg g]
        rfl
      · unfold fX6_number
        rw [j2, yBV]
        unfold fX6_number_2
        have f1' : fX6_fails N 1 μm1 = some ν := f1
        rw [if_pos j4, c8, yIf e8, if_neg g, f1', yBV, yBd]
  · right
    refine ⟨1, t, μ, μm1, fr, ?_, S.2.2.2.2.2.2.2.1, ?_, j3, yFr.rfl' r μ, j4⟩
    · unfold wTold
      rw [j1]
      rfl
    · unfold fX6_number
      rw [j2, yBV]
      unfold fX6_number_2
      rw [if_neg j3.ne, yBd]
