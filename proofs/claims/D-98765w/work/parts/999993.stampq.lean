set_option maxRecDepth 100000
/-! part 999993: the four calls about stamps, both sides, in all their ways -/
def yBtS (f g : wMem → Option (Int32 × wMem)) (μ μm : wMem) : Prop := ∃ v μ1 μm1, f μ = some (v, μ1) ∧ g μm = some (v, μm1) ∧ yKC μ μ1 ∧ yKMh μm μm1
def yBlS (f g : wMem → Option (Int64 × wMem)) (μ μm : wMem) : Prop := ∃ v μ1 μm1, f μ = some (v, μ1) ∧ g μm = some (v, μm1) ∧ yKC μ μ1 ∧ yKMh μm μm1
theorem yCnz_neg (φ : Nat → Nat → Nat) (a1 a2 : Int32) : ¬ 0 ≤ yCnz φ a1 a2 := by
  unfold yCnz
  by_cases g : yIs a1 4 ∧ φ 0 1 ≠ 0 ∧ a2 ≠ 0
  · rw [if_pos g]; decide
  · rw [if_neg g]; decide
theorem yCnz_ne (φ : Nat → Nat → Nat) (a1 a2 : Int32) : ¬ yCnz φ a1 a2 = 0 := by
  unfold yCnz
  by_cases g : yIs a1 4 ∧ φ 0 1 ≠ 0 ∧ a2 ≠ 0
  · rw [if_pos g]; decide
  · rw [if_neg g]; decide
theorem yCnz_b {φ : Nat → Nat → Nat} {a1 : Int32} (h : ¬ yIs a1 4) (a2 : Int32) : yCnz φ a1 a2 = -2 := by
  unfold yCnz
  rw [if_neg (fun g => h g.1)]
theorem yCnz_0 (φ : Nat → Nat → Nat) (a1 : Int32) : yCnz φ a1 0 = -2 := by
  unfold yCnz
  rw [if_neg (fun g => g.2.2 rfl)]
theorem ym_whyst_n0 {φ : Nat → Nat → Nat} {μm : wMem} (O : yOk φ) (F : yFM φ 0 μm) (N : Nat) (a1 : Int32) (h : yIs a1 4 → μm.1 1 (Int32.toNatClampNeg a1) = -1) : fX6_whyNoStamps N a1 (wSI μm 0 0 (0 : Int32)) = some (yCnz φ a1 1, wSI μm 0 0 (0 : Int32)) :=
  ym_whyst_n O ((yKM_0 μm 0).fm F) N a1 (fun g => by rw [yS_get, if_neg (by omega)]; exact h g)
-- stamped
theorem yq_stamped {φ : Nat → Nat → Nat} {μ μm : wMem} (O : yOk φ) (F : yFC φ μ) (M : yFM φ 0 μm) {N : Nat} (hN : 50000 ≤ N) {c0 t n i : Nat} (X : ySl c0 t n i μ μm) : yBlS (fX0_stamped N c0 t n (nI i)) (fX6_stamped N (nI i)) μ μm := by
  obtain ⟨ν, h1, h2⟩ := yc_stamped (t := t) O F X.1 X.2.2.1 hN (nI i)
  obtain ⟨νm, g1, g2⟩ := ym_stamped O M X hN
  exact ⟨_, ν, νm, h1, g1, h2, g2.toh⟩
theorem ymn_stamped {φ : Nat → Nat → Nat} {μm : wMem} (O : yOk φ) (M : yFM φ 0 μm) (N : Nat) (a1 : Int32) (h : yIs a1 4 → μm.1 1 (Int32.toNatClampNeg a1) = -1) : fX6_stamped N a1 μm = some ((yCnz φ a1 1).toInt64, wSI μm 0 0 (0 : Int32)) := by
  unfold fX6_stamped
  rw [yWL, ym_whyst_n0 O M N a1 h, yBd, if_neg (yCnz_ne φ a1 1)]
theorem yqn_stamped {φ : Nat → Nat → Nat} {μ μm : wMem} (O : yOk φ) (F : yFC φ μ) (M : yFM φ 0 μm) (N : Nat) (a1 : Int32) (h : yIs a1 4 → μm.1 1 (Int32.toNatClampNeg a1) = -1) : yBlS (fnX0_stamped N a1) (fX6_stamped N a1) μ μm := by
  refine ⟨_, μ, _, ?_, ymn_stamped O M N a1 h, yKC.rfl' _, (yKM_0 _ _).toh⟩
  unfold fnX0_stamped
  rw [yc_asks_n2 O F, yBd, if_neg (yCnz_neg φ a1 1)]
theorem yqb_stamped {φ : Nat → Nat → Nat} {μ μm : wMem} (O : yOk φ) (M : yFM φ 0 μm) (N : Nat) {a1 : Int32} (h : ¬ yIs a1 4) : yBlS (fbX0_stamped N a1) (fX6_stamped N a1) μ μm := by
  refine ⟨_, μ, _, ?_, ymn_stamped O M N a1 (fun g => absurd g h), yKC.rfl' _, (yKM_0 _ _).toh⟩
  unfold fbX0_stamped
  rw [yc_asks_b2 N h, yBd, if_neg (by decide), yCnz_b h]
-- dared
theorem yq_dared {φ : Nat → Nat → Nat} {μ μm : wMem} (O : yOk φ) (F : yFC φ μ) (M : yFM φ 0 μm) {N : Nat} (hN : 50000 ≤ N) {c0 t n i : Nat} (X : ySl c0 t n i μ μm) : yBtS (fX0_dared N c0 t n (nI i)) (fX6_dared N (nI i)) μ μm := by
  obtain ⟨ν, h1, h2⟩ := yc_dared (t := t) O F X.1 X.2.2.1 hN (nI i)
  obtain ⟨νm, g1, g2⟩ := ym_dared O M X hN
  exact ⟨_, ν, νm, h1, g1, h2, g2.toh⟩
theorem ymn_dared {φ : Nat → Nat → Nat} {μm : wMem} (O : yOk φ) (M : yFM φ 0 μm) (N : Nat) (a1 : Int32) (h : yIs a1 4 → μm.1 1 (Int32.toNatClampNeg a1) = -1) : fX6_dared N a1 μm = some (yCnz φ a1 1, wSI μm 0 0 (0 : Int32)) := by
  unfold fX6_dared
  rw [yWL, ym_whyst_n0 O M N a1 h, yBd, if_neg (yCnz_ne φ a1 1)]
theorem yqn_dared {φ : Nat → Nat → Nat} {μ μm : wMem} (O : yOk φ) (F : yFC φ μ) (M : yFM φ 0 μm) (N : Nat) (a1 : Int32) (h : yIs a1 4 → μm.1 1 (Int32.toNatClampNeg a1) = -1) : yBtS (fnX0_dared N a1) (fX6_dared N a1) μ μm := by
  refine ⟨_, μ, _, ?_, ymn_dared O M N a1 h, yKC.rfl' _, (yKM_0 _ _).toh⟩
  unfold fnX0_dared
  rw [yc_asks_n2 O F, yBd, if_neg (yCnz_neg φ a1 1)]
theorem yqb_dared {φ : Nat → Nat → Nat} {μ μm : wMem} (O : yOk φ) (M : yFM φ 0 μm) (N : Nat) {a1 : Int32} (h : ¬ yIs a1 4) : yBtS (fbX0_dared N a1) (fX6_dared N a1) μ μm := by
  refine ⟨_, μ, _, ?_, ymn_dared O M N a1 (fun g => absurd g h), yKC.rfl' _, (yKM_0 _ _).toh⟩
  unfold fbX0_dared
  rw [yc_asks_b2 N h, yBd, if_neg (by decide), yCnz_b h]
-- sure
theorem yq_sures {φ : Nat → Nat → Nat} {μ μm : wMem} (O : yOk φ) (F : yFC φ μ) (M : yFM φ 0 μm) {N : Nat} (hN : 50000 ≤ N) {c0 t n i : Nat} (X : ySl c0 t n i μ μm) (a2 : Int32) : yBtS (fX0_sure N c0 t n (nI i) a2) (fX6_sure N (nI i) a2) μ μm := by
  obtain ⟨ν, h1, h2⟩ := yc_sure (t := t) O F X.1 X.2.2.1 hN (nI i) a2
  obtain ⟨νm, g1, g2⟩ := ym_sure O M X hN a2
  exact ⟨_, ν, νm, h1, g1, h2, g2.toh⟩
theorem ymn_sure {φ : Nat → Nat → Nat} {μm : wMem} (O : yOk φ) (M : yFM φ 0 μm) (N : Nat) (a1 a2 : Int32) (h : yIs a1 4 → μm.1 1 (Int32.toNatClampNeg a1) = -1) : fX6_sure N a1 a2 μm = some (yCnz φ a1 (yB (decide (yIs a2 2))), wSI μm 0 0 (0 : Int32)) := by
  have e1 : fX6_in N a2.toInt64 0 1 (wSI μm 0 0 (0 : Int32)) = some (yB (decide (yIs a2 2)), wSI μm 0 0 (0 : Int32)) := ym_in a2 (n := 2) (by decide) N _
  unfold fX6_sure
  rw [yWL, e1, yBd, yWL]
  by_cases g : yIs a2 2
  · have e2 : yB (decide (yIs a2 2)) = 1 := by rw [decide_eq_true g]; rfl
    rw [e2, if_neg (by decide), ym_whyst_n0 O M N a1 h, yBd]
    dsimp only
    rw [if_neg (yCnz_ne φ a1 1)]
  · have e2 : yB (decide (yIs a2 2)) = 0 := by rw [decide_eq_false g]; rfl
    rw [e2, if_pos rfl, yCnz_0]
    dsimp only
    rw [if_neg (by decide)]
theorem yqn_sures {φ : Nat → Nat → Nat} {μ μm : wMem} (O : yOk φ) (F : yFC φ μ) (M : yFM φ 0 μm) (N : Nat) (a1 a2 : Int32) (h : yIs a1 4 → μm.1 1 (Int32.toNatClampNeg a1) = -1) : yBtS (fnX0_sure N a1 a2) (fX6_sure N a1 a2) μ μm := by
  refine ⟨_, μ, _, ?_, ymn_sure O M N a1 a2 h, yKC.rfl' _, (yKM_0 _ _).toh⟩
  have e1 : fX0_isOneOf N a2 2 μ = some (yB (decide (yIs a2 2)), μ) := yc_isOneOf a2 (n := 2) (by decide) N μ
  unfold fnX0_sure
  rw [e1, yBd, yc_asks_n2 O F, yBd, if_neg (yCnz_neg φ a1 _)]
theorem yqb_sures {φ : Nat → Nat → Nat} {μ μm : wMem} (O : yOk φ) (M : yFM φ 0 μm) (N : Nat) {a1 : Int32} (h : ¬ yIs a1 4) (a2 : Int32) : yBtS (fbX0_sure N a1 a2) (fX6_sure N a1 a2) μ μm := by
  refine ⟨_, μ, _, ?_, ymn_sure O M N a1 a2 (fun g => absurd g h), yKC.rfl' _, (yKM_0 _ _).toh⟩
  have e1 : fX0_isOneOf N a2 2 μ = some (yB (decide (yIs a2 2)), μ) := yc_isOneOf a2 (n := 2) (by decide) N μ
  unfold fbX0_sure
  rw [e1, yBd, yc_asks_b2 N h, yBd, if_neg (by decide), yCnz_b h]
-- had
theorem yq_had {φ : Nat → Nat → Nat} {μ μm : wMem} (O : yOk φ) (F : yFC φ μ) (M : yFM φ 0 μm) {N : Nat} (hN : 50000 ≤ N) {c0 t n i : Nat} (X : ySl c0 t n i μ μm) (a2 : Int32) : yBtS (fX0_had N c0 t n (nI i) a2) (fX6_had N (nI i) a2) μ μm := by
  obtain ⟨ν, h1, h2⟩ := yc_had (t := t) O F X.1 X.2.2.1 hN (nI i) a2
  obtain ⟨νm, g1, g2⟩ := ym_had O M X hN a2
  exact ⟨_, ν, νm, h1, g1, h2, g2⟩
theorem ymn_had {φ : Nat → Nat → Nat} {μm : wMem} (O : yOk φ) (M : yFM φ 0 μm) (N : Nat) (a1 a2 : Int32) (h : yIs a1 4 → μm.1 1 (Int32.toNatClampNeg a1) = -1) : fX6_had N a1 a2 μm = some (yCnz φ a1 (if a2 < 0 then 0 else 1), wSI μm 0 0 (0 : Int32)) := by
  unfold fX6_had
  rw [yWL, yWL]
  by_cases g : a2 < 0
  · rw [if_pos g, if_pos g, yCnz_0]
    dsimp only
    rw [if_neg (by decide)]
  · rw [if_neg g, if_neg g, ym_whyst_n0 O M N a1 h, yBd]
    dsimp only
    rw [if_neg (yCnz_ne φ a1 1)]
theorem yqn_had {φ : Nat → Nat → Nat} {μ μm : wMem} (O : yOk φ) (F : yFC φ μ) (M : yFM φ 0 μm) (N : Nat) (a1 a2 : Int32) (h : yIs a1 4 → μm.1 1 (Int32.toNatClampNeg a1) = -1) : yBtS (fnX0_had N a1 a2) (fX6_had N a1 a2) μ μm := by
  refine ⟨_, μ, _, ?_, ymn_had O M N a1 a2 h, yKC.rfl' _, (yKM_0 _ _).toh⟩
  unfold fnX0_had
  rw [yWL]
  by_cases g : a2 < 0
  · rw [if_pos g, if_pos g]
    dsimp only
    rw [yc_asks_n2 O F, yBd, if_neg (yCnz_neg φ a1 _)]
  · rw [if_neg g, if_neg g]
    dsimp only
    rw [yc_asks_n2 O F, yBd, if_neg (yCnz_neg φ a1 _)]
theorem yqb_had {φ : Nat → Nat → Nat} {μ μm : wMem} (O : yOk φ) (M : yFM φ 0 μm) (N : Nat) {a1 : Int32} (h : ¬ yIs a1 4) (a2 : Int32) : yBtS (fbX0_had N a1 a2) (fX6_had N a1 a2) μ μm := by
  refine ⟨_, μ, _, ?_, ymn_had O M N a1 a2 (fun g => absurd g h), yKC.rfl' _, (yKM_0 _ _).toh⟩
  unfold fbX0_had
  rw [yWL, yCnz_b h]
  by_cases g : a2 < 0
  · rw [if_pos g]
    dsimp only
    rw [yc_asks_b2 N h, yBd, if_neg (by decide)]
  · rw [if_neg g]
    dsimp only
    rw [yc_asks_b2 N h, yBd, if_neg (by decide)]
