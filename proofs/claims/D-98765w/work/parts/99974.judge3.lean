set_option maxRecDepth 100000
/-! part 99974: the five calls over rows that are judged (printed by judge3.py) -/
theorem yAsk_0 {φ : Nat → Nat → Nat} {f : Nat → Int64} {n : Nat} (h : yAsk φ f n = 0) : ∀ j, j < n → yVd φ (f j) = true := fun j hj => by
  unfold yAsk at h
  by_cases g : φ 0 1 ≠ 0
  · rw [if_pos g] at h
    by_cases q : yAv φ f 0 n = true
    · exact yAv_all n 0 q j (Nat.zero_le _) (by omega)
    · rw [if_neg q] at h; exact absurd h (by decide)
  · rw [if_neg g] at h; exact absurd h (by decide)
theorem yAsk_n {φ : Nat → Nat → Nat} {f : Nat → Int64} {n : Nat} (h : ¬ yAsk φ f n = 0) : ¬ (0 : Int32) ≤ yAsk φ f n := by
  unfold yAsk at h ⊢
  by_cases g : φ 0 1 ≠ 0
  · rw [if_pos g] at h ⊢
    by_cases q : yAv φ f 0 n = true
    · rw [if_pos q] at h; exact absurd rfl h
    · rw [if_neg q]; decide
  · rw [if_neg g]; decide
theorem ySl.z {c0 t n i : Nat} {μ μm : wMem} (X : ySl c0 t n i μ μm) : ySl c0 t n i μ (wSI μm 0 0 0) := X.keep (yKC.rfl' _) (yKM_0 _ _).kn
/-- what is no slot, and a slot without a row -/
theorem yc_asks_b {φ : Nat → Nat → Nat} {μ : wMem} (N : Nat) {a : Int32} (h : ¬ yIs a 4) : fbX0_asksRow N a μ = some (-2, μ) := by
  unfold fbX0_asksRow
  rw [yc_isSlot, yBd, yWL, yB2 h]
theorem ym_asks_b {μm : wMem} (N : Nat) {a : Int32} (h : ¬ yIs a 4) : fX6_whyNot N a μm = some (-2, μm) := by
  unfold fX6_whyNot
  rw [ym_isSlot, yBd, yWL, yB2 h]
theorem yc_asks_n {φ : Nat → Nat → Nat} {μ : wMem} (O : yOk φ) (F : yFC φ μ) (N : Nat) {i : Nat} (h : i < 4) : fnX0_asksRow N (nI i) μ = some (if φ 0 1 ≠ 0 then -6 else -2, μ) := by
  unfold fnX0_asksRow
  rw [yc_isSlot, yBd, yWL, yB1 (yIs_n h (by decide)), yc_isFamily O F, yBd]
  by_cases g : φ 0 1 ≠ 0
  · rw [yB1 g, if_pos g]
  · rw [yB2 g, if_neg g]
theorem ym_asks_n {φ : Nat → Nat → Nat} {μm : wMem} (O : yOk φ) (F : yFM φ 0 μm) (N : Nat) {i : Nat} (h : i < 4) (hw : μm.1 1 i = -1) : fX6_whyNot N (nI i) μm = some (if φ 0 1 ≠ 0 then -6 else -2, μm) := by
  unfold fX6_whyNot
  rw [ym_isSlot, yBd, yWL, yB1 (yIs_n h (by decide)), ym_isFamily O F, yBd, xI_cl (by omega), hw, if_pos rfl, yG (xI_in (by omega) (by decide))]
  by_cases g : φ 0 1 ≠ 0
  · rw [yB1 g, if_pos g]
  · rw [yB2 g, if_neg g]
theorem ym_judged {φ : Nat → Nat → Nat} {μ μm : wMem} (O : yOk φ) (M : yFM φ 0 μm) {N : Nat} (hN : 100 ≤ N) {c0 t n i : Nat} (X : ySl c0 t n i μ μm) (w : Int32) (h : ¬ yAsk φ (wAt μ c0 t) n = 0) : fX6_judged N (nI i) w μm = some (yAsk φ (wAt μ c0 t) n, wSI μm 0 0 0) := by
  unfold fX6_judged
  rw [yWL, ym_asks O ((yKM_0 μm 0).fm M) hN X.z, yBd, if_neg h]
theorem y0le : ∀ v : Int32, v = -6 ∨ v = -2 → ¬ (0 : Int32) ≤ v ∧ ¬ v = 0 := fun v h => by
  rcases h with h | h <;> subst h <;> decide
theorem yq_judge {φ : Nat → Nat → Nat} {μ μm : wMem} (O : yOk φ) (F : yFC φ μ) (M : yFM φ 0 μm) {N : Nat} (hN : 100 ≤ N) {c0 t n i : Nat} (X : ySl c0 t n i μ μm) : yBth (fX0_judge N c0 t n (nI i)) (fX6_judge N (nI i)) μ μm := by
  have M1 := (yKM_0 μm 0).fm M
  by_cases z : yAsk φ (wAt μ c0 t) n = 0
  · obtain ⟨e, σ, d, r, c, s, ν, νm, j1, j2, j3, j4, j5, j6, j7⟩ := yq_goesBy O F M1 hN X.z (yAsk_0 z)
    refine ⟨nI e, yPut ν σ, yTut νm (yT φ σ), ?_, ?_, j3.trans (yKC_put _ _), ((yKM_0 μm 0).trans j4).trans (yKM_put _ _)⟩
    · have e9 : (yPut ν σ).1 0 9 = nI d := by rw [yPut_o _ _ (by omega) (by decide)]; exact j5.1
      have e10 : (yPut ν σ).1 0 10 = nI r := by rw [yPut_o _ _ (by omega) (by decide)]; exact j5.2.1
      have e11 : (yPut ν σ).1 0 11 = nI (yLf s c) := by rw [yPut_o _ _ (by omega) (by decide)]; exact j5.2.2.1
      unfold fX0_judge
      rw [yc_asks O F hN X, yBd, z, if_pos (by decide), j1, yBd]
    · unfold fX6_judge
      rw [yWL, ym_asks O M1 hN X.z, yBd, if_pos z, j2, yBd]
  · refine ⟨yAsk φ (wAt μ c0 t) n, μ, wSI μm 0 0 0, ?_, ?_, yKC.rfl' _, yKM_0 _ _⟩
    · unfold fX0_judge
      rw [yc_asks O F hN X, yBd, if_neg (yAsk_n z)]
    · unfold fX6_judge
      rw [yWL, ym_asks O M1 hN X.z, yBd, if_neg z]
theorem yqb_judge {φ : Nat → Nat → Nat} {μ μm : wMem} (O : yOk φ) (F : yFC φ μ) (M : yFM φ 0 μm) (N : Nat) (a : Int32) (h : ¬ yIs a 4) : yBth (fbX0_judge N a) (fX6_judge N a) μ μm := by
  have M1 := (yKM_0 μm 0).fm M
  have vv := y0le (-2) (by exact Or.inr rfl)
  refine ⟨-2, μ, wSI μm 0 0 0, ?_, ?_, yKC.rfl' _, yKM_0 _ _⟩
  · unfold fbX0_judge
    rw [yc_asks_b (φ := φ) N h, yBd, if_neg vv.1]
  · unfold fX6_judge
    rw [yWL, ym_asks_b N h, yBd, if_neg vv.2]
theorem yqn_judge {φ : Nat → Nat → Nat} {μ μm : wMem} (O : yOk φ) (F : yFC φ μ) (M : yFM φ 0 μm) (N : Nat) (i : Nat) (h : i < 4) (hw : μm.1 1 i = -1) : yBth (fnX0_judge N (nI i)) (fX6_judge N (nI i)) μ μm := by
  have M1 := (yKM_0 μm 0).fm M
  have hw : (wSI μm 0 0 0).1 1 i = -1 := by rw [yS_get, if_neg (by omega)]; exact hw
  have vv := y0le (if φ 0 1 ≠ 0 then -6 else -2) (by split <;> simp)
  refine ⟨(if φ 0 1 ≠ 0 then -6 else -2), μ, wSI μm 0 0 0, ?_, ?_, yKC.rfl' _, yKM_0 _ _⟩
  · unfold fnX0_judge
    rw [yc_asks_n O F N h, yBd, if_neg vv.1]
  · unfold fX6_judge
    rw [yWL, ym_asks_n O M1 N h hw, yBd, if_neg vv.2]
theorem yq_there {φ : Nat → Nat → Nat} {μ μm : wMem} (O : yOk φ) (F : yFC φ μ) (M : yFM φ 0 μm) {N : Nat} (hN : 100 ≤ N) {c0 t n i : Nat} (X : ySl c0 t n i μ μm) : yBth (fX0_there N c0 t n (nI i)) (fX6_there N (nI i)) μ μm := by
  have M1 := (yKM_0 μm 0).fm M
  by_cases z : yAsk φ (wAt μ c0 t) n = 0
  · obtain ⟨e, σ, d, r, c, s, ν, νm, j1, j2, j3, j4, j5, j6, j7⟩ := yq_goesBy O F M1 hN X.z (yAsk_0 z)
    refine ⟨nI σ.ov, yPut ν σ, yTut νm (yT φ σ), ?_, ?_, j3.trans (yKC_put _ _), ((yKM_0 μm 0).trans j4).trans (yKM_put _ _)⟩
    · have e9 : (yPut ν σ).1 0 9 = nI d := by rw [yPut_o _ _ (by omega) (by decide)]; exact j5.1
      have e10 : (yPut ν σ).1 0 10 = nI r := by rw [yPut_o _ _ (by omega) (by decide)]; exact j5.2.1
      have e11 : (yPut ν σ).1 0 11 = nI (yLf s c) := by rw [yPut_o _ _ (by omega) (by decide)]; exact j5.2.2.1
      unfold fX0_there
      rw [yc_asks O F hN X, yBd, z, if_pos (by decide), j1, yBd, yPut_5]
    · have J2 : yMi (yTut νm (yT φ σ)) d r c s := ⟨by rw [yTut_o _ _ (by omega)]; exact j6.1, by rw [yTut_o _ _ (by omega)]; exact j6.2.1, by rw [yTut_o _ _ (by omega)]; exact j6.2.2.1, fun j hj => by rw [yTut_c _ _ (by decide)]; exact j6.2.2.2 j hj⟩
      unfold fX6_there fX6_judged
      rw [yWL, ym_asks O M1 hN X.z, yBd, if_pos z, j2, yBd, if_pos rfl, yTut_23, yBd]
      rfl
  · refine ⟨yAsk φ (wAt μ c0 t) n, μ, wSI μm 0 0 0, ?_, ?_, yKC.rfl' _, yKM_0 _ _⟩
    · unfold fX0_there
      rw [yc_asks O F hN X, yBd, if_neg (yAsk_n z)]
    · unfold fX6_there
      rw [ym_judged O M hN X _ z, yBd]
theorem yqb_there {φ : Nat → Nat → Nat} {μ μm : wMem} (O : yOk φ) (F : yFC φ μ) (M : yFM φ 0 μm) (N : Nat) (a : Int32) (h : ¬ yIs a 4) : yBth (fbX0_there N a) (fX6_there N a) μ μm := by
  have M1 := (yKM_0 μm 0).fm M
  have vv := y0le (-2) (by exact Or.inr rfl)
  refine ⟨-2, μ, wSI μm 0 0 0, ?_, ?_, yKC.rfl' _, yKM_0 _ _⟩
  · unfold fbX0_there
    rw [yc_asks_b (φ := φ) N h, yBd, if_neg vv.1]
  · unfold fX6_there fX6_judged
    rw [yWL, ym_asks_b N h, yBd, if_neg vv.2, yBd]
theorem yqn_there {φ : Nat → Nat → Nat} {μ μm : wMem} (O : yOk φ) (F : yFC φ μ) (M : yFM φ 0 μm) (N : Nat) (i : Nat) (h : i < 4) (hw : μm.1 1 i = -1) : yBth (fnX0_there N (nI i)) (fX6_there N (nI i)) μ μm := by
  have M1 := (yKM_0 μm 0).fm M
  have hw : (wSI μm 0 0 0).1 1 i = -1 := by rw [yS_get, if_neg (by omega)]; exact hw
  have vv := y0le (if φ 0 1 ≠ 0 then -6 else -2) (by split <;> simp)
  refine ⟨(if φ 0 1 ≠ 0 then -6 else -2), μ, wSI μm 0 0 0, ?_, ?_, yKC.rfl' _, yKM_0 _ _⟩
  · unfold fnX0_there
    rw [yc_asks_n O F N h, yBd, if_neg vv.1]
  · unfold fX6_there fX6_judged
    rw [yWL, ym_asks_n O M1 N h hw, yBd, if_neg vv.2, yBd]
theorem yq_takes {φ : Nat → Nat → Nat} {μ μm : wMem} (O : yOk φ) (F : yFC φ μ) (M : yFM φ 0 μm) {N : Nat} (hN : 100 ≤ N) {c0 t n i : Nat} (X : ySl c0 t n i μ μm) : yBth (fX0_takes N c0 t n (nI i)) (fX6_takes_2 N (nI i)) μ μm := by
  have M1 := (yKM_0 μm 0).fm M
  by_cases z : yAsk φ (wAt μ c0 t) n = 0
  · obtain ⟨e, σ, d, r, c, s, ν, νm, j1, j2, j3, j4, j5, j6, j7⟩ := yq_goesBy O F M1 hN X.z (yAsk_0 z)
    refine ⟨nI d, yPut ν σ, yTut νm (yT φ σ), ?_, ?_, j3.trans (yKC_put _ _), ((yKM_0 μm 0).trans j4).trans (yKM_put _ _)⟩
    · have e9 : (yPut ν σ).1 0 9 = nI d := by rw [yPut_o _ _ (by omega) (by decide)]; exact j5.1
      have e10 : (yPut ν σ).1 0 10 = nI r := by rw [yPut_o _ _ (by omega) (by decide)]; exact j5.2.1
      have e11 : (yPut ν σ).1 0 11 = nI (yLf s c) := by rw [yPut_o _ _ (by omega) (by decide)]; exact j5.2.2.1
      unfold fX0_takes
      rw [yc_asks O F hN X, yBd, z, if_pos (by decide), j1, yBd, e9]
    · have J2 : yMi (yTut νm (yT φ σ)) d r c s := ⟨by rw [yTut_o _ _ (by omega)]; exact j6.1, by rw [yTut_o _ _ (by omega)]; exact j6.2.1, by rw [yTut_o _ _ (by omega)]; exact j6.2.2.1, fun j hj => by rw [yTut_c _ _ (by decide)]; exact j6.2.2.2 j hj⟩
      unfold fX6_takes_2 fX6_judged
      rw [yWL, ym_asks O M1 hN X.z, yBd, if_pos z, j2, yBd, if_neg (by decide), if_pos rfl, yTut_o _ _ (by omega), j6.1, yBd]
  · refine ⟨yAsk φ (wAt μ c0 t) n, μ, wSI μm 0 0 0, ?_, ?_, yKC.rfl' _, yKM_0 _ _⟩
    · unfold fX0_takes
      rw [yc_asks O F hN X, yBd, if_neg (yAsk_n z)]
    · unfold fX6_takes_2
      rw [ym_judged O M hN X _ z, yBd]
theorem yqb_takes {φ : Nat → Nat → Nat} {μ μm : wMem} (O : yOk φ) (F : yFC φ μ) (M : yFM φ 0 μm) (N : Nat) (a : Int32) (h : ¬ yIs a 4) : yBth (fbX0_takes N a) (fX6_takes_2 N a) μ μm := by
  have M1 := (yKM_0 μm 0).fm M
  have vv := y0le (-2) (by exact Or.inr rfl)
  refine ⟨-2, μ, wSI μm 0 0 0, ?_, ?_, yKC.rfl' _, yKM_0 _ _⟩
  · unfold fbX0_takes
    rw [yc_asks_b (φ := φ) N h, yBd, if_neg vv.1]
  · unfold fX6_takes_2 fX6_judged
    rw [yWL, ym_asks_b N h, yBd, if_neg vv.2, yBd]
theorem yqn_takes {φ : Nat → Nat → Nat} {μ μm : wMem} (O : yOk φ) (F : yFC φ μ) (M : yFM φ 0 μm) (N : Nat) (i : Nat) (h : i < 4) (hw : μm.1 1 i = -1) : yBth (fnX0_takes N (nI i)) (fX6_takes_2 N (nI i)) μ μm := by
  have M1 := (yKM_0 μm 0).fm M
  have hw : (wSI μm 0 0 0).1 1 i = -1 := by rw [yS_get, if_neg (by omega)]; exact hw
  have vv := y0le (if φ 0 1 ≠ 0 then -6 else -2) (by split <;> simp)
  refine ⟨(if φ 0 1 ≠ 0 then -6 else -2), μ, wSI μm 0 0 0, ?_, ?_, yKC.rfl' _, yKM_0 _ _⟩
  · unfold fnX0_takes
    rw [yc_asks_n O F N h, yBd, if_neg vv.1]
  · unfold fX6_takes_2 fX6_judged
    rw [yWL, ym_asks_n O M1 N h hw, yBd, if_neg vv.2, yBd]
theorem yq_dares {φ : Nat → Nat → Nat} {μ μm : wMem} (O : yOk φ) (F : yFC φ μ) (M : yFM φ 0 μm) {N : Nat} (hN : 100 ≤ N) {c0 t n i : Nat} (X : ySl c0 t n i μ μm) : yBth (fX0_dares N c0 t n (nI i)) (fX6_dares N (nI i)) μ μm := by
  have M1 := (yKM_0 μm 0).fm M
  by_cases z : yAsk φ (wAt μ c0 t) n = 0
  · obtain ⟨e, σ, d, r, c, s, ν, νm, j1, j2, j3, j4, j5, j6, j7⟩ := yq_goesBy O F M1 hN X.z (yAsk_0 z)
    refine ⟨nI r, yPut ν σ, yTut νm (yT φ σ), ?_, ?_, j3.trans (yKC_put _ _), ((yKM_0 μm 0).trans j4).trans (yKM_put _ _)⟩
    · have e9 : (yPut ν σ).1 0 9 = nI d := by rw [yPut_o _ _ (by omega) (by decide)]; exact j5.1
      have e10 : (yPut ν σ).1 0 10 = nI r := by rw [yPut_o _ _ (by omega) (by decide)]; exact j5.2.1
      have e11 : (yPut ν σ).1 0 11 = nI (yLf s c) := by rw [yPut_o _ _ (by omega) (by decide)]; exact j5.2.2.1
      unfold fX0_dares
      rw [yc_asks O F hN X, yBd, z, if_pos (by decide), j1, yBd, e10]
    · have J2 : yMi (yTut νm (yT φ σ)) d r c s := ⟨by rw [yTut_o _ _ (by omega)]; exact j6.1, by rw [yTut_o _ _ (by omega)]; exact j6.2.1, by rw [yTut_o _ _ (by omega)]; exact j6.2.2.1, fun j hj => by rw [yTut_c _ _ (by decide)]; exact j6.2.2.2 j hj⟩
      unfold fX6_dares fX6_judged
      rw [yWL, ym_asks O M1 hN X.z, yBd, if_pos z, j2, yBd, if_neg (by decide), if_neg (by decide), if_pos rfl, yTut_o _ _ (by omega), j6.2.1, yBd]
  · refine ⟨yAsk φ (wAt μ c0 t) n, μ, wSI μm 0 0 0, ?_, ?_, yKC.rfl' _, yKM_0 _ _⟩
    · unfold fX0_dares
      rw [yc_asks O F hN X, yBd, if_neg (yAsk_n z)]
    · unfold fX6_dares
      rw [ym_judged O M hN X _ z, yBd]
theorem yqb_dares {φ : Nat → Nat → Nat} {μ μm : wMem} (O : yOk φ) (F : yFC φ μ) (M : yFM φ 0 μm) (N : Nat) (a : Int32) (h : ¬ yIs a 4) : yBth (fbX0_dares N a) (fX6_dares N a) μ μm := by
  have M1 := (yKM_0 μm 0).fm M
  have vv := y0le (-2) (by exact Or.inr rfl)
  refine ⟨-2, μ, wSI μm 0 0 0, ?_, ?_, yKC.rfl' _, yKM_0 _ _⟩
  · unfold fbX0_dares
    rw [yc_asks_b (φ := φ) N h, yBd, if_neg vv.1]
  · unfold fX6_dares fX6_judged
    rw [yWL, ym_asks_b N h, yBd, if_neg vv.2, yBd]
theorem yqn_dares {φ : Nat → Nat → Nat} {μ μm : wMem} (O : yOk φ) (F : yFC φ μ) (M : yFM φ 0 μm) (N : Nat) (i : Nat) (h : i < 4) (hw : μm.1 1 i = -1) : yBth (fnX0_dares N (nI i)) (fX6_dares N (nI i)) μ μm := by
  have M1 := (yKM_0 μm 0).fm M
  have hw : (wSI μm 0 0 0).1 1 i = -1 := by rw [yS_get, if_neg (by omega)]; exact hw
  have vv := y0le (if φ 0 1 ≠ 0 then -6 else -2) (by split <;> simp)
  refine ⟨(if φ 0 1 ≠ 0 then -6 else -2), μ, wSI μm 0 0 0, ?_, ?_, yKC.rfl' _, yKM_0 _ _⟩
  · unfold fnX0_dares
    rw [yc_asks_n O F N h, yBd, if_neg vv.1]
  · unfold fX6_dares fX6_judged
    rw [yWL, ym_asks_n O M1 N h hw, yBd, if_neg vv.2, yBd]
theorem yq_lied {φ : Nat → Nat → Nat} {μ μm : wMem} (O : yOk φ) (F : yFC φ μ) (M : yFM φ 0 μm) {N : Nat} (hN : 100 ≤ N) {c0 t n i : Nat} (X : ySl c0 t n i μ μm) : yBth (fX0_lied N c0 t n (nI i)) (fX6_lied N (nI i)) μ μm := by
  have M1 := (yKM_0 μm 0).fm M
  by_cases z : yAsk φ (wAt μ c0 t) n = 0
  · obtain ⟨e, σ, d, r, c, s, ν, νm, j1, j2, j3, j4, j5, j6, j7⟩ := yq_goesBy O F M1 hN X.z (yAsk_0 z)
    refine ⟨nI (yLf s c), yPut ν σ, yTut νm (yT φ σ), ?_, ?_, j3.trans (yKC_put _ _), ((yKM_0 μm 0).trans j4).trans (yKM_put _ _)⟩
    · have e9 : (yPut ν σ).1 0 9 = nI d := by rw [yPut_o _ _ (by omega) (by decide)]; exact j5.1
      have e10 : (yPut ν σ).1 0 10 = nI r := by rw [yPut_o _ _ (by omega) (by decide)]; exact j5.2.1
      have e11 : (yPut ν σ).1 0 11 = nI (yLf s c) := by rw [yPut_o _ _ (by omega) (by decide)]; exact j5.2.2.1
      unfold fX0_lied
      rw [yc_asks O F hN X, yBd, z, if_pos (by decide), j1, yBd, e11]
    · have J2 : yMi (yTut νm (yT φ σ)) d r c s := ⟨by rw [yTut_o _ _ (by omega)]; exact j6.1, by rw [yTut_o _ _ (by omega)]; exact j6.2.1, by rw [yTut_o _ _ (by omega)]; exact j6.2.2.1, fun j hj => by rw [yTut_c _ _ (by decide)]; exact j6.2.2.2 j hj⟩
      unfold fX6_lied fX6_judged
      rw [yWL, ym_asks O M1 hN X.z, yBd, if_pos z, j2, yBd, if_neg (by decide), if_neg (by decide), if_neg (by decide), ym_liesNow J2 j7 N hN, yBd, yBd]
  · refine ⟨yAsk φ (wAt μ c0 t) n, μ, wSI μm 0 0 0, ?_, ?_, yKC.rfl' _, yKM_0 _ _⟩
    · unfold fX0_lied
      rw [yc_asks O F hN X, yBd, if_neg (yAsk_n z)]
    · unfold fX6_lied
      rw [ym_judged O M hN X _ z, yBd]
theorem yqb_lied {φ : Nat → Nat → Nat} {μ μm : wMem} (O : yOk φ) (F : yFC φ μ) (M : yFM φ 0 μm) (N : Nat) (a : Int32) (h : ¬ yIs a 4) : yBth (fbX0_lied N a) (fX6_lied N a) μ μm := by
  have M1 := (yKM_0 μm 0).fm M
  have vv := y0le (-2) (by exact Or.inr rfl)
  refine ⟨-2, μ, wSI μm 0 0 0, ?_, ?_, yKC.rfl' _, yKM_0 _ _⟩
  · unfold fbX0_lied
    rw [yc_asks_b (φ := φ) N h, yBd, if_neg vv.1]
  · unfold fX6_lied fX6_judged
    rw [yWL, ym_asks_b N h, yBd, if_neg vv.2, yBd]
theorem yqn_lied {φ : Nat → Nat → Nat} {μ μm : wMem} (O : yOk φ) (F : yFC φ μ) (M : yFM φ 0 μm) (N : Nat) (i : Nat) (h : i < 4) (hw : μm.1 1 i = -1) : yBth (fnX0_lied N (nI i)) (fX6_lied N (nI i)) μ μm := by
  have M1 := (yKM_0 μm 0).fm M
  have hw : (wSI μm 0 0 0).1 1 i = -1 := by rw [yS_get, if_neg (by omega)]; exact hw
  have vv := y0le (if φ 0 1 ≠ 0 then -6 else -2) (by split <;> simp)
  refine ⟨(if φ 0 1 ≠ 0 then -6 else -2), μ, wSI μm 0 0 0, ?_, ?_, yKC.rfl' _, yKM_0 _ _⟩
  · unfold fnX0_lied
    rw [yc_asks_n O F N h, yBd, if_neg vv.1]
  · unfold fX6_lied fX6_judged
    rw [yWL, ym_asks_n O M1 N h hw, yBd, if_neg vv.2, yBd]
