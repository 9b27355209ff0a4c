set_option maxRecDepth 100000
/-! part 99987: the component's answers about stamps, joined -/
theorem yCsz_of {φ : Nat → Nat → Nat} {v : Nat → Int64} {n : Nat} {a1 a2 : Int32} (h : yCsz φ v n a1 a2 = true) : yIs a1 4 ∧ φ 0 1 ≠ 0 ∧ a2 ≠ 0 ∧ yAvz φ v 0 n = true ∧ n ≤ 12 := by
  unfold yCsz at h
  rw [Bool.and_eq_true, Bool.and_eq_true, Bool.and_eq_true, Bool.and_eq_true, decide_eq_true_eq, decide_eq_true_eq, decide_eq_true_eq, decide_eq_true_eq] at h
  exact ⟨h.1, h.2.1, h.2.2.1, h.2.2.2.1, h.2.2.2.2⟩
theorem yc_throughz {φ : Nat → Nat → Nat} (O : yOk φ) {n c0 t : Nat} {μ : wMem} (F : yFC φ μ) (hc : 21 < c0) {N : Nat} (hN : 50000 ≤ N) {a1 a2 : Int32} (C : yCsz φ (wAt μ c0 t) n a1 a2 = true) :
    ∃ ν, fX0_goesThrough N c0 t n a1 (wSI μ 0 28 (nI n)) = some ν ∧ yKC μ ν ∧ ν.1 0 28 = nI n ∧ yWy (yGa φ (yWvz φ (wAt μ c0 t) n) n) ν ∧ ν.1 0 29 = nI (yAnd φ (yWvz φ (wAt μ c0 t) n) n 3136) ∧ ν.1 0 30 = nI (yOrr φ (yWvz φ (wAt μ c0 t) n) n 3136) ∧ ∀ j, j < n → ν.1 18 j = nI (yHs φ (yWvz φ (wAt μ c0 t) n) n j 3136) := by
  obtain ⟨_, _, _, A, n12⟩ := yCsz_of C
  obtain ⟨w1, w2⟩ := yWvz_ok O A
  have k0 : yKC μ (wSI μ 0 28 (nI n)) := fun c i a b => ⟨by rw [yS_get, if_neg (by omega)], rfl⟩
  have X : yWn φ (yWvz φ (wAt μ c0 t) n) n (wSI μ 0 28 (nI n)) c0 t := ⟨hc, n12, fun j hj => by
    rw [wAt_of (fun i => k0 c0 i (by omega) (by omega))]
    exact w1 j hj, w2⟩
  obtain ⟨ν, τ, j1, j2, j3, j4, j5, j6, j7⟩ := yc_goesThrough O (k0.fc F) X (by rw [yS_get, if_pos ⟨rfl, rfl⟩]) hN a1
  have f0 : ∀ j, 7 < j → (yPut ν τ).1 0 j = ν.1 0 j := fun j h => yPut_o _ _ (by omega) (by decide)
  refine ⟨yPut ν τ, j1, (k0.trans j2).trans (yKC_put ν τ), by rw [f0 _ (by decide)]; exact j3, fun j κ a b => ?_, by rw [f0 _ (by decide)]; exact j5, by rw [f0 _ (by decide)]; exact j6, fun j hj => by rw [yPut_c _ _ (by decide) (by decide)]; exact j7 j hj⟩
  rw [yPut_c _ _ (by decide) (by decide)]
  exact j4 j κ a b
theorem yc_stamped_loop {φ : Nat → Nat → Nat} {w : Nat → Nat} {n : Nat} (n12 : n ≤ 12) {ν : wMem} (h28 : ν.1 0 28 = nI n) (Y : yWy (yGa φ w n) ν) (N : Nat) (K : Int64 → wMem → Option (Int64 × wMem)) : ∀ (d M s : Nat), d < M → s + d = 3136 → gX0_stamped_24 N K M (lN (yBlz φ w n s).length) (nI s) ν = K (lN (yBlz φ w n 3136).length) ν := by
  intro d
  induction d with
  | zero =>
    intro M s hM hs
    obtain ⟨M, rfl⟩ : ∃ q, M = q + 1 := ⟨M - 1, by omega⟩
    have : s = 3136 := by omega
    subst this
    show gbX0_stamped_24 N _ _ _ _ _ = _
    unfold gbX0_stamped_24
    show (if nI 3136 ≤ nI 3136 then _ else _) = _
    rw [yIf (xI_le (a := 3136) (b := 3136) (by decide) (by decide)), if_pos (Nat.le_refl _)]
  | succ d ih =>
    intro M s hM hs
    obtain ⟨M, rfl⟩ : ∃ q, M = q + 1 := ⟨M - 1, by omega⟩
    have add1 : nI s + (1 : Int32) = nI (s + 1) := nI_add s 1
    have Ya := (Y n s n12 (by omega)).1
    rw [yGa_i] at Ya
    refine Eq.trans ?_ (ih M (s + 1) (by omega) (by omega))
    show gbX0_stamped_24 N _ _ _ _ _ = _
    unfold gbX0_stamped_24
    show (if nI 3136 ≤ nI s then _ else _) = _
    rw [yIf (xI_le (a := 3136) (by decide) (by omega)), if_neg (by omega), h28, yc_spot, yBd, yG (xI_in (by omega) (by decide)), xI_cl (by omega), Ya, lN_add, yWL, yWL, add1, yBlz_s, List.length_append, List.length_map]
theorem yc_stamped {φ : Nat → Nat → Nat} (O : yOk φ) {n c0 t : Nat} {μ : wMem} (F : yFC φ μ) (hc : 21 < c0) (hn : n ≤ 60) {N : Nat} (hN : 50000 ≤ N) (a1 : Int32) : ∃ ν, fX0_stamped N c0 t n a1 μ = some (if yCsz φ (wAt μ c0 t) n a1 1 = true then lN (yWz φ (yWvz φ (wAt μ c0 t) n) n n 0).length else -2, ν) ∧ yKC μ ν := by
  unfold fX0_stamped
  rw [yc_askz O F hn (by omega)]
  by_cases C : yCsz φ (wAt μ c0 t) n a1 1 = true
  · obtain ⟨ν, j1, j2, j3, j4, _⟩ := yc_throughz O F hc hN C
    have A := yWvz_ok O (yCsz_of C).2.2.2.1
    rw [if_pos C, if_pos C, yBd, if_pos (by decide), j1, yBV]
    refine ⟨ν, ?_, j2⟩
    rw [← (yBlz_W O A.2 n).length_eq]
    exact yc_stamped_loop (yCsz_of C).2.2.2.2 j3 j4 N _ 3136 N 0 (by omega) rfl
  · rw [if_neg C, if_neg C, yBd, if_neg (by decide)]
    exact ⟨μ, rfl, yKC.rfl' μ⟩
theorem yc_dared_loop {φ : Nat → Nat → Nat} {w : Nat → Nat} {n : Nat} (n12 : n ≤ 12) {ν : wMem} (h28 : ν.1 0 28 = nI n) (Y : yWy (yGa φ w n) ν) (N : Nat) (K : Int32 → wMem → Option (Int32 × wMem)) : ∀ (d M s : Nat), d < M → s + d = 3136 → gX0_dared_25 N K M (nI (yMnW (yBlz φ w n s))) (nI s) ν = K (nI (yMnW (yBlz φ w n 3136))) ν := by
  intro d
  induction d with
  | zero =>
    intro M s hM hs
    obtain ⟨M, rfl⟩ : ∃ q, M = q + 1 := ⟨M - 1, by omega⟩
    have : s = 3136 := by omega
    subst this
    show gbX0_dared_25 N _ _ _ _ _ = _
    unfold gbX0_dared_25
    show (if nI 3136 ≤ nI 3136 then _ else _) = _
    rw [yIf (xI_le (a := 3136) (b := 3136) (by decide) (by decide)), if_pos (Nat.le_refl _)]
  | succ d ih =>
    intro M s hM hs
    obtain ⟨M, rfl⟩ : ∃ q, M = q + 1 := ⟨M - 1, by omega⟩
    have add1 : nI s + (1 : Int32) = nI (s + 1) := nI_add s 1
    have Ya := (Y n s n12 (by omega)).2
    rw [yGa_i] at Ya
    have l1 : yMn (yFz φ w n s) ≤ 1000000000 := yMn_le _ _
    have l2 : yMnW (yBlz φ w n s) ≤ 1000000000 := yMnW_le _ _
    have mn : (if nI (yMn (yFz φ w n s)) < nI (yMnW (yBlz φ w n s)) then nI (yMn (yFz φ w n s)) else nI (yMnW (yBlz φ w n s))) = nI (yMnW (yBlz φ w n (s + 1))) := by
      rw [yIf (xI_lt (by omega) (by omega)), yMnW_s]
      by_cases q : yMn (yFz φ w n s) < yMnW (yBlz φ w n s)
      · rw [if_pos q, Nat.min_eq_right (by omega)]
      · rw [if_neg q, Nat.min_eq_left (by omega)]
    refine Eq.trans ?_ (ih M (s + 1) (by omega) (by omega))
    show gbX0_dared_25 N _ _ _ _ _ = _
    unfold gbX0_dared_25
    show (if nI 3136 ≤ nI s then _ else _) = _
    rw [yIf (xI_le (a := 3136) (by decide) (by omega)), if_neg (by omega), h28, yc_spot, yBd, yG (xI_in (by omega) (by decide)), xI_cl (by omega), Ya, mn, yWL, yWL, add1]
theorem yBlz_mem {φ : Nat → Nat → Nat} (O : yOk φ) {w : Nat → Nat} {n : Nat} : ∀ m x, x ∈ yBlz φ w n m → x.2 ≤ 100 * n
  | 0, x, h => absurd h List.not_mem_nil
  | m + 1, x, h => by
    rw [yBlz_s, List.mem_append, List.mem_map] at h
    rcases h with h | ⟨r, hr, rfl⟩
    · exact yBlz_mem O m x h
    · exact yFz_mem O n m r hr
theorem yMnW_lt {W : List (Nat × Nat)} {b : Nat} (h : W ≠ []) (hb : ∀ x, x ∈ W → x.2 ≤ b) : yMnW W ≤ b := by
  cases W with
  | nil => exact absurd rfl h
  | cons x W =>
    have := hb x List.mem_cons_self
    have l : W.foldl (fun a x => min a x.2) (min 1000000000 x.2) ≤ min 1000000000 x.2 := yMnW_le _ _
    show W.foldl (fun a x => min a x.2) (min 1000000000 x.2) ≤ b
    omega
def yDaz (W : List (Nat × Nat)) : Int32 := if W = [] then -1 else nI (yMnW W)
theorem yc_dared {φ : Nat → Nat → Nat} (O : yOk φ) {n c0 t : Nat} {μ : wMem} (F : yFC φ μ) (hc : 21 < c0) (hn : n ≤ 60) {N : Nat} (hN : 50000 ≤ N) (a1 : Int32) : ∃ ν, fX0_dared N c0 t n a1 μ = some (if yCsz φ (wAt μ c0 t) n a1 1 = true then yDaz (yWz φ (yWvz φ (wAt μ c0 t) n) n n 0) else -2, ν) ∧ yKC μ ν := by
  unfold fX0_dared
  rw [yc_askz O F hn (by omega)]
  by_cases C : yCsz φ (wAt μ c0 t) n a1 1 = true
  · obtain ⟨ν, j1, j2, j3, j4, _⟩ := yc_throughz O F hc hN C
    obtain ⟨_, _, _, A0, n12⟩ := yCsz_of C
    have A := yWvz_ok O A0
    rw [if_pos C, if_pos C, yBd, if_pos (by decide), j1, yBV]
    refine ⟨ν, ?_, j2⟩
    refine (yc_dared_loop n12 j3 j4 N _ 3136 N 0 (by omega) rfl).trans ?_
    have P := yBlz_W O A.2 n
    have e := yMnW_p P
    have m := yBlz_mem O (w := yWvz φ (wAt μ c0 t) n) (n := n) 3136
    unfold fX0_orNone yDaz
    rw [← e]
    by_cases q : yWz φ (yWvz φ (wAt μ c0 t) n) n n 0 = []
    · have q2 : yBlz φ (yWvz φ (wAt μ c0 t) n) n 3136 = [] := List.eq_nil_of_length_eq_zero (by rw [P.length_eq, q]; rfl)
      rw [if_pos q, q2]
      rfl
    · have q2 : yBlz φ (yWvz φ (wAt μ c0 t) n) n 3136 ≠ [] := fun z => q (List.eq_nil_of_length_eq_zero (by rw [← P.length_eq, z]; rfl))
      have l := yMnW_lt q2 m
      rw [if_neg q]
      show wBind (if nI _ = nI 1000000000 then _ else _) _ = _
      rw [yIf (xI_eq (b := 1000000000) (by omega) (by decide)), if_neg (by omega)]
      rfl
  · rw [if_neg C, if_neg C, yBd, if_neg (by decide)]
    exact ⟨μ, rfl, yKC.rfl' μ⟩
theorem yc_sure_loop {φ : Nat → Nat → Nat} (O : yOk φ) {w : Nat → Nat} (hw : ∀ j, w j % 10 < 2) {n : Nat} (n12 : n ≤ 12) {ν : wMem} (h28 : ν.1 0 28 = nI n) (Y : yWy (yGa φ w n) ν) (N : Nat) (a2 : Int32) (K : Int32 → wMem → Option (Int32 × wMem)) : ∀ (d M s : Nat), d < M → s + d = 3136 → gX0_sure_28 N a2 K M (yB (decide (yBlz φ w n s ≠ []))) (nI s) ν = K (yB (decide (yBlz φ w n 3136 ≠ []))) ν := by
  intro d
  induction d with
  | zero =>
    intro M s hM hs
    obtain ⟨M, rfl⟩ : ∃ q, M = q + 1 := ⟨M - 1, by omega⟩
    have : s = 3136 := by omega
    subst this
    show gbX0_sure_28 N _ _ _ _ _ _ = _
    unfold gbX0_sure_28
    show (if nI 3136 ≤ nI 3136 then _ else _) = _
    rw [yIf (xI_le (a := 3136) (b := 3136) (by decide) (by decide)), if_pos (Nat.le_refl _)]
  | succ d ih =>
    intro M s hM hs
    obtain ⟨M, rfl⟩ : ∃ q, M = q + 1 := ⟨M - 1, by omega⟩
    have add1 : nI s + (1 : Int32) = nI (s + 1) := nI_add s 1
    have Ya := (Y n s n12 (by omega)).1
    rw [yGa_i] at Ya
    have lb := yFz_len O hw n12 s
    refine Eq.trans ?_ (ih M (s + 1) (by omega) (by omega))
    show gbX0_sure_28 N _ _ _ _ _ _ = _
    unfold gbX0_sure_28
    show (if nI 3136 ≤ nI s then _ else _) = _
    rw [yIf (xI_le (a := 3136) (by decide) (by omega)), if_neg (by omega), yWL, yWL]
    by_cases q : yBlz φ w n s ≠ []
    · rw [yB1 q, yB_t (show yBlz φ w n (s + 1) ≠ [] from fun z => q (List.append_eq_nil_iff.mp (by rw [← yBlz_s]; exact z)).1)]
      show gX0_sure_28 N a2 K M 1 (nI s + 1) ν = _
      rw [add1]
    · rw [yB2 q, h28, yc_spot, yBd, yG (xI_in (by omega) (by decide)), xI_cl (by omega), Ya, yIf (lN_le0 lb)]
      have q' := Decidable.not_not.mp q
      by_cases g : yFz φ w n s = []
      · rw [if_pos (by rw [g]; rfl), yB_f (show ¬ yBlz φ w n (s + 1) ≠ [] from fun z => z (by rw [yBlz_s, q', g]; rfl))]
        show gX0_sure_28 N a2 K M 0 (nI s + 1) ν = _
        rw [add1]
      · rw [if_neg (fun h => g (List.eq_nil_of_length_eq_zero h)), yB_t (show yBlz φ w n (s + 1) ≠ [] from fun z => g (List.map_eq_nil_iff.mp (List.append_eq_nil_iff.mp (by rw [← yBlz_s]; exact z)).2))]
        show gX0_sure_28 N a2 K M 1 (nI s + 1) ν = _
        rw [add1]
def ySuz (P : Nat) (a2 : Int32) (W : List (Nat × Nat)) : Int32 := if W = [] then 0 else if a2 = 0 then nI (yAnW P W) else nI (yOrW W)
theorem yc_isOneOf (a : Int32) {n : Nat} (hn : n < 256) (N : Nat) (μ : wMem) : fX0_isOneOf N a (nI n) μ = some (yB (decide (yIs a n)), μ) := by
  unfold fX0_isOneOf
  rw [yc_isIn a hn, yBd, yG (yB_ok _)]
theorem yc_sure {φ : Nat → Nat → Nat} (O : yOk φ) {n c0 t : Nat} {μ : wMem} (F : yFC φ μ) (hc : 21 < c0) (hn : n ≤ 60) {N : Nat} (hN : 50000 ≤ N) (a1 a2 : Int32) : ∃ ν, fX0_sure N c0 t n a1 a2 μ = some (if yCsz φ (wAt μ c0 t) n a1 (yB (decide (yIs a2 2))) = true then ySuz (φ 0 2) a2 (yWz φ (yWvz φ (wAt μ c0 t) n) n n 0) else -2, ν) ∧ yKC μ ν := by
  unfold fX0_sure
  have e1 : fX0_isOneOf N a2 2 μ = some (yB (decide (yIs a2 2)), μ) := yc_isOneOf a2 (n := 2) (by decide) N μ
  rw [e1, yBd, yc_askz O F hn (by omega)]
  generalize yB (decide (yIs a2 2)) = b
  by_cases C : yCsz φ (wAt μ c0 t) n a1 b = true
  · obtain ⟨ν, j1, j2, j3, j4, j5, j6, _⟩ := yc_throughz O F hc hN C
    obtain ⟨_, _, _, A0, n12⟩ := yCsz_of C
    have A := yWvz_ok O A0
    rw [if_pos C, if_pos C, yBd, if_pos (by decide), j1, yBV]
    refine ⟨ν, ?_, j2⟩
    refine (yc_sure_loop O A.2 n12 j3 j4 N a2 _ 3136 N 0 (by omega) rfl).trans ?_
    have P := yBlz_W O A.2 n
    unfold ySuz
    rw [← yAnW_p P, ← yOrW_p P]
    by_cases q : yWz φ (yWvz φ (wAt μ c0 t) n) n n 0 = []
    · have q2 : yBlz φ (yWvz φ (wAt μ c0 t) n) n 3136 = [] := List.eq_nil_of_length_eq_zero (by rw [P.length_eq, q]; rfl)
      rw [if_pos q, yB2 (fun z => z q2)]
    · have q2 : yBlz φ (yWvz φ (wAt μ c0 t) n) n 3136 ≠ [] := fun z => q (List.eq_nil_of_length_eq_zero (by rw [← P.length_eq, z]; rfl))
      rw [if_neg q, yB1 q2, j5, j6, yAnd_W, yOrr_W]
      split <;> rfl
  · rw [if_neg C, if_neg C, yBd, if_neg (by decide)]
    exact ⟨μ, rfl, yKC.rfl' μ⟩
/-- who was had at the stamp a2 -/
def yHaz (φ : Nat → Nat → Nat) (w : Nat → Nat) (n : Nat) (a2 : Int32) : Int32 := if a2.toInt < n then nI (yHs φ w n a2.toInt.toNat 3136) else 0
def yNg (a2 : Int32) : Int32 := if a2 < 0 then 0 else 1
theorem yc_had {φ : Nat → Nat → Nat} (O : yOk φ) {n c0 t : Nat} {μ : wMem} (F : yFC φ μ) (hc : 21 < c0) (hn : n ≤ 60) {N : Nat} (hN : 50000 ≤ N) (a1 a2 : Int32) : ∃ ν, fX0_had N c0 t n a1 a2 μ = some (if yCsz φ (wAt μ c0 t) n a1 (yNg a2) = true then yHaz φ (yWvz φ (wAt μ c0 t) n) n a2 else -2, ν) ∧ yKC μ ν := by
  have key : ∃ ν, (wBind (fX0_asksStamps N c0 t n a1 (yNg a2) μ) fun v5 μ4 => if 0 ≤ v5 then wBindV (fX0_goesThrough N c0 t n a1 μ4) fun μ8 => if (μ8.1 0 28) ≤ a2 then some (0, μ8) else wG (ok_in a2 12) (some (μ8.1 18 (Int32.toNatClampNeg a2), μ8)) else some (v5, μ4)) = some (if yCsz φ (wAt μ c0 t) n a1 (yNg a2) = true then yHaz φ (yWvz φ (wAt μ c0 t) n) n a2 else -2, ν) ∧ yKC μ ν := by
    rw [yc_askz O F hn (by omega)]
    by_cases C : yCsz φ (wAt μ c0 t) n a1 (yNg a2) = true
    · obtain ⟨ν, j1, j2, j3, j4, j5, j6, j7⟩ := yc_throughz O F hc hN C
      obtain ⟨_, _, A2, A0, n12⟩ := yCsz_of C
      have nn : ¬ a2 < 0 := fun z => A2 (if_pos z)
      have z0 : (0 : Int32).toInt = 0 := by decide
      have nn2 : 0 ≤ a2.toInt := by
        have : ¬ a2.toInt < (0 : Int32).toInt := fun z => nn (Int32.lt_iff_toInt_lt.mpr z)
        omega
      rw [if_pos C, if_pos C, yBd, if_pos (by decide), j1, yBV]
      refine ⟨ν, ?_, j2⟩
      have tn : (nI n).toInt = n := nI_toInt (by omega)
      unfold yHaz
      by_cases q : a2.toInt < n
      · have ea : a2 = nI a2.toInt.toNat := by
          apply Int32.toInt_inj.mp
          rw [nI_toInt (by omega)]
          omega
        have q2 : ¬ nI n ≤ a2 := fun z => by
          have := Int32.le_iff_toInt_le.mp z
          omega
        rw [j3, if_neg q2, if_pos q]
        generalize hp : a2.toInt.toNat = p at *
        have hp12 : p < n := by omega
        rw [ea, yG (xI_in (by omega) (by decide)), xI_cl (by omega), j7 p hp12]
      · have q2 : nI n ≤ a2 := Int32.le_iff_toInt_le.mpr (by omega)
        rw [j3, if_pos q2, if_neg q]
    · rw [if_neg C, if_neg C, yBd, if_neg (by decide)]
      exact ⟨μ, rfl, yKC.rfl' μ⟩
  obtain ⟨ν, k1, k2⟩ := key
  refine ⟨ν, Eq.trans ?_ k1, k2⟩
  unfold fX0_had yNg
  rw [yWL]
  by_cases g : a2 < 0
  · rw [if_pos g, if_pos g]
  · rw [if_neg g, if_neg g]
