set_option maxRecDepth 100000
/-! part 99993: the twin's answers about stamps: stamped, dared, sure -/
theorem ym_layz_loop (N : Nat) (a1 : Int32) (K : wMem → Option wMem) : ∀ (d M x : Nat) (ν : wMem), d < M → x + d = 40768 → (∀ y, y < x → ν.2 18 y = -1) → ∃ ν1, gX6_laysStamps_2 N a1 K M (nI x) ν = K ν1 ∧ (∀ y, y < 40768 → ν1.2 18 y = -1) ∧ yKqz ν ν1 := by
  intro d
  induction d with
  | zero =>
    intro M x ν hM hx C
    obtain ⟨M, rfl⟩ : ∃ q, M = q + 1 := ⟨M - 1, by omega⟩
    have : x = 40768 := by omega
    subst this
    refine ⟨ν, ?_, C, yKqz.rfl' _⟩
    show gbX6_laysStamps_2 N _ _ _ _ _ = _
    unfold gbX6_laysStamps_2
    show (if nI 40768 ≤ nI 40768 then _ else _) = _
    rw [yIf (xI_le (a := 40768) (b := 40768) (by decide) (by decide)), if_pos (Nat.le_refl _)]
  | succ d ih =>
    intro M x ν hM hx C
    obtain ⟨M, rfl⟩ : ∃ q, M = q + 1 := ⟨M - 1, by omega⟩
    have add1 : nI x + (1 : Int32) = nI (x + 1) := nI_add x 1
    obtain ⟨ν1, j1, j2, j3⟩ := ih M (x + 1) (wSL ν 18 x (-1 : Int64)) (by omega) (by omega) (fun y hy => by
      rw [yL_get]
      by_cases q : y = x
      · rw [if_pos ⟨rfl, q⟩]
      · rw [if_neg (fun z => q z.2)]; exact C y (by omega))
    refine ⟨ν1, Eq.trans ?_ j1, j2, (yKqz_L (yKqz.rfl' ν) x (-1)).trans j3⟩
    show gbX6_laysStamps_2 N _ _ _ _ _ = _
    unfold gbX6_laysStamps_2
    show (if nI 40768 ≤ nI x then _ else _) = _
    rw [yIf (xI_le (a := 40768) (by decide) (by omega)), if_neg (by omega), yG (xI_in (by omega) (by decide)), yWL, yWL, xI_cl (by omega), add1]
theorem ym_layz {φ : Nat → Nat → Nat} (O : yOk φ) {w : Nat → Nat} {n i0 : Nat} {μ0 : wMem} (F : yFM φ 0 μ0) (X : yWm φ w n i0 μ0) {N : Nat} (hN : 50000 ≤ N) : ∃ ν s m, fX6_laysStamps N (nI i0) μ0 = some (yU ν 0 s m) ∧ yKqz μ0 ν ∧ yIv φ w n 0 ν ∧ yHolds 0 (yWz φ w n n 0) ν := by
  have n12 := X.2.1
  unfold fX6_laysStamps
  generalize hK : (fun (μ5 : wMem) => wBindV (fX6_begin N 0 μ5) fun μ7 => _) = K
  obtain ⟨ν1, j1, j2, j3⟩ := ym_layz_loop N (nI i0) K 40768 N 0 μ0 (by omega) rfl (fun y hy => absurd hy (by omega))
  obtain ⟨ν2, s, m, k1, k2, k3, k4, _⟩ := ym_completes O F X (N := N) (by omega) n 16 0 (Nat.sub_zero n) (Nat.zero_le n) (by omega) 0 0 0 ν1 ⟨Nat.pow_pos (by decide), Nat.zero_le _, Nat.zero_le _⟩ (fun _ => rfl) j3 (fun j κ _ b e => Or.inl (j2 _ (by omega)))
  rw [Nat.sub_zero] at k4
  refine ⟨ν2, s, m, ?_, j3.trans k2, k3, k4⟩
  refine Eq.trans j1 ?_
  rw [← hK]
  have b0 : fX6_begin N 0 ν1 = some (yU ν1 0 0 0) := ym_begin ν1 (s := 0) (by decide) N
  show wBindV (fX6_begin N 0 ν1) _ = _
  rw [b0, yBV]
  have k1' : fX6_completes N 16 (nI i0) 0 (yU ν1 0 0 0) = some (nI (3136 * 0 + 0), yU ν2 0 s m) := k1
  rw [k1', yBd]
theorem yWm_sl {φ : Nat → Nat → Nat} {c0 t n i : Nat} {μ μm : wMem} {a1 a2 : Int32} (O : yOk φ) (X : ySl c0 t n i μ μm) (C : yCsz φ (wAt μ c0 t) n a1 a2 = true) : yWm φ (yWvz φ (wAt μ c0 t) n) n i μm := by
  obtain ⟨h1, h2, h3, h4, h5, h6⟩ := X
  obtain ⟨_, _, _, A, n12⟩ := yCsz_of C
  have h22 := O.posts
  refine ⟨h2, n12, h5, fun j hj => ?_, (yWvz_ok O A).2⟩
  refine ⟨?_, ((yWvz_ok O A).1 j hj).2⟩
  have h := yAvz_of n 0 A j (Nat.zero_le _) (by omega)
  obtain ⟨a, b, c⟩ := ySvz_of h
  rw [← h4 j hj]
  unfold yWvz
  rw [if_pos ⟨hj, h⟩]
  exact (yI64_l (b := 10 * φ 0 3 + 1) (by omega) (by omega)).2
/-- the twin after a call about stamps -/
theorem yKM_z {μ ν : wMem} (k : yKqz (wSI μ 0 0 (0 : Int32)) ν) (κ s m : Nat) : yKM μ (yU ν κ s m) := fun c j a b d => by
  refine ⟨?_, (k.2 c j (by omega)).trans rfl⟩
  have e : (yU ν κ s m).1 c j = ν.1 c j := by
    by_cases q : c = 0
    · subst q
      exact yTut_o _ _ (by have := a rfl; omega)
    · exact yTut_c _ _ q _
  rw [e, k.1 c j (by omega) (by omega) (by omega), yS_get, if_neg (fun z => by have := a z.1; omega)]
theorem yKM_0z (μ : wMem) : yKM μ (wSI μ 0 0 (0 : Int32)) := fun c j a b d => ⟨by rw [yS_get, if_neg (fun z => by have := a z.1; omega)], rfl⟩
theorem ySl_0 {c0 t n i : Nat} {μ μm : wMem} (X : ySl c0 t n i μ μm) : ySl c0 t n i μ (wSI μm 0 0 (0 : Int32)) := by
  obtain ⟨h1, h2, h3, h4, h5, h6⟩ := X
  exact ⟨h1, h2, h3, h4, by rw [yS_get, if_neg (by omega)]; exact h5, by rw [yS_get, if_neg (by omega)]; exact h6⟩
theorem ym_stamped {φ : Nat → Nat → Nat} (O : yOk φ) {c0 t n i : Nat} {μ μm : wMem} (F : yFM φ 0 μm) (X : ySl c0 t n i μ μm) {N : Nat} (hN : 50000 ≤ N) : ∃ ν, fX6_stamped N (nI i) μm = some (if yCsz φ (wAt μ c0 t) n (nI i) 1 = true then lN (yWz φ (yWvz φ (wAt μ c0 t) n) n n 0).length else -2, ν) ∧ yKM μm ν := by
  have F1 : yFM φ 0 (wSI μm 0 0 (0 : Int32)) := yFM_of F fun c h1 _ j => by rw [yS_get, if_neg (by omega)]
  have X1 := ySl_0 X
  unfold fX6_stamped
  rw [yWL, ym_whyst O F1 (by omega) X1, yBd]
  by_cases C : yCsz φ (wAt μ c0 t) n (nI i) 1 = true
  · obtain ⟨ν, s, m, j1, j2, j3, j4⟩ := ym_layz O F1 (yWm_sl O X1 C) hN
    rw [if_pos C, if_pos C, if_pos rfl, j1, yBV, yG (by decide)]
    exact ⟨_, by rw [show (yU ν 0 s m).2 18 (Int32.toNatClampNeg (0 : Int32)) = _ from j4.1], yKM_z j2 _ _ _⟩
  · rw [if_neg C, if_neg C, if_neg (by decide)]
    exact ⟨_, rfl, yKM_0z _⟩
/-- all that is to come is by scenes that can be -/
theorem yWz_mem {φ : Nat → Nat → Nat} (O : yOk φ) {w : Nat → Nat} (hw : ∀ j, w j % 10 < 2) (n : Nat) : ∀ x, x ∈ yWz φ w n n 0 → x.1 < 2 ^ φ 0 2 ∧ x.2 ≤ 100 * n := fun x hx => by
  have hx2 : x ∈ yBlz φ w n 3136 := (yBlz_W O hw n).mem_iff.mpr hx
  refine ⟨?_, yBlz_mem O 3136 x hx2⟩
  have st : ∀ m, x ∈ yBlz φ w n m → x.1 < 2 ^ φ 0 2 := fun m => by
    induction m with
    | zero => intro h; exact absurd h List.not_mem_nil
    | succ m ih =>
      intro h
      rw [yBlz_s, List.mem_append, List.mem_map] at h
      rcases h with h | ⟨r, hr, rfl⟩
      · exact ih h
      · exact (yFz_v O hw n m (fun z => by rw [z] at hr; exact List.not_mem_nil hr)).1
  exact st 3136 hx2
theorem yMnT_W {W : List (Nat × Nat)} (h : W ≠ []) (b : ∀ x, x ∈ W → x.2 ≤ 1000000000) : yMnT 2000000000 W = yMnW W := by
  cases W with
  | nil => exact absurd rfl h
  | cons x W =>
    have := b x List.mem_cons_self
    show W.foldl (fun a x => min a x.2) (min 2000000000 x.2) = W.foldl (fun a x => min a x.2) (min 1000000000 x.2)
    rw [Nat.min_eq_right (by omega), Nat.min_eq_right this]
theorem yAnT_W {W : List (Nat × Nat)} (h : W ≠ []) {P : Nat} (hP : P ≤ 6) (b : ∀ x, x ∈ W → x.1 < 2 ^ P) : yAnT 63 W = yAnW P W := by
  cases W with
  | nil => exact absurd rfl h
  | cons x W =>
    have := b x List.mem_cons_self
    have k : ∀ P, P ≤ 6 → ∀ o, o < 64 → o < 2 ^ P → 63 &&& o = (2 ^ P - 1) &&& o := by decide +kernel
    have l : 2 ^ P ≤ 64 := yPow64 hP
    show W.foldl (fun a x => a &&& x.1) (63 &&& x.1) = W.foldl (fun a x => a &&& x.1) ((2 ^ P - 1) &&& x.1)
    rw [k P hP x.1 (by omega) this]
theorem ym_dared {φ : Nat → Nat → Nat} (O : yOk φ) {c0 t n i : Nat} {μ μm : wMem} (F : yFM φ 0 μm) (X : ySl c0 t n i μ μm) {N : Nat} (hN : 50000 ≤ N) : ∃ ν, fX6_dared N (nI i) μm = some (if yCsz φ (wAt μ c0 t) n (nI i) 1 = true then yDaz (yWz φ (yWvz φ (wAt μ c0 t) n) n n 0) else -2, ν) ∧ yKM μm ν := by
  have F1 : yFM φ 0 (wSI μm 0 0 (0 : Int32)) := yFM_of F fun c h1 _ j => by rw [yS_get, if_neg (by omega)]
  have X1 := ySl_0 X
  unfold fX6_dared
  rw [yWL, ym_whyst O F1 (by omega) X1, yBd]
  by_cases C : yCsz φ (wAt μ c0 t) n (nI i) 1 = true
  · obtain ⟨ν, s, m, j1, j2, j3, j4⟩ := ym_layz O F1 (yWm_sl O X1 C) hN
    obtain ⟨_, _, _, A, n12⟩ := yCsz_of C
    have hw := (yWvz_ok O A).2
    have l63 := yWz_63 O (yWvz φ (wAt μ c0 t) n) n (r := n) n12 0
    have mem := yWz_mem O hw n
    have a18 : (yU ν 0 s m).2 18 (Int32.toNatClampNeg (0 : Int32)) = _ := j4.1
    have a19 : (yU ν 0 s m).1 19 (Int32.toNatClampNeg (0 : Int32)) = _ := (yTut_c _ _ (by decide) _).trans j4.2.1
    rw [if_pos C, if_pos C, if_pos rfl, j1, yBV, yG (by decide), a18, yIf (lN_z l63)]
    unfold yDaz
    by_cases q : yWz φ (yWvz φ (wAt μ c0 t) n) n n 0 = []
    · rw [if_pos (by rw [q]; rfl), if_pos q]
      exact ⟨_, rfl, yKM_z j2 _ _ _⟩
    · rw [if_neg (fun z => q (List.eq_nil_of_length_eq_zero z)), if_neg q, yG (by decide), a19, yMnT_W q (fun x hx => by have := (mem x hx).2; omega)]
      exact ⟨_, rfl, yKM_z j2 _ _ _⟩
  · rw [if_neg C, if_neg C, if_neg (by decide)]
    exact ⟨_, rfl, yKM_0z _⟩
theorem ym_sure {φ : Nat → Nat → Nat} (O : yOk φ) {c0 t n i : Nat} {μ μm : wMem} (F : yFM φ 0 μm) (X : ySl c0 t n i μ μm) {N : Nat} (hN : 50000 ≤ N) (a2 : Int32) : ∃ ν, fX6_sure N (nI i) a2 μm = some (if yCsz φ (wAt μ c0 t) n (nI i) (yB (decide (yIs a2 2))) = true then ySuz (φ 0 2) a2 (yWz φ (yWvz φ (wAt μ c0 t) n) n n 0) else -2, ν) ∧ yKM μm ν := by
  have F1 : yFM φ 0 (wSI μm 0 0 (0 : Int32)) := yFM_of F fun c h1 _ j => by rw [yS_get, if_neg (by omega)]
  have X1 := ySl_0 X
  have e1 : fX6_in N a2.toInt64 0 1 (wSI μm 0 0 (0 : Int32)) = some (yB (decide (yIs a2 2)), wSI μm 0 0 (0 : Int32)) := ym_in a2 (n := 2) (by decide) N _
  unfold fX6_sure
  rw [yWL, e1, yBd, yWL]
  by_cases g : yIs a2 2
  · rw [yB1 g, ym_whyst O F1 (by omega) X1, yBd, yB_t g]
    by_cases C : yCsz φ (wAt μ c0 t) n (nI i) 1 = true
    · obtain ⟨ν, s, m, j1, j2, j3, j4⟩ := ym_layz O F1 (yWm_sl O X1 C) hN
      obtain ⟨_, _, _, A, n12⟩ := yCsz_of C
      have hw := (yWvz_ok O A).2
      have l63 := yWz_63 O (yWvz φ (wAt μ c0 t) n) n (r := n) n12 0
      have mem := yWz_mem O hw n
      have a18 : (yU ν 0 s m).2 18 (Int32.toNatClampNeg (0 : Int32)) = _ := j4.1
      have a20 : (yU ν 0 s m).1 20 (Int32.toNatClampNeg (0 : Int32)) = _ := (yTut_c _ _ (by decide) _).trans j4.2.2.1
      have a21 : (yU ν 0 s m).1 21 (Int32.toNatClampNeg (0 : Int32)) = _ := (yTut_c _ _ (by decide) _).trans j4.2.2.2
      rw [if_pos C, if_pos C]
      dsimp only
      rw [if_pos rfl, j1, yBV, yG (by decide), a18, yIf (lN_z l63)]
      unfold ySuz
      by_cases q : yWz φ (yWvz φ (wAt μ c0 t) n) n n 0 = []
      · rw [if_pos (by rw [q]; rfl), if_pos q]
        exact ⟨_, rfl, yKM_z j2 _ _ _⟩
      · rw [if_neg (fun z => q (List.eq_nil_of_length_eq_zero z)), if_neg q]
        by_cases g2 : a2 = 0
        · rw [if_pos g2, if_pos g2, yG (by decide), a20, yAnT_W q O.persons (fun x hx => (mem x hx).1)]
          exact ⟨_, rfl, yKM_z j2 _ _ _⟩
        · rw [if_neg g2, if_neg g2, yG (by decide), a21]
          exact ⟨_, rfl, yKM_z j2 _ _ _⟩
    · rw [if_neg C, if_neg C]
      dsimp only
      rw [if_neg (by decide)]
      exact ⟨_, rfl, yKM_0z _⟩
  · rw [yB2 g, yB_f g]
    have C : ¬ yCsz φ (wAt μ c0 t) n (nI i) 0 = true := fun z => (yCsz_of z).2.2.1 rfl
    rw [if_neg C]
    exact ⟨_, rfl, yKM_0z _⟩
