set_option maxRecDepth 100000
/-! part 99997: the twin's laysHad, whole -/
def yRz2 (φ : Nat → Nat → Nat) (w : Nat → Nat) (n : Nat) : Nat → Nat → Prop
  | 0, x => x = 0
  | i + 1, x => ∃ y, y < 3136 ∧ yRz2 φ w n i y ∧ yWz φ w n (n - i) y ≠ [] ∧ yLkz φ w n i y x
def yQz (φ : Nat → Nat → Nat) (w : Nat → Nat) (n j q : Nat) : Prop := ∃ y, y < 3136 ∧ yRz2 φ w n j y ∧ yWz φ w n (n - j) y ≠ [] ∧ yPk φ w n j y q
theorem yRz2_ok {φ : Nat → Nat → Nat} (O : yOk φ) {w : Nat → Nat} (hw : ∀ j, w j % 10 < 2) {n : Nat} (n12 : n ≤ 12) {νb : wMem} (Iv : yIv φ w n 0 νb) (H0 : yHolds 0 (yWz φ w n n 0) νb) : ∀ i, i ≤ n → ∀ x, yRz2 φ w n i x → x < 3136 ∧ yVz φ x ∧ (φ 0 3 ≤ 1 → x % 7 = 0) ∧ νb.2 18 (3136 * i + x) ≠ -1
  | 0, _, x, h => by
    have : x = 0 := h
    subst this
    refine ⟨by decide, ⟨Nat.pow_pos (by decide), Nat.zero_le _, Nat.zero_le _⟩, fun _ => rfl, ?_⟩
    show νb.2 18 0 ≠ -1
    rw [H0.1]
    exact lN_m1 (yWz_63 O w n n12 0)
  | i + 1, hi, x, ⟨y, y1, y2, y3, p, hp, c, hc, t, e⟩ => by
    obtain ⟨_, V, hT, dn⟩ := yRz2_ok O hw n12 Iv H0 i (by omega) y y2
    have vT : yVz φ x := by rw [e]; exact yTz_v (yNz_v O hw t.1)
    refine ⟨yVz_lt O vT, vT, fun h => by rw [e]; exact (yTz_d φ _).2.2.1 h, ?_⟩
    rcases Iv i y (Nat.zero_le _) (by omega) y1 with h | h
    · exact absurd h dn
    · rw [e]; exact h.2 (by omega) _ t.1
theorem yWm_keepH {φ : Nat → Nat → Nat} {w : Nat → Nat} {n i : Nat} {μ ν : wMem} (X : yWm φ w n i μ) (k : yKh μ ν) : yWm φ w n i ν := by
  obtain ⟨h1, h2, h3, h4, h5⟩ := X
  exact ⟨h1, h2, by rw [k.1 2 i (by decide) (by decide)]; exact h3, fun j hj => by rw [k.2]; exact h4 j hj, h5⟩
theorem yMsk_0 : yMsk 0 (fun _ => False) := fun q => by simp
theorem ym_had_57 {φ : Nat → Nat → Nat} (O : yOk φ) {w : Nat → Nat} {n i0 : Nat} {νb : wMem} (F : yFM φ 0 νb) (X : yWm φ w n i0 νb) (Iv : yIv φ w n 0 νb) (H0 : yHolds 0 (yWz φ w n n 0) νb) {N : Nat} (hN : 4000 ≤ N) (K : wMem → Option wMem) : ∀ (d M i : Nat) (ν : wMem) (κ1 s m : Nat), d < M → i + d = n → yKh νb ν → (∀ j, j < i → ∃ mk, ν.1 22 j = nI mk ∧ yMsk mk (yQz φ w n j)) → (∀ j, i ≤ j → j < 12 → ν.1 22 j = nI 0) → yRc (fun j x => j ≤ i ∧ yRz2 φ w n j x) ν →
    ∃ ν1 κ2 s1 m1, gX6_laysHad_57 N (nI i0) K M (nI i) (yU ν κ1 s m) = K (yU ν1 κ2 s1 m1) ∧ yKh νb ν1 ∧ ∀ j, j < n → ∃ mk, ν1.1 22 j = nI mk ∧ yMsk mk (yQz φ w n j) := by
  have n12 := X.2.1
  have i04 := X.1
  have hw := X.2.2.2.2
  intro d
  induction d with
  | zero =>
    intro M i ν κ1 s m hM hd kc h1 h2 hS
    obtain ⟨M, rfl⟩ : ∃ q, M = q + 1 := ⟨M - 1, by omega⟩
    have : i = n := by omega
    subst this
    have c2 : (yU ν κ1 s m).1 2 i0 = nI i := (yWm_U (yWm_keepH X kc) κ1 s m).2.2.1
    refine ⟨ν, κ1, s, m, ?_, kc, h1⟩
    show gbX6_laysHad_57 N _ _ _ _ _ = _
    unfold gbX6_laysHad_57
    rw [yG (xI_in i04 (by decide)), xI_cl (by omega), c2, yIf (xI_le (a := i) (b := i) (by omega) (by omega)), if_pos (Nat.le_refl _)]
  | succ d ih =>
    intro M i ν κ1 s m hM hd kc h1 h2 hS
    obtain ⟨M, rfl⟩ : ∃ q, M = q + 1 := ⟨M - 1, by omega⟩
    have hi : i < n := by omega
    have add1 : nI i + (1 : Int32) = nI (i + 1) := nI_add i 1
    have XU := yWm_U (yWm_keepH X kc) κ1 s m
    have c2 : (yU ν κ1 s m).1 2 i0 = nI n := XU.2.2.1
    have cell := XU.cell N hi
    have hk := (X.2.2.2.1 i hi).2
    have wl := X.lt O hi
    have e1 : (lN (w i) / (10 : Int64)).toInt32 = nI (w i / 10) := by
      have : lN (w i) / (10 : Int64) = lN (w i / 10) := lN_div (b := 10) (by omega) (by decide)
      rw [this, lN_i]
    have e2 : (lN (w i) - lN (w i) / (10 : Int64) * (10 : Int64)).toInt32 = nI (w i % 10) := by
      have : lN (w i) - lN (w i) / (10 : Int64) * (10 : Int64) = lN (w i % 10) := lN_rem (b := 10) (by omega) (by decide)
      rw [this, lN_i]
    obtain ⟨ν1, κ2, s1, m1, mk1, k1, k2, k3, k4, k5, k6⟩ := ym_had_95 O F n12 hi hw hk Iv (N := N) (by omega) (nI i0) (yRz2 φ w n i) (fun x _ h => (yRz2_ok O hw n12 Iv H0 i (by omega) x h).2) (fun (μ37 : wMem) => wLet (nI i + 1 : Int32) fun x38 => gX6_laysHad_57 N (nI i0) K M x38 μ37) 3136 N 0 ν κ1 s m 0 (fun _ => False) (fun j x => j ≤ i ∧ yRz2 φ w n j x) (by omega) rfl kc (h2 i (Nat.le_refl _) (by omega)) yMsk_0 hS (fun x _ => ⟨fun h => h.2, fun h => ⟨Nat.le_refl _, h⟩⟩)
    have q1 : yMsk mk1 (yQz φ w n i) := k4.ext fun q => by
      unfold yQz
      simp only [Nat.zero_le, true_and, false_or]
    have r1 : yRc (fun j x => j ≤ i + 1 ∧ yRz2 φ w n j x) ν1 := k5.ext fun j x => by
      constructor
      · rintro (⟨a, b⟩ | ⟨h, y, _, a, b, c, e⟩)
        · exact ⟨by omega, b⟩
        · subst h
          exact ⟨Nat.le_refl _, y, a, b, c, e⟩
      · rintro ⟨a, b⟩
        by_cases g : j = i + 1
        · subst g
          obtain ⟨y, y1, y2, y3, y4⟩ := b
          exact Or.inr ⟨rfl, y, Nat.zero_le _, y1, y2, y3, y4⟩
        · exact Or.inl ⟨by omega, b⟩
    obtain ⟨ν2, κ3, s2, m2, j1, j2, j3⟩ := ih M (i + 1) ν1 κ2 s1 m1 (by omega) (by omega) k2 (fun j hj => by
      by_cases g : j = i
      · subst g; exact ⟨mk1, k3, q1⟩
      · rw [k6 j g]; exact h1 j (by omega)) (fun j a b => by rw [k6 j (by omega)]; exact h2 j (by omega) b) r1
    refine ⟨ν2, κ3, s2, m2, Eq.trans ?_ j1, j2, j3⟩
    show gbX6_laysHad_57 N _ _ _ _ _ = _
    unfold gbX6_laysHad_57
    rw [yG (xI_in i04 (by decide)), xI_cl (by omega), c2, yIf (xI_le (by omega) (by omega)), if_neg (by omega), cell, yBd, e1, yWL, cell, yBd, e2, yWL]
    refine Eq.trans k1 ?_
    rw [yWL, add1]
theorem ym_had_7 (N : Nat) (a1 : Int32) (K : wMem → Option wMem) (κ s m : Nat) : ∀ (d M x : Nat) (ν : wMem), d < M → x + d = 12 → (∀ y, y < x → ν.1 22 y = nI 0) → ∃ ν1, gX6_laysHad_7 N a1 K M (nI x) (yU ν κ s m) = K (yU ν1 κ s m) ∧ (∀ y, y < 12 → ν1.1 22 y = nI 0) ∧ yKh ν ν1 := by
  intro d
  induction d with
  | zero =>
    intro M x ν hM hx C
    obtain ⟨M, rfl⟩ : ∃ q, M = q + 1 := ⟨M - 1, by omega⟩
    have : x = 12 := by omega
    subst this
    refine ⟨ν, ?_, C, fun _ _ _ _ => rfl, rfl⟩
    show gbX6_laysHad_7 N _ _ _ _ _ = _
    unfold gbX6_laysHad_7
    show (if nI 12 ≤ nI 12 then _ else _) = _
    rw [yIf (xI_le (a := 12) (b := 12) (by decide) (by decide)), if_pos (Nat.le_refl _)]
  | succ d ih =>
    intro M x ν hM hx C
    obtain ⟨M, rfl⟩ : ∃ q, M = q + 1 := ⟨M - 1, by omega⟩
    have add1 : nI x + (1 : Int32) = nI (x + 1) := nI_add x 1
    obtain ⟨ν1, j1, j2, j3, j4⟩ := ih M (x + 1) (wSI ν 22 x (0 : Int32)) (by omega) (by omega) (fun y hy => by
      rw [yS_get]
      by_cases q : y = x
      · rw [if_pos ⟨rfl, q⟩]; rfl
      · rw [if_neg (fun z => q z.2)]; exact C y (by omega))
    refine ⟨ν1, Eq.trans ?_ j1, j2, fun c j a b => (j3 c j a b).trans (by rw [yS_get, if_neg (fun z => a z.1)]), j4⟩
    show gbX6_laysHad_7 N _ _ _ _ _ = _
    unfold gbX6_laysHad_7
    show (if nI 12 ≤ nI x then _ else _) = _
    rw [yIf (xI_le (a := 12) (by decide) (by omega)), if_neg (by omega), yG (xI_in (by omega) (by decide)), xI_cl (by omega), yU_sc _ _ _ _ (by decide), yWL, yWL, add1]
theorem ym_had_28 (N : Nat) (a1 : Int32) (K : wMem → Option wMem) (κ s m : Nat) : ∀ (d M x : Nat) (ν : wMem), d < M → x + d = 40768 → (∀ y, y < x → ν.1 23 y = if y = 0 then nI 1 else nI 0) → ∃ ν1, gX6_laysHad_28 N a1 K M (nI x) (yU ν κ s m) = K (yU ν1 κ s m) ∧ (∀ y, y < 40768 → ν1.1 23 y = if y = 0 then nI 1 else nI 0) ∧ yKh ν ν1 ∧ ∀ j, ν1.1 22 j = ν.1 22 j := by
  intro d
  induction d with
  | zero =>
    intro M x ν hM hx C
    obtain ⟨M, rfl⟩ : ∃ q, M = q + 1 := ⟨M - 1, by omega⟩
    have : x = 40768 := by omega
    subst this
    refine ⟨ν, ?_, C, ⟨fun _ _ _ _ => rfl, rfl⟩, fun _ => rfl⟩
    show gbX6_laysHad_28 N _ _ _ _ _ = _
    unfold gbX6_laysHad_28
    show (if nI 40768 ≤ nI 40768 then _ else _) = _
    rw [yIf (xI_le (a := 40768) (b := 40768) (by decide) (by decide)), if_pos (Nat.le_refl _)]
  | succ d ih =>
    intro M x ν hM hx C
    obtain ⟨M, rfl⟩ : ∃ q, M = q + 1 := ⟨M - 1, by omega⟩
    have add1 : nI x + (1 : Int32) = nI (x + 1) := nI_add x 1
    obtain ⟨ν1, j1, j2, j3, j4⟩ := ih M (x + 1) (wSI ν 23 x (if x = 0 then nI 1 else nI 0)) (by omega) (by omega) (fun y hy => by
      rw [yS_get]
      by_cases q : y = x
      · rw [if_pos ⟨rfl, q⟩, q]
      · rw [if_neg (fun z => q z.2)]; exact C y (by omega))
    refine ⟨ν1, Eq.trans ?_ j1, j2, ⟨fun c j a b => (j3.1 c j a b).trans (by rw [yS_get, if_neg (fun z => b z.1)]), j3.2⟩, fun j => (j4 j).trans (by rw [yS_get, if_neg (by omega)])⟩
    show gbX6_laysHad_28 N _ _ _ _ _ = _
    unfold gbX6_laysHad_28
    show (if nI 40768 ≤ nI x then _ else _) = _
    rw [yIf (xI_le (a := 40768) (by decide) (by omega)), if_neg (by omega), yWL, yIf (xI_e0 (by omega))]
    by_cases g : x = 0
    · rw [if_pos g, if_pos g]
      show wG (ok_in (nI x) 40768) (wG (ok_b (1 : Int32)) _) = _
      rw [yG (xI_in (by omega) (by decide)), yG (by decide), xI_cl (by omega), yU_sc _ _ _ _ (by decide), yWL, yWL, add1]
      rfl
    · rw [if_neg g, if_neg g]
      show wG (ok_in (nI x) 40768) (wG (ok_b (0 : Int32)) _) = _
      rw [yG (xI_in (by omega) (by decide)), yG (by decide), xI_cl (by omega), yU_sc _ _ _ _ (by decide), yWL, yWL, add1]
      rfl
