set_option maxRecDepth 100000
/-! part 999693: never, states; counting -/
noncomputable def yD (p : Prop) : Bool := @decide p (Classical.propDecidable p)
theorem yD_iff {p : Prop} : yD p = true ↔ p := by
  unfold yD
  exact @decide_eq_true_iff p (Classical.propDecidable p)
theorem yD_not {p : Prop} (h : ¬ p) : yD p = false := by
  rw [Bool.eq_false_iff]
  exact fun q => h (yD_iff.mp q)
theorem yD_eq {p q : Prop} (h : p ↔ q) : yD p = yD q := by
  rw [Bool.eq_iff_iff, yD_iff, yD_iff]
  exact h
/-- counting along a list of different states is counting numbers -/
theorem yCard {g : Nat → Nat} {P : Nat → Prop} {m : Nat} : ∀ n, (∀ i, i < n → g i < m) → (∀ i j, i < n → j < n → g i = g j → i = j) → yCn (fun i => yD (P i)) n = yCn (fun s => yD (∃ i, i < n ∧ g i = s ∧ P i)) m := by
  intro n
  induction n with
  | zero =>
    intro _ _
    have : ∀ m, yCn (fun s => yD (∃ i, i < 0 ∧ g i = s ∧ P i)) m = 0 := by
      intro m
      induction m with
      | zero => rfl
      | succ m ih =>
        show yCn _ m + (if yD _ = true then 1 else 0) = 0
        rw [ih, yD_not (fun ⟨i, hi, _⟩ => absurd hi (by omega))]
        rfl
    rw [this]
    rfl
  | succ n ih =>
    intro h1 h2
    have e := ih (fun i hi => h1 i (by omega)) (fun i j hi hj => h2 i j (by omega) (by omega))
    show yCn (fun i => yD (P i)) n + (if yD (P n) = true then 1 else 0) = _
    by_cases q : P n
    · rw [yD_iff.mpr q, if_pos rfl, e]
      refine (yCn_one (i := g n) (yD_not ?_) (yD_iff.mpr ⟨n, by omega, rfl, q⟩) (fun j hj => yD_eq ⟨?_, ?_⟩) m (h1 n (by omega))).symm
      · rintro ⟨i, hi, e2, _⟩
        have := h2 i n (by omega) (by omega) e2
        omega
      · rintro ⟨i, hi, e2, p⟩
        by_cases z : i = n
        · rw [z] at e2; exact absurd e2.symm hj
        · exact ⟨i, by omega, e2, p⟩
      · rintro ⟨i, hi, e2, p⟩
        exact ⟨i, by omega, e2, p⟩
    · rw [yD_not q, if_neg (by decide), Nat.add_zero, e]
      refine yCn_eq m fun s _ => yD_eq ⟨?_, ?_⟩
      · rintro ⟨i, hi, e2, p⟩
        exact ⟨i, by omega, e2, p⟩
      · rintro ⟨i, hi, e2, p⟩
        by_cases z : i = n
        · rw [z] at p; exact absurd p q
        · exact ⟨i, by omega, e2, p⟩
theorem yCn_all : ∀ n, yCn (fun _ => yD True) n = n
  | 0 => rfl
  | n + 1 => by
    show yCn (fun _ => yD True) n + (if yD True = true then 1 else 0) = n + 1
    rw [yCn_all n, yD_iff.mpr trivial]
    rfl
/-- both sides list the same states, so they count the same -/
theorem yCount2 {φ : Nat → Nat → Nat} (O : yOk φ) {b n n2 : Nat} {σ : ySt} {f : Nat → Nat} {u u2 : Nat → ySt} (Z : ySet φ b σ n f u) (A : yAll φ σ n2 u2) (P : ySt → Prop) : yCn (fun i => yD (P (u i))) n = yCn (fun i => yD (P (u2 i))) n2 := by
  rw [yCard (g := fun i => yNum (u i)) (P := fun i => P (u i)) (m := 100352) n (fun i hi => yNum_lt O (Z.1 i hi).1) (fun i j hi hj e => Z.2.2.1 i j hi hj (yNum_inj O (Z.1 i hi).1 (Z.1 j hj).1 e)),
    yCard (g := fun i => yNum (u2 i)) (P := fun i => P (u2 i)) (m := 100352) n2 (fun i hi => yNum_lt O (A.1 i hi).1) (fun i j hi hj e => A.2.1 i j hi hj (yNum_inj O (A.1 i hi).1 (A.1 j hj).1 e))]
  refine yCn_eq _ fun s _ => yD_eq ⟨?_, ?_⟩
  · rintro ⟨i, hi, e, p⟩
    obtain ⟨l, r, _⟩ := (Z.1 i hi).2.1
    obtain ⟨j, hj, e2⟩ := A.2.2 _ l r
    exact ⟨j, hj, by rw [e2]; exact e, by rw [e2]; exact p⟩
  · rintro ⟨i, hi, e, p⟩
    obtain ⟨l, r⟩ := (A.1 i hi).2.2
    obtain ⟨j, hj, e2⟩ := Z.2.1 _ _ ⟨l, r, rfl⟩
    exact ⟨j, hj, by rw [e2]; exact e, by rw [e2]; exact p⟩
theorem yLen2 {φ : Nat → Nat → Nat} (O : yOk φ) {b n n2 : Nat} {σ : ySt} {f : Nat → Nat} {u u2 : Nat → ySt} (Z : ySet φ b σ n f u) (A : yAll φ σ n2 u2) : n = n2 := by
  have := yCount2 O Z A (fun _ => True)
  rwa [yCn_all, yCn_all] at this
theorem yTN_first (φ : Nat → Nat → Nat) : yTN φ yFirst = 0 := by
  unfold yTN yT yTn
  rw [ySt.of_ov, ySt.of_sd, ySt.of_z0, ySt.of_z1, ySt.of_mk]
  show ((0 * 2 + 0) * 49 + 0 * 7 + (if φ 0 3 ≤ 1 then 0 else 0)) * 15 + (1 - 1) = 0
  split <;> rfl
theorem ym_explores0 {φ : Nat → Nat → Nat} {μ : wMem} (O : yOk φ) (F : yFM φ 0 μ) (Q : ySn μ) {N : Nat} (hN : 200000 ≤ N) : ∃ n u ν τ, fX6_explores N 0 μ = some (yTut ν τ) ∧ yAll φ yFirst n u ∧ n ≤ 94080 ∧ yXm φ n u ν ∧ yKx μ ν ∧ ySn ν := by
  obtain ⟨ρ, hρ⟩ := yTut_raw μ
  obtain ⟨n, u, ν, τ, e, r⟩ := ym_explores O hN (τ0 := ρ) (yFirst_ok φ) (yNo_first φ) F Q
  rw [hρ, yTN_first] at e
  exact ⟨n, u, ν, τ, e, r⟩
theorem yq_states {φ : Nat → Nat → Nat} {μ μm : wMem} (O : yOk φ) (hl : φ 0 1 ≠ 0 → 0 < φ 0 0) (F : yFC φ μ) (M : yFM φ 0 μm) (Q : ySn μm) {N : Nat} (hN : 200000000000000 ≤ N) : yBt3 (fX0_states N) (fX6_states N) μ μm := by
  have M1 := (yKM_0 μm 0).fm M
  by_cases g : φ 0 1 ≠ 0
  · obtain ⟨n, f, u, ν, a1, a2, Z, C⟩ := yc_settled O (hl g) (b := 0) (by decide) (N := N) (by omega) (yFirst_ok φ) (yFew_0 O (yFirst_ok φ) (Or.inl rfl)) F
    obtain ⟨n2, u2, ν2, τ2, e2, A, hn2, X, k2, Q2⟩ := ym_explores0 O M1 (ySn_km Q (yKM_0 _ _)) (N := N) (by omega)
    have en := yLen2 O Z A
    subst en
    refine yBt3.mk' (v := nI n) (μ1 := ν) (μm1 := yTut ν2 τ2) ?_ ?_ a2.kc (((yKM_0 _ _).kn.trans k2.kn).trans (yKM_put _ _).kn) (ySn_km Q2 (yKM_put _ _))
    · unfold fX0_states fX0_settlesAll
      rw [yc_isFamily O F, yBd, yB1 g, yc_first, yBV]
      refine Eq.trans (congrArg (fun z => wBindV (wBindV z _) _) a1) ?_
      rw [yBV, yBV, C.2.2]
    · unfold fX6_states wLet
      dsimp only
      rw [ym_isFamily O M1, yBd, yB1 g, e2, yBV, yTut_o _ _ (by omega), X.1]
  · refine yBt3.mk' (v := -2) (μ1 := μ) (μm1 := wSI μm 0 0 0) ?_ ?_ (yKC.rfl' _) (yKM_0 _ _).kn (ySn_km Q (yKM_0 _ _))
    · unfold fX0_states
      rw [yc_isFamily O F, yBd, yB2 g]
    · unfold fX6_states wLet
      dsimp only
      rw [ym_isFamily O M1, yBd, yB2 g]
theorem yNv_and : ∀ x, x < 64 → ∀ o, o < 64 → nI x &&& (nI o ^^^ (-1 : Int32)) = nI (x &&& (63 ^^^ o)) := by decide +kernel
theorem yNv_bit : ∀ x, x < 64 → ∀ o, o < 64 → ∀ p, p < 6 → (x &&& (63 ^^^ o)).testBit p = (x.testBit p && !o.testBit p) := by decide +kernel
theorem yNv_ext : ∀ x, x < 64 → ∀ y, y < 64 → (∀ p, p < 6 → x.testBit p = y.testBit p) → x = y := by decide +kernel
theorem yNv_lt {x o : Nat} (h : x < 64) : x &&& (63 ^^^ o) < 64 := Nat.lt_of_le_of_lt Nat.and_le_left h
/-- those in x that are over in none of the states from i on -/
def yNvS (n : Nat) (u : Nat → ySt) (i x y : Nat) : Prop := y < 64 ∧ ∀ p, p < 6 → (y.testBit p = true ↔ x.testBit p = true ∧ ∀ j, i ≤ j → j < n → (u j).ov.testBit p = false)
theorem yNvS_step {n : Nat} {u : Nat → ySt} {i x y : Nat} (hi : i < n) (hx : x < 64) (ho : (u i).ov < 64) (h : yNvS n u (i + 1) (x &&& (63 ^^^ (u i).ov)) y) : yNvS n u i x y := by
  refine ⟨h.1, fun p hp => ?_⟩
  rw [h.2 p hp, yNv_bit x hx _ ho p hp, Bool.and_eq_true, Bool.not_eq_true']
  constructor
  · rintro ⟨⟨a, b⟩, c⟩
    refine ⟨a, fun j h1 h2 => ?_⟩
    by_cases q : j = i
    · rw [q]; exact b
    · exact c j (by omega) h2
  · rintro ⟨a, b⟩
    exact ⟨⟨a, b i (Nat.le_refl _) hi⟩, fun j h1 h2 => b j (by omega) h2⟩
theorem yc_never_loop {φ : Nat → Nat → Nat} (O : yOk φ) (N : Nat) {b n : Nat} {σ : ySt} {f : Nat → Nat} {u : Nat → ySt} (Z : ySet φ b σ n f u) (K : Int32 → wMem → Option (Int32 × wMem)) : ∀ (d M i x : Nat) (ν : wMem), i + d = n → d < M → x < 64 → yFC φ ν → ySeM n f u ν →
    ∃ y ν1, yKt ν ν1 ∧ gX0_never_29 N K M (nI x) (nI i) ν = K (nI y) ν1 ∧ yNvS n u i x y := by
  intro d
  induction d with
  | zero =>
    intro M i x ν hd hM hx F C
    obtain ⟨M, rfl⟩ : ∃ q, M = q + 1 := ⟨M - 1, by omega⟩
    have : i = n := by omega
    subst this
    refine ⟨x, ν, yKt.rfl' _, ?_, hx, fun p hp => ⟨fun h => ⟨h, fun j h1 h2 => by omega⟩, fun h => h.1⟩⟩
    show gbX0_never_29 N _ _ _ _ _ = _
    unfold gbX0_never_29
    rw [C.2.2, if_pos Int32.le_rfl]
  | succ d ih =>
    intro M i x ν hd hM hx F C
    obtain ⟨M, rfl⟩ : ∃ q, M = q + 1 := ⟨M - 1, by omega⟩
    have hn := C.1
    have hi' : i < n := by omega
    have e : (nI n ≤ nI i) = (n ≤ i) := xI_le (by omega) (by omega)
    obtain ⟨U, w, wl, wb⟩ := Z.1 i hi'
    have lt := yNum_lt O U
    have ov := yOv64 O U
    obtain ⟨c13, c10⟩ := C.2.1 i hi'
    have un : yUn (yNum (u i)) = u i := yUn_num O U
    have add1 : nI i + (1 : Int32) = nI (i + 1) := nI_add i 1
    obtain ⟨y, ν1, k1, e1, s1⟩ := ih M (i + 1) (x &&& (63 ^^^ (u i).ov)) (yPut ν (u i)) (by omega) (by omega) (yNv_lt hx) (yFC_put F _) ((yKt_put ν (u i)).seM C)
    refine ⟨y, ν1, (yKt_put _ _).trans k1, ?_, yNvS_step hi' hx ov s1⟩
    show gbX0_never_29 N _ _ _ _ _ = _
    unfold gbX0_never_29 wLet
    dsimp only
    rw [C.2.2, yIf e, if_neg (by omega), yG (xI_in (by omega) (by decide)), xI_cl (by omega), c13, yc_be ν (s := yNum (u i)) (by omega) N, yBV, un, yPut_5, yNv_and x hx _ ov, add1]
    exact e1
theorem yTN_ov {φ : Nat → Nat → Nat} {σ : ySt} (O : yOk φ) (S : ySok φ σ) : yTN φ σ / 1470 = σ.ov := by
  have := congrArg ySt.ov (yTu_num O S)
  exact this
theorem ym_never_loop {φ : Nat → Nat → Nat} (O : yOk φ) (N : Nat) {n : Nat} {σ : ySt} {u : Nat → ySt} (A : yAll φ σ n u) (hn : n ≤ 94080) {ν : wMem} (X : yXm φ n u ν) (K : Int32 → wMem → Option (Int32 × wMem)) : ∀ (d M i x : Nat), i + d = n → d < M → x < 64 →
    ∃ y, gX6_never_40 N K M (nI x) (nI i) ν = K (nI y) ν ∧ yNvS n u i x y := by
  intro d
  induction d with
  | zero =>
    intro M i x hd hM hx
    obtain ⟨M, rfl⟩ : ∃ q, M = q + 1 := ⟨M - 1, by omega⟩
    have : i = n := by omega
    subst this
    refine ⟨x, ?_, hx, fun p hp => ⟨fun h => ⟨h, fun j h1 h2 => by omega⟩, fun h => h.1⟩⟩
    show gbX6_never_40 N _ _ _ _ _ = _
    unfold gbX6_never_40
    rw [X.1, if_pos Int32.le_rfl]
  | succ d ih =>
    intro M i x hd hM hx
    obtain ⟨M, rfl⟩ : ∃ q, M = q + 1 := ⟨M - 1, by omega⟩
    have hi' : i < n := by omega
    have e : (nI n ≤ nI i) = (n ≤ i) := xI_le (by omega) (by omega)
    have U := (A.1 i hi').1
    have lt := yTN_lt O U
    have ov := yOv64 O U
    have add1 : nI i + (1 : Int32) = nI (i + 1) := nI_add i 1
    have dv : nI (yTN φ (u i)) / (1470 : Int32) = nI (u i).ov := by
      have : nI (yTN φ (u i)) / (1470 : Int32) = nI (yTN φ (u i) / 1470) := xI_div (by omega) (b := 1470) (by decide)
      rw [this, yTN_ov O U]
    obtain ⟨y, e1, s1⟩ := ih M (i + 1) (x &&& (63 ^^^ (u i).ov)) (by omega) (by omega) (yNv_lt hx)
    refine ⟨y, ?_, yNvS_step hi' hx ov s1⟩
    show gbX6_never_40 N _ _ _ _ _ = _
    unfold gbX6_never_40 wLet
    dsimp only
    rw [X.1, yIf e, if_neg (by omega), yG (xI_in (by omega) (by decide)), xI_cl (by omega), (X.2.1 i hi').1, dv, yNv_and x hx _ ov, add1]
    exact e1
theorem yAll_m1 : ∀ p, p ≤ 6 → nI (2 ^ p) - (1 : Int32) = nI (2 ^ p - 1) := by decide +kernel
theorem yq_never {φ : Nat → Nat → Nat} {μ μm : wMem} (O : yOk φ) (hl : φ 0 1 ≠ 0 → 0 < φ 0 0) (G : yGo φ) (F : yFC φ μ) (M : yFM φ 0 μm) (Q : ySn μm) {N : Nat} (hN : 200000000000000 ≤ N) : yBt3 (fX0_never N) (fX6_never N) μ μm := by
  have h6 := O.persons
  have h64 := yPow64 O.persons
  have M1 := (yKM_0 μm 0).fm M
  by_cases g : φ 0 1 ≠ 0
  · obtain ⟨n, f, u, ν, a2, a3, Z, C, Fν, kc⟩ := yc_set0 O (hl g) G F (N := N) (by omega)
    have S := yLay_ok O G (φ 0 6) (Nat.le_refl _)
    have no := yNo_lay (φ := φ) (φ 0 6) (yAct_go G)
    obtain ⟨n2, u2, ν2, τ2, e2, A, hn2, X, k2, Q2⟩ := ym_explores O (N := N) (by omega) (τ0 := yT φ (yLay φ (φ 0 6))) S no (yFM_LM M1 (φ 0 6)) (yLM_sn (φ := φ) Q)
    have lt : 2 ^ φ 0 2 - 1 < 64 := by omega
    obtain ⟨y, ν1, k1, c1, s1⟩ := yc_never_loop O N Z (fun (x19 : Int32) (μ18 : wMem) => some (x19, μ18)) n N 0 (2 ^ φ 0 2 - 1) ν (by omega) (by have := C.1; omega) lt Fν C
    have X' := yXm_put X τ2
    obtain ⟨y2, c2, s2⟩ := ym_never_loop O N A hn2 X' (fun (x20 : Int32) (μ19 : wMem) => some (x20, μ19)) n2 N 0 (2 ^ φ 0 2 - 1) (by omega) (by omega) lt
    have ey : y = y2 := by
      refine yNv_ext y s1.1 y2 s2.1 fun p hp => ?_
      rw [Bool.eq_iff_iff, s1.2 p hp, s2.2 p hp]
      constructor
      · rintro ⟨q1, q2⟩
        refine ⟨q1, fun j _ hj => ?_⟩
        obtain ⟨l, r⟩ := (A.1 j hj).2.2
        obtain ⟨i, hi, e⟩ := Z.2.1 _ _ ⟨l, r, rfl⟩
        rw [← e]
        exact q2 i (Nat.zero_le _) hi
      · rintro ⟨q1, q2⟩
        refine ⟨q1, fun j _ hj => ?_⟩
        obtain ⟨l, r, _⟩ := (Z.1 j hj).2.1
        obtain ⟨i, hi, e⟩ := A.2.2 _ l r
        rw [← e]
        exact q2 i (Nat.zero_le _) hi
    subst ey
    have Fm2 : yFM φ 0 (yTut ν2 τ2) := yFM_put (k2.fm (yFM_LM M1 (φ 0 6))) τ2
    have q2 : (yTut ν2 τ2).1 7 (Int32.toNatClampNeg (2 : Int32)) = nI (φ 0 2) := Fm2.persons
    refine yBt3.mk' (v := nI y) (μ1 := ν1) (μm1 := yTut ν2 τ2) ?_ ?_ (kc.trans k1.ky.kc) ((((yKM_0 μm 0).trans (yKM_LM φ _ _)).kn.trans k2.kn).trans (yKM_put _ _).kn) (ySn_km Q2 (yKM_put _ _))
    · unfold fX0_never fX0_all
      rw [yc_isFamily O F, yBd, yB1 g, a2, yBV, a3, yBV, yBd, Fν.fld 2 (by decide), xI_pow _ (by omega), yAll_m1 _ h6]
      exact c1
    · have nm : fX6_numberOf N (yTut (yLM φ (wSI μm 0 0 0) (φ 0 6)) (yT φ (yLay φ (φ 0 6)))) = some (nI (yTN φ (yLay φ (φ 0 6))), yTut (yLM φ (wSI μm 0 0 0) (φ 0 6)) (yT φ (yLay φ (φ 0 6)))) := ym_num _ _ N
      unfold fX6_never wLet
      dsimp only
      rw [ym_isFamily O M1, yBd, yB1 g, ym_lay O M1 G (by omega), yBV, nm, yBd, e2, yBV, yG (show ok_in (2 : Int32) 35 = true by decide), q2, xI_pow _ (by omega), yAll_m1 _ h6]
      exact c2
  · refine yBt3.mk' (v := -2) (μ1 := μ) (μm1 := wSI μm 0 0 0) ?_ ?_ (yKC.rfl' _) (yKM_0 _ _).kn (ySn_km Q (yKM_0 _ _))
    · unfold fX0_never
      rw [yc_isFamily O F, yBd, yB2 g]
    · unfold fX6_never wLet
      dsimp only
      rw [ym_isFamily O M1, yBd, yB2 g]
