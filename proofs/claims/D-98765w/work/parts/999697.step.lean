set_option maxRecDepth 100000
/-! part 999697: marks, step, rowAct -/
/-- the memory holds the cheapest rows from σ on -/
def yRM (φ : Nat → Nat → Nat) (b : Nat) (σ : ySt) (n T : Nat) (f : Nat → Nat) (u : Nat → ySt) (o : Nat → Bool) (ρ : wMem) : Prop :=
  ySet φ b σ n f u ∧ ySeM n f u ρ ∧ yOn n u o ρ ∧ ρ.1 0 23 = nI T ∧ (∀ i, i < n → (o i = true ↔ yRw φ b T f u i)) ∧ yFC φ ρ ∧ ∃ p s, yDx φ b σ p s ∧ T = 1000 * p + s
theorem ySeM_DR {n : Nat} {f : Nat → Nat} {u : Nat → ySt} {μ : wMem} (C : ySeM n f u μ) (d r : Nat) : ySeM n f u (yDR μ d r) := by
  have e : ∀ c i, (c = 0 → i ≠ 9 ∧ i ≠ 10) → (yDR μ d r).1 c i = μ.1 c i := fun c i h => by
    simp only [yDR, yS_get]
    repeat' split
    all_goals first | rfl | (exfalso; have := h (by omega); omega)
  exact ⟨C.1, fun i hi => by rw [e 13 _ (fun q => absurd q (by decide)), e 10 _ (fun q => absurd q (by decide))]; exact C.2.1 i hi, by rw [e 0 21 (by decide)]; exact C.2.2⟩
theorem yDR_o (μ : wMem) (d r : Nat) {c i : Nat} (h : c = 0 → i ≠ 9 ∧ i ≠ 10) : (yDR μ d r).1 c i = μ.1 c i := by
  simp only [yDR, yS_get]
  repeat' split
  all_goals first | rfl | (exfalso; have := h (by omega); omega)
theorem yc_marks {φ : Nat → Nat → Nat} {μ : wMem} (W : yBnd) (O : yOk φ) (hl : 0 < φ 0 0) (G : yGo φ) (F : yFC φ μ) {N : Nat} (hN : 200000 ≤ N) {b : Nat} (hb : b < 3) :
    ∃ ρ, yKC μ ρ ∧ ((fX0_marks N (19 + b) μ = some (1, yPut ρ (yLay φ (φ 0 6))) ∧ ∃ n T f u o, yRM φ b (yLay φ (φ 0 6)) n T f u o ρ) ∨ (fX0_marks N (19 + b) μ = some (0, ρ) ∧ ¬ yHo φ (yLay φ (φ 0 6)))) := by
  have S := yLay_ok O G (φ 0 6) (Nat.le_refl _)
  obtain ⟨lr, rr⟩ := yLay_run G (φ 0 6) (Nat.le_refl _)
  obtain ⟨few1, bd⟩ := W φ O hl lr _ rr
  have few : yFew φ b (yLay φ (φ 0 6)) := by
    have : b = 0 ∨ b = 1 ∨ b = 2 := by omega
    rcases this with h | h | h
    · exact yFew_0 O S (Or.inl h)
    · rw [h]; exact few1
    · exact yFew_0 O S (Or.inr h)
  obtain ⟨n, f, u, ν, Z, C, kc, rc⟩ := yc_costNow O hl hb hN F S few (yc_lay O F G (by omega))
  have Fν : yFC φ ν := kc.fc (yFC_DR F _ _)
  rcases rc with ⟨c, h1, h2, h3⟩ | ⟨h1, h2⟩
  · obtain ⟨⟨τ0, p0, l0, r0, _⟩, _⟩ := id h3
    obtain ⟨p, s, D⟩ := yDx_ex W O hl hb ⟨lr, rr⟩ ⟨l0, τ0, r0, p0⟩
    have ec := h3.uniq (D.2.2 1000 (by decide))
    subst ec
    have k23 : yKo ν (wSI ν 0 23 (nI (1000 * p + s))) → True := fun _ => trivial
    have C2 : ySeM n f u (wSI ν 0 23 (nI (1000 * p + s))) := ⟨C.1, fun i hi => by rw [yS_get, if_neg (by omega), yS_get, if_neg (by omega)]; exact C.2.1 i hi, by rw [yS_get, if_neg (by omega)]; exact C.2.2⟩
    have F2 : yFC φ (wSI ν 0 23 (nI (1000 * p + s))) := yFC_of Fν fun c h1 h2 i => by rw [yS_get, if_neg (by omega)]
    have t2 : (wSI ν 0 23 (nI (1000 * p + s))).1 0 23 = nI (1000 * p + s) := by rw [yS_get, if_pos ⟨rfl, rfl⟩]
    have kc2 : yKC ν (wSI ν 0 23 (nI (1000 * p + s))) := fun c i a d => ⟨by rw [yS_get, if_neg (fun q => by have := a q.1; omega)], rfl⟩
    generalize hρ : wSI ν 0 23 (nI (1000 * p + s)) = ρ0 at *
    obtain ⟨ν1, k1, e1, H1⟩ := yc_mark_clear O N Z (19 + b) (fun (μ11 : wMem) => wLet ((μ11.1 0 21) - (1 : Int32) : Int32) fun x12 => gX0_marks_56 N (19 + b) (fun (μ57 : wMem) => wBindV (fX0_asItIs N μ57) fun μ59 => some (1, μ59)) N x12 μ11) n N 0 ρ0 (by omega) (by have := C2.1; omega) C2 (fun j hj => absurd hj (by omega))
    have C3 := k1.seM C2
    obtain ⟨o, ν2, j1, j2, j3, j4⟩ := yc_mark_back W O hl hN hb Z ⟨lr, rr⟩ D (fun (μ57 : wMem) => wBindV (fX0_asItIs N μ57) fun μ59 => some (1, μ59)) n N (fun _ => false) ν1 (by have := C2.1; omega) (Nat.le_refl _) (k1.fc F2) C3 H1 (by rw [k1.1 0 23 (by decide) (by decide) (by decide)]; exact t2) (fun i h1 h2 => by omega)
    have F4 := j3.fc (k1.fc F2)
    refine ⟨yDR ν2 (yDays φ (φ 0 6)) (yRisks φ (φ 0 6)), ((((yKC_DR μ _ _).trans kc.kc).trans kc2).trans (k1.trans j3).kc).trans (yKC_DR _ _ _), Or.inl ⟨?_, n, 1000 * p + s, f, u, o, Z, ySeM_DR (j3.seM C3) _ _, fun i hi => by rw [yDR_o _ _ _ (fun q => absurd q (by decide))]; exact j2 i hi, by rw [yDR_o _ _ _ (by decide), j3.1 0 23 (by decide) (by decide) (by decide), k1.1 0 23 (by decide) (by decide) (by decide)]; exact t2, j4, yFC_DR F4 _ _, p, s, D, rfl⟩⟩
    have far := xI_far (1000 * p + s) (by have := D.1; have := D.2.1; omega)
    unfold fX0_marks wLet
    dsimp only
    rw [h1, yBd, hρ, t2, if_neg (by rw [far]; exact fun h => h)]
    refine e1.trans ?_
    unfold wLet
    dsimp only
    rw [C3.2.2]
    refine j1.trans ?_
    rw [yc_lay O F4 G (by omega), yBV]
  · refine ⟨wSI ν 0 23 1000000000, ((yKC_DR μ _ _).trans kc.kc).trans (fun c i a d => ⟨by rw [yS_get, if_neg (fun q => by have := a q.1; omega)], rfl⟩), Or.inr ⟨?_, fun ⟨l, ρ, r, e⟩ => h2 ρ _ ⟨l, r, rfl⟩ e⟩⟩
    unfold fX0_marks wLet
    dsimp only
    rw [h1, yBd, if_pos (show (wSI ν 0 23 1000000000).1 0 23 = (1000000000 : Int32) by rw [yS_get, if_pos ⟨rfl, rfl⟩])]
/-- on a cheapest row: what the component takes for the next act is the row's -/
theorem yRM_tg {φ : Nat → Nat → Nat} (O : yOk φ) {b n T : Nat} (hb : b < 3) {σ : ySt} {f : Nat → Nat} {u : Nat → ySt} {o : Nat → Bool} {ρ : wMem} (X : yRM φ b σ n T f u o ρ) {i : Nat} (hi : i < n) (on : yRw φ b T f u i) {x j : Nat} (ex : yEb φ (u i) x = true) (hj : j < n) (ej : u j = yDo φ (u i) x) :
    ((o j = true ∧ f j = f i + yCst φ 1000 b x) ↔ yTg φ b (u i) x) ∧ (yTg φ b (u i) x → yRw φ b T f u j) := by
  obtain ⟨Z, C, H, t, s, F, p0, s0, D0, eT⟩ := X
  obtain ⟨p, s1, D, h⟩ := on
  have back : yTg φ b (u i) x → yRw φ b T f u j ∧ f j = f i + yCst φ 1000 b x := by
    rintro ⟨_, p1, s2, p2, s3, D1, D2, ti⟩
    obtain ⟨rfl, rfl⟩ := D.uniq D1
    have tt := (D.tight O hb ex D2).1.mpr ti
    rw [← ej] at D2
    obtain ⟨⟨ρ2, e2, w2⟩, _⟩ := D2.2.2 1000 (by decide)
    have low := (D0.2.2 1000 (by decide)).2 ρ2 _ e2 ((Z.1 j hj).2.1.trans w2)
    have d := (Z.1 j hj).2.2.1 _ (by rw [ej]; exact (Z.1 i hi).2.1.snoc ex)
    exact ⟨⟨p2, s3, D2, by omega⟩, by omega⟩
  refine ⟨⟨?_, fun q => ⟨(s j hj).mpr (back q).1, (back q).2⟩⟩, fun q => (back q).1⟩
  rintro ⟨oj, fj⟩
  obtain ⟨p2, s2, D2, h2⟩ := (s j hj).mp oj
  rw [ej] at D2
  exact ⟨ex, p, s1, p2, s2, D, D2, (D.tight O hb ex D2).1.mp (by omega)⟩
theorem yc_step_loop {φ : Nat → Nat → Nat} (O : yOk φ) {N : Nat} (hN : 200000 ≤ N) {b n T : Nat} (hb : b < 3) {σ : ySt} {f : Nat → Nat} {u : Nat → ySt} {o : Nat → Bool} {ρ : wMem} (X : yRM φ b σ n T f u o ρ) {i : Nat} (hi : i < n) (on : yRw φ b T f u i) {x0 : Nat} (fs : yFs φ b (u i) x0) (K : wMem → Option (Int32 × wMem)) : ∀ (d M a : Nat), x0 - a ≤ d → d < M → a ≤ x0 →
    gX0_step_33 N (19 + b) (nI (yNum (u i))) K M (nI (yNx φ (u i) a)) (yPut ρ (u i)) = some (nI x0, yPut ρ (u i)) := by
  obtain ⟨Z, C, H, t, s, F, _⟩ := id X
  have U := (Z.1 i hi).1
  have fi := (Z.1 i hi).2.2.2
  have lti := yNum_lt O U
  have ex0 := fs.1.1
  have hx0 := yEb_le ex0
  intro d
  induction d with
  | zero =>
    intro M a hd hM ha
    obtain ⟨M, rfl⟩ : ∃ q, M = q + 1 := ⟨M - 1, by omega⟩
    have : a = x0 := by omega
    subst this
    obtain ⟨l1, l2⟩ := yNx_le φ (u i) (a := a) (by omega)
    have e : yNx φ (u i) a = a := by
      rcases Nat.lt_or_ge a (yNx φ (u i) a) with q | q
      · have := yNx_off φ (u i) (a := a) (by omega) (Nat.le_refl a) q
        rw [this] at ex0; cases ex0
      · omega
    obtain ⟨j, hj, ej⟩ := Z.next hi ex0
    have fj := (Z.1 j hj).2.2.2
    have ltj := yNum_lt O (Z.1 j hj).1
    have hx := (yEb_act ex0).1
    have dd := yc_does O F U N hx
    rw [← ej] at dd
    have un : yUn (yNum (u i)) = u i := yUn_num O U
    have e200 : ((200 : Int32) < nI a) = (200 < a) := xI_lt (a := 200) (by decide) (by omega)
    have cc := yCst_le O (H := 1000) (b := b) (by decide) hx
    have ofj := yc_of O (yFC_put F (u i)) N hx hb
    obtain ⟨oj, efj⟩ := (yRM_tg O hb X hi on ex0 hj ej).1.mpr fs.1
    rw [e]
    show gbX0_step_33 N _ _ _ _ _ _ = _
    unfold gbX0_step_33 fX0_nextBy wLet
    dsimp only
    rw [yIf e200, if_neg (by omega), dd, yBV, yc_state, yBd, yBd, yc_be _ (s := yNum (u i)) (by omega) N, yBV, un, yPut_put, yG (xI_in ltj (by decide)), xI_cl (by omega), yPut_c ρ _ (by decide) (by decide), H j hj, oj, if_neg (by decide), yG (xI_in ltj (by decide)), yG (xI_in lti (by decide)), ofj, yBd, yPut_c ρ _ (by decide) (by decide), (C.2.1 j hj).2, xI_cl (by omega), yPut_c ρ _ (by decide) (by decide), (C.2.1 i hi).2, nI_add, if_pos (by rw [efj])]
  | succ d ih =>
    intro M a hd hM ha
    obtain ⟨M, rfl⟩ : ∃ q, M = q + 1 := ⟨M - 1, by omega⟩
    obtain ⟨l1, l2⟩ := yNx_le φ (u i) (a := a) (by omega)
    have le : yNx φ (u i) a ≤ x0 := by
      rcases Nat.lt_or_ge x0 (yNx φ (u i) a) with q | q
      · have := yNx_off φ (u i) (a := a) (by omega) ha q
        rw [this] at ex0; cases ex0
      · exact q
    have onx := yNx_on φ (u i) (a := a) (by omega) (by omega)
    generalize yNx φ (u i) a = x at *
    obtain ⟨j, hj, ej⟩ := Z.next hi onx
    have fj := (Z.1 j hj).2.2.2
    have ltj := yNum_lt O (Z.1 j hj).1
    have hx := (yEb_act onx).1
    have dd := yc_does O F U N hx
    rw [← ej] at dd
    have un : yUn (yNum (u i)) = u i := yUn_num O U
    have e200 : ((200 : Int32) < nI x) = (200 < x) := xI_lt (a := 200) (by decide) (by omega)
    have cc := yCst_le O (H := 1000) (b := b) (by decide) hx
    have ofj := yc_of O (yFC_put F (u i)) N hx hb
    have ce : (nI (f j) = nI (f i + yCst φ 1000 b x)) = (f j = f i + yCst φ 1000 b x) := xI_eq (by omega) (by omega)
    have add1 : nI x + (1 : Int32) = nI (x + 1) := nI_add x 1
    have tg := (yRM_tg O hb X hi on onx hj ej).1
    by_cases q : x = x0
    · subst q
      obtain ⟨oj, efj⟩ := tg.mpr fs.1
      show gbX0_step_33 N _ _ _ _ _ _ = _
      unfold gbX0_step_33 fX0_nextBy wLet
      dsimp only
      rw [yIf e200, if_neg (by omega), dd, yBV, yc_state, yBd, yBd, yc_be _ (s := yNum (u i)) (by omega) N, yBV, un, yPut_put, yG (xI_in ltj (by decide)), xI_cl (by omega), yPut_c ρ _ (by decide) (by decide), H j hj, oj, if_neg (by decide), yG (xI_in ltj (by decide)), yG (xI_in lti (by decide)), ofj, yBd, yPut_c ρ _ (by decide) (by decide), (C.2.1 j hj).2, xI_cl (by omega), yPut_c ρ _ (by decide) (by decide), (C.2.1 i hi).2, nI_add, if_pos (by rw [efj])]
    · have nt : ¬ (o j = true ∧ f j = f i + yCst φ 1000 b x) := fun h => fs.2 x (by omega) (tg.mp h)
      have nx := yc_nx O F U (N := N) (by omega) (a := x + 1) (by omega)
      refine Eq.trans ?_ (ih M (x + 1) (by omega) (by omega) (by omega))
      show gbX0_step_33 N _ _ _ _ _ _ = _
      unfold gbX0_step_33 fX0_nextBy wLet
      dsimp only
      rw [yIf e200, if_neg (by omega), dd, yBV, yc_state, yBd, yBd, yc_be _ (s := yNum (u i)) (by omega) N, yBV, un, yPut_put, yG (xI_in ltj (by decide)), xI_cl (by omega), yPut_c ρ _ (by decide) (by decide), H j hj]
      by_cases g : o j = true
      · rw [g, if_neg (by decide), yG (xI_in ltj (by decide)), yG (xI_in lti (by decide)), ofj, yBd, yPut_c ρ _ (by decide) (by decide), (C.2.1 j hj).2, xI_cl (by omega), yPut_c ρ _ (by decide) (by decide), (C.2.1 i hi).2, nI_add, yIf ce, if_neg (fun h => nt ⟨g, h⟩), add1, nx, yBd]
      · have g2 : o j = false := by simpa using g
        rw [g2, if_pos (by decide), add1, nx, yBd]
theorem yc_step {φ : Nat → Nat → Nat} (W : yBnd) (O : yOk φ) (hl : 0 < φ 0 0) {N : Nat} (hN : 200000 ≤ N) {b n T : Nat} (hb : b < 3) {σ : ySt} (R : yRe φ σ) {f : Nat → Nat} {u : Nat → ySt} {o : Nat → Bool} {ρ : wMem} (X : yRM φ b σ n T f u o ρ) {i : Nat} (hi : i < n) (on : yRw φ b T f u i) :
    (yIsE φ (u i) → fX0_step N (19 + b) (yPut ρ (u i)) = some (-1, yPut ρ (u i))) ∧ (∀ x, ¬ yIsE φ (u i) → yFs φ b (u i) x → fX0_step N (19 + b) (yPut ρ (u i)) = some (nI x, yPut ρ (u i)) ∧ ∃ j, j < n ∧ u j = yDo φ (u i) x ∧ yRw φ b T f u j) := by
  obtain ⟨Z, C, H, t, s, F, p0, s0, D0, eT⟩ := id X
  have U := (Z.1 i hi).1
  have fi := (Z.1 i hi).2.2.2
  have lti := yNum_lt O U
  constructor
  · intro e
    have fT := (yRw_end W O hl hb Z R hi e).mp on
    unfold fX0_step wLet
    dsimp only
    rw [yc_state, yBd, yc_end O F U N, yBd, yIf (yB_0 _), if_neg (by rw [decide_eq_true (show (u i).ov = yEnd φ from e)]; decide), yG (xI_in lti (by decide)), xI_cl (by omega), yPut_c ρ _ (by decide) (by decide), (C.2.1 i hi).2, yPut_o ρ _ (by decide) (by decide), t, fT, if_pos rfl]
  · intro x ne fs
    obtain ⟨j, hj, ej⟩ := Z.next hi fs.1.1
    refine ⟨?_, j, hj, ej, (yRM_tg O hb X hi on fs.1.1 hj ej).2 fs.1⟩
    have nx := yc_nx O F U (N := N) (by omega) (a := 0) (by omega)
    have lp := yc_step_loop O hN hb X hi on fs (fun (μ29 : wMem) => some ((-1), μ29)) 200 N 0 (by have := yEb_le fs.1.1; omega) (by omega) (Nat.zero_le _)
    unfold fX0_step wLet
    dsimp only
    rw [yc_state, yBd, yc_end O F U N, yBd, yIf (yB_0 _), if_pos (decide_eq_false (show ¬ (u i).ov = yEnd φ from ne))]
    refine Eq.trans (congrArg (fun z => wBind z _) nx) ?_
    rw [yBd]
    exact lp
/-- the row's act at a place, or none -/
def yVal (l : List Nat) (m : Nat) : Int32 := match l[m]? with
  | some x => nI x
  | none => -1
theorem yc_rowAct_loop {φ : Nat → Nat → Nat} (W : yBnd) (O : yOk φ) (hl : 0 < φ 0 0) {N : Nat} (hN : 200000 ≤ N) {b n T : Nat} (hb : b < 3) {σ : ySt} (R : yRe φ σ) {f : Nat → Nat} {u : Nat → ySt} {o : Nat → Bool} {ρ : wMem} (X : yRM φ b σ n T f u o ρ) (K : Int32 → wMem → Option (Int32 × wMem)) {A : Nat} (hA : A < 2 ^ 31) : ∀ (l : List Nat) (M k i : Nat), l.length < M → k ≤ A → i < n → yRw φ b T f u i → yRow φ b (u i) l →
    ∃ j, j < n ∧ gX0_rowAct_23 N (19 + b) (nI A) K M (yVal l 0) (nI k) (yPut ρ (u i)) = K (yVal l (A - k)) (yPut ρ (u j)) := by
  intro l
  induction l with
  | nil =>
    intro M k i hM hk hi on rw0
    obtain ⟨M, rfl⟩ : ∃ q, M = q + 1 := ⟨M - 1, by omega⟩
    refine ⟨i, hi, ?_⟩
    show gbX0_rowAct_23 N _ _ _ _ _ _ _ = _
    unfold gbX0_rowAct_23
    by_cases q : nI A ≤ nI k
    · rw [if_pos q]; rfl
    · rw [if_neg q, if_pos (show yVal [] 0 = -1 from rfl)]; rfl
  | cons x l ih =>
    intro M k i hM hk hi on rw0
    obtain ⟨M, rfl⟩ : ∃ q, M = q + 1 := ⟨M - 1, by omega⟩
    obtain ⟨ne, fs, rw1⟩ := rw0
    have e : (nI A ≤ nI k) = (A ≤ k) := xI_le hA (by omega)
    by_cases q : A ≤ k
    · refine ⟨i, hi, ?_⟩
      have z : A - k = 0 := by omega
      show gbX0_rowAct_23 N _ _ _ _ _ _ _ = _
      unfold gbX0_rowAct_23
      rw [yIf e, if_pos q, z]
    · obtain ⟨Z, C, H, t, s, F, _⟩ := id X
      have U := (Z.1 i hi).1
      have ex := fs.1.1
      have hx := (yEb_act ex).1
      have hxl := hx.le
      obtain ⟨s1, j, hj, ej, onj⟩ := (yc_step W O hl hN hb R X hi on).2 x ne fs
      have dd := yc_does O F U N hx
      rw [← ej] at dd rw1
      have add1 : nI k + (1 : Int32) = nI (k + 1) := nI_add k 1
      have st : fX0_step N (19 + b) (yPut ρ (u j)) = some (yVal l 0, yPut ρ (u j)) := by
        cases l with
        | nil => exact (yc_step W O hl hN hb R X hj onj).1 rw1
        | cons y l => exact ((yc_step W O hl hN hb R X hj onj).2 y rw1.1 rw1.2.1).1
      obtain ⟨j2, hj2, e2⟩ := ih M (k + 1) j (by simp at hM; omega) (by omega) hj onj rw1
      refine ⟨j2, hj2, ?_⟩
      have ea : A - k = (A - (k + 1)) + 1 := by omega
      have ev : yVal (x :: l) (A - k) = yVal l (A - (k + 1)) := by
        rw [ea]; rfl
      rw [ev]
      refine Eq.trans ?_ e2
      show gbX0_rowAct_23 N (19 + b) (nI A) K _ (nI x) (nI k) _ = _
      unfold gbX0_rowAct_23 wLet
      dsimp only
      rw [yIf e, if_neg q, yIf (xI_201 (x := x) hxl), if_neg (fun h => h), dd, yBV, st, yBd, add1]
theorem yc_rowAct {φ : Nat → Nat → Nat} {μ : wMem} (W : yBnd) (O : yOk φ) (hl : 0 < φ 0 0) (G : yGo φ) (F : yFC φ μ) {N : Nat} (hN : 200000 ≤ N) {b : Nat} (hb : b < 3) (a2 : Int32) :
    ∃ v ν, fX0_rowAct N (19 + b) a2 μ = some (v, ν) ∧ yKC μ ν ∧ ((¬ yHo φ (yLay φ (φ 0 6)) ∧ v = -1) ∨ ∃ l, yRow φ b (yLay φ (φ 0 6)) l ∧ yHo φ (yLay φ (φ 0 6)) ∧ ((a2.toInt < 0 ∧ v = -1) ∨ (∃ A, A < 2 ^ 31 ∧ a2 = nI A ∧ v = yVal l A))) := by
  obtain ⟨ρ, kc, r⟩ := yc_marks W O hl G F hN hb
  obtain ⟨lr, rr⟩ := yLay_run G (φ 0 6) (Nat.le_refl _)
  rcases r with ⟨e1, n, T, f, u, o, X⟩ | ⟨e1, no⟩
  · obtain ⟨Z, C, H, t, s, F2, p0, s0, D0, eT⟩ := id X
    obtain ⟨i, hi, ei⟩ := Z.2.1 _ _ (yW.nil φ 1000 b _)
    have on : yRw φ b T f u i := ⟨p0, s0, by rw [ei]; exact D0, by
      have := (Z.1 i hi).2.2.1 0 (by rw [ei]; exact yW.nil φ 1000 b _)
      omega⟩
    obtain ⟨l, y1, y2, y3, _⟩ := yRow_ex W O hl hb s0 p0 _ ⟨lr, rr⟩ D0
    have len := ySc_len hl b l
    have d1 := D0.1
    by_cases g : 0 ≤ a2.toInt
    · obtain ⟨A, hA, rfl⟩ : ∃ A, A < 2 ^ 31 ∧ a2 = nI A := by
        have up := Int32.toInt_lt a2
        refine ⟨a2.toInt.toNat, by omega, ?_⟩
        apply Int32.toInt_inj.mp
        rw [nI_toInt (by omega)]
        omega
      have st : fX0_step N (19 + b) (yPut ρ (u i)) = some (yVal l 0, yPut ρ (u i)) := by
        rw [← ei] at y1
        cases l with
        | nil => exact (yc_step W O hl hN hb ⟨lr, rr⟩ X hi on).1 y1
        | cons y l => exact ((yc_step W O hl hN hb ⟨lr, rr⟩ X hi on).2 y y1.1 y1.2.1).1
      obtain ⟨j, hj, e2⟩ := yc_rowAct_loop W O hl hN hb ⟨lr, rr⟩ X (fun (x18 : Int32) (μ17 : wMem) => some (x18, μ17)) hA l N 0 i (by omega) (Nat.zero_le _) hi on (by rw [ei]; exact y1)
      have e0 : ((0 : Int32) ≤ nI A) = (0 ≤ A) := xI_le (a := 0) (by decide) hA
      refine ⟨yVal l A, yPut ρ (u j), ?_, kc.trans (yKC_put _ _), Or.inr ⟨l, y1, D0.ho, Or.inr ⟨A, hA, rfl, rfl⟩⟩⟩
      unfold fX0_rowAct
      rw [e1, yBd, if_neg (by decide), yIf e0, if_pos (Nat.zero_le _), ← ei, st, yBd]
      exact e2
    · refine ⟨-1, yPut ρ (yLay φ (φ 0 6)), ?_, kc.trans (yKC_put _ _), Or.inr ⟨l, y1, D0.ho, Or.inl ⟨by omega, rfl⟩⟩⟩
      have e0 : ¬ (0 : Int32) ≤ a2 := fun h => g (by have := Int32.le_iff_toInt_le.mp h; exact this)
      unfold fX0_rowAct
      rw [e1, yBd, if_neg (by decide), if_neg e0]
  · refine ⟨-1, ρ, ?_, kc, Or.inl ⟨no, rfl⟩⟩
    unfold fX0_rowAct
    rw [e1, yBd, if_pos rfl]
