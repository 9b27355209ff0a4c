set_option maxRecDepth 100000
/-! part 999699: following the first cheapest row; lost -/
/-- what the searches left behind is as it was -/
def yKv (μ ν : wMem) : Prop := ∀ c i, (c ≠ 0 ∧ c ≠ 9) ∨ (c = 0 ∧ (i = 21 ∨ i = 23)) → ν.1 c i = μ.1 c i
theorem yKv.rfl' (μ : wMem) : yKv μ μ := fun _ _ _ => rfl
theorem yKv.trans {μ ν ρ : wMem} (h : yKv μ ν) (g : yKv ν ρ) : yKv μ ρ := fun c i a => (g c i a).trans (h c i a)
theorem yKv_put (μ : wMem) (σ : ySt) : yKv μ (yPut μ σ) := fun c i a => by
  rcases a with a | a
  · exact yPut_c μ σ a.1 a.2 i
  · obtain ⟨rfl, a⟩ := a
    exact yPut_o μ σ (by omega) (by omega)
theorem yKv_DR (μ : wMem) (d r : Nat) : yKv μ (yDR μ d r) := fun c i a => yDR_o μ d r (by omega)
theorem yKv.fc {φ : Nat → Nat → Nat} {μ ν : wMem} (h : yKv μ ν) (F : yFC φ μ) : yFC φ ν := yFC_of F fun c h1 h2 i => h c i (by omega)
theorem yRM.keep {φ : Nat → Nat → Nat} {b n T : Nat} {σ : ySt} {f : Nat → Nat} {u : Nat → ySt} {o : Nat → Bool} {ρ ν : wMem} (X : yRM φ b σ n T f u o ρ) (k : yKv ρ ν) : yRM φ b σ n T f u o ν := by
  obtain ⟨Z, C, H, t, s, F, D⟩ := X
  refine ⟨Z, ⟨C.1, fun i hi => ?_, ?_⟩, fun i hi => ?_, ?_, s, k.fc F, D⟩
  · rw [k 13 _ (by omega), k 10 _ (by omega)]; exact C.2.1 i hi
  · rw [k 0 21 (by omega)]; exact C.2.2
  · rw [k 14 _ (by omega)]; exact H i hi
  · rw [k 0 23 (by omega)]; exact t
/-- the component's step answers the row's acts one by one -/
def yRd (φ : Nat → Nat → Nat) (N b : Nat) (ρ : wMem) : ySt → List Nat → Prop
  | τ, [] => fX0_step N (19 + b) (yPut ρ τ) = some (-1, yPut ρ τ)
  | τ, x :: l => ySok φ τ ∧ yEb φ τ x = true ∧ fX0_step N (19 + b) (yPut ρ τ) = some (nI x, yPut ρ τ) ∧ yRd φ N b ρ (yDo φ τ x) l
def yHd (l : List Nat) : Int32 := match l with
  | [] => -1
  | x :: _ => nI x
theorem yRd.hd {φ : Nat → Nat → Nat} {N b : Nat} {ρ : wMem} {τ : ySt} {l : List Nat} (h : yRd φ N b ρ τ l) : fX0_step N (19 + b) (yPut ρ τ) = some (yHd l, yPut ρ τ) := by
  cases l with
  | nil => exact h
  | cons x l => exact h.2.2.1
theorem yRd_of {φ : Nat → Nat → Nat} (W : yBnd) (O : yOk φ) (hl : 0 < φ 0 0) {N : Nat} (hN : 200000 ≤ N) {b n T : Nat} (hb : b < 3) {σ : ySt} (R : yRe φ σ) {f : Nat → Nat} {u : Nat → ySt} {o : Nat → Bool} {ρ : wMem} (X : yRM φ b σ n T f u o ρ) : ∀ (l : List Nat) (i : Nat), i < n → yRw φ b T f u i → yRow φ b (u i) l → yRd φ N b ρ (u i) l := by
  intro l
  induction l with
  | nil => intro i hi on rw0; exact (yc_step W O hl hN hb R X hi on).1 rw0
  | cons x l ih =>
    intro i hi on rw0
    obtain ⟨ne, fs, rw1⟩ := rw0
    obtain ⟨s1, j, hj, ej, onj⟩ := (yc_step W O hl hN hb R X hi on).2 x ne fs
    refine ⟨(X.1.1 i hi).1, fs.1.1, s1, ?_⟩
    rw [← ej] at rw1 ⊢
    exact ih j hj onj rw1
/-- the component's marks, and the row behind them -/
theorem yc_marked {φ : Nat → Nat → Nat} {μ : wMem} (W : yBnd) (O : yOk φ) (hl : 0 < φ 0 0) (G : yGo φ) (F : yFC φ μ) {N : Nat} (hN : 200000 ≤ N) {b : Nat} (hb : b < 3) :
    ∃ ρ, yKC μ ρ ∧ ((fX0_marks N (19 + b) μ = some (1, yPut ρ (yLay φ (φ 0 6))) ∧ yHo φ (yLay φ (φ 0 6)) ∧ yFC φ ρ ∧ ∃ l, yRow φ b (yLay φ (φ 0 6)) l ∧ l.length < 1000 ∧ ∀ ν, yKv ρ ν → yRd φ N b ν (yLay φ (φ 0 6)) l) ∨ (fX0_marks N (19 + b) μ = some (0, ρ) ∧ ¬ yHo φ (yLay φ (φ 0 6)))) := by
  obtain ⟨ρ, kc, r⟩ := yc_marks W O hl G F hN hb
  obtain ⟨lr, rr⟩ := yLay_run G (φ 0 6) (Nat.le_refl _)
  refine ⟨ρ, kc, ?_⟩
  rcases r with ⟨e1, n, T, f, u, o, X⟩ | r
  · left
    obtain ⟨Z, C, H, t, s, F2, p0, s0, D0, eT⟩ := id X
    obtain ⟨i, hi, ei⟩ := Z.2.1 _ _ (yW.nil φ 1000 b _)
    have on : yRw φ b T f u i := ⟨p0, s0, by rw [ei]; exact D0, by
      have := (Z.1 i hi).2.2.1 0 (by rw [ei]; exact yW.nil φ 1000 b _)
      omega⟩
    obtain ⟨l, y1, y2, y3, _⟩ := yRow_ex W O hl hb s0 p0 _ ⟨lr, rr⟩ D0
    have len := ySc_len hl b l
    have d1 := D0.1
    refine ⟨e1, D0.ho, F2, l, y1, by omega, fun ν k => ?_⟩
    have := yRd_of W O hl hN hb ⟨lr, rr⟩ (X.keep k) l i hi on (by rw [ei]; exact y1)
    rw [ei] at this
    exact this
  · exact Or.inr r
/-- the state behind acts -/
def yDs (φ : Nat → Nat → Nat) (τ : ySt) (l : List Nat) : ySt := l.foldl (yDo φ) τ
theorem yIfT {p : Prop} [Decidable p] (h : p) {α : Type} (x y : α) : (if p then x else y) = x := if_pos h
theorem yc_lost_loop {φ : Nat → Nat → Nat} (O : yOk φ) {N A : Nat} {ρ : wMem} (hA : A < 2 ^ 31) (F : yFC φ ρ) (K : wMem → Option (Int32 × wMem)) : ∀ (l : List Nat) (M k : Nat) (τ : ySt), l.length < M → k ≤ A → k + l.length < 2 ^ 30 → yRd φ N 0 ρ τ l →
    gX0_lost_29 N (nI A) K M (nI k) (yPut ρ τ) = if A - k ≤ l.length then K (yPut ρ (yDs φ τ (l.take (A - k)))) else some (-1, yPut ρ (yDs φ τ l)) := by
  intro l
  induction l with
  | nil =>
    intro M k τ hM hk hkl h
    obtain ⟨M, rfl⟩ : ∃ q, M = q + 1 := ⟨M - 1, by omega⟩
    have e : (nI A ≤ nI k) = (A ≤ k) := xI_le hA (by simp at hkl; omega)
    show gbX0_lost_29 N _ _ _ _ _ = _
    unfold gbX0_lost_29
    by_cases q : A ≤ k
    · have z : A - k = 0 := by omega
      rw [yIf e, if_pos q, z, if_pos (Nat.zero_le _)]
      rfl
    · have st : fX0_step N 19 (yPut ρ τ) = some (-1, yPut ρ τ) := h
      rw [yIf e, if_neg q, st, yBd, if_pos rfl, if_neg (by simp; omega)]
      rfl
  | cons x l ih =>
    intro M k τ hM hk hkl h
    obtain ⟨M, rfl⟩ : ∃ q, M = q + 1 := ⟨M - 1, by omega⟩
    have e : (nI A ≤ nI k) = (A ≤ k) := xI_le hA (by simp at hkl; omega)
    obtain ⟨S, ex, st, h2⟩ := h
    replace st : fX0_step N 19 (yPut ρ τ) = some (nI x, yPut ρ τ) := st
    have hx := (yEb_act ex).1
    show gbX0_lost_29 N _ _ _ _ _ = _
    unfold gbX0_lost_29
    by_cases q : A ≤ k
    · have z : A - k = 0 := by omega
      rw [yIf e, if_pos q, z, if_pos (Nat.zero_le _)]
      rfl
    · have add1 : nI k + (1 : Int32) = nI (k + 1) := nI_add k 1
      have i1 := ih M (k + 1) (yDo φ τ x) (by simp at hM; omega) (by omega) (by simp at hkl; omega) h2
      have ea : A - k = (A - (k + 1)) + 1 := by omega
      rw [yIf e, if_neg q, st, yBd, yIf (xI_201 (x := x) hx.le), if_neg (fun h => h), yc_does O F S N hx, yBV]
      unfold wLet
      dsimp only
      rw [add1, i1, ea]
      by_cases g : A - (k + 1) ≤ l.length
      · rw [if_pos g, if_pos (by simp; omega)]
        rfl
      · rw [if_neg g, if_neg (by simp; omega)]
        rfl
theorem yRun_Ds {φ : Nat → Nat → Nat} : ∀ (l : List Nat) (τ ρ : ySt), yRun φ τ l = some ρ → yDs φ τ l = ρ := by
  intro l
  induction l with
  | nil => intro τ ρ h; exact Option.some.inj h
  | cons x l ih =>
    intro τ ρ h
    replace h : (if yEb φ τ x = true then yRun φ (yDo φ τ x) l else none) = some ρ := h
    by_cases q : yEb φ τ x = true
    · rw [if_pos q] at h
      exact ih _ _ h
    · rw [if_neg q] at h; cases h
/-- the twin goes by its row's first acts -/
theorem ym_overB_loop {φ : Nat → Nat → Nat} (O : yOk φ) {N A : Nat} {ν : wMem} (F : yFM φ 0 ν) {L : List Nat} (Q : yRl L ν) (hL : L.length ≤ 400) (hA : A ≤ L.length) (K : wMem → Option (Int32 × wMem)) : ∀ (d M k : Nat) (τ ρ : ySt), d < M → k + d = A → ySok φ τ → yRun φ τ (L.drop k) = some ρ →
    gX6_overBehind_6 N (nI A) K M (nI k) (yTut ν (yT φ τ)) = K (yTut ν (yT φ (yDs φ τ ((L.drop k).take d)))) := by
  intro d
  induction d with
  | zero =>
    intro M k τ ρ hM hk S r
    obtain ⟨M, rfl⟩ : ∃ q, M = q + 1 := ⟨M - 1, by omega⟩
    show gbX6_overBehind_6 N _ _ _ _ _ = _
    unfold gbX6_overBehind_6
    have e : (nI A ≤ nI k) = (A ≤ k) := xI_le (by omega) (by omega)
    rw [yIf e, if_pos (by omega), List.take_zero]
    rfl
  | succ d ih =>
    intro M k τ ρ hM hk S r
    obtain ⟨M, rfl⟩ : ∃ q, M = q + 1 := ⟨M - 1, by omega⟩
    have hk2 : k < L.length := by omega
    have e : (nI A ≤ nI k) = (A ≤ k) := xI_le (by omega) (by omega)
    have ed : L.drop k = L[k] :: L.drop (k + 1) := List.drop_eq_getElem_cons hk2
    have ev : yVal L k = nI L[k] := by
      unfold yVal
      rw [List.getElem?_eq_getElem hk2]
    rw [ed] at r ⊢
    generalize L[k] = x at *
    replace r : (if yEb φ τ x = true then yRun φ (yDo φ τ x) (L.drop (k + 1)) else none) = some ρ := r
    by_cases q : yEb φ τ x = true
    · rw [if_pos q] at r
      have add1 : nI k + (1 : Int32) = nI (k + 1) := nI_add k 1
      have hx := yEb_act q
      have i1 := ih M (k + 1) (yDo φ τ x) ρ (by omega) (by omega) (yDo_ok O S hx.1) r
      show gbX6_overBehind_6 N _ _ _ _ _ = _
      unfold gbX6_overBehind_6 wLet
      dsimp only
      rw [yIf e, if_neg (by omega), yG (xI_in (by omega) (by decide)), xI_cl (by omega), yTut_c _ _ (by decide), Q.2 k hk2, ev, ym_does O F S N hx.1 hx.2, yBV, add1, i1, List.take_succ_cons]
      rfl
    · rw [if_neg q] at r; cases r
theorem yRl_LM {φ : Nat → Nat → Nat} {L : List Nat} {ν : wMem} (Q : yRl L ν) (i : Nat) : yRl L (yLM φ ν i) := ⟨by rw [yLM_o φ ν (by omega) (by decide)]; exact Q.1, fun m hm => by rw [yLM_o φ ν (by omega) (by decide)]; exact Q.2 m hm⟩
theorem yRl_put {L : List Nat} {ν : wMem} (Q : yRl L ν) (τ : ySt) : yRl L (yTut ν τ) := ⟨by rw [yTut_o _ _ (by omega)]; exact Q.1, fun m hm => by rw [yTut_c _ _ (by decide)]; exact Q.2 m hm⟩
theorem ym_overB {φ : Nat → Nat → Nat} (O : yOk φ) (G : yGo φ) {N A : Nat} (hN : 1000 ≤ N) {ν : wMem} (F : yFM φ 0 ν) {L : List Nat} (Q : yRl L ν) (hL : L.length ≤ 400) (hA : A ≤ L.length) {ρ : ySt} (r : yRun φ (yLay φ (φ 0 6)) L = some ρ) :
    fX6_overBehind N (nI A) ν = some (nI (yDs φ (yLay φ (φ 0 6)) (L.take A)).ov, yTut (yLM φ ν (φ 0 6)) (yT φ (yDs φ (yLay φ (φ 0 6)) (L.take A)))) := by
  have S := yLay_ok O G (φ 0 6) (Nat.le_refl _)
  have lp := ym_overB_loop O (N := N) (A := A) (yFM_LM F (φ 0 6)) (yRl_LM (φ := φ) Q (φ 0 6)) hL hA (fun (μ8 : wMem) => some (μ8.1 0 23, μ8)) A N 0 (yLay φ (φ 0 6)) ρ (by omega) (by omega) S r
  unfold fX6_overBehind
  rw [ym_lay O F G (by omega), yBV]
  refine lp.trans ?_
  rw [yTut_23]
  rfl
theorem yq_lost {φ : Nat → Nat → Nat} {μ μm : wMem} (W : yBnd) (O : yOk φ) (hl : φ 0 1 ≠ 0 → 0 < φ 0 0) (G : yGo φ) (F : yFC φ μ) (M : yFM φ 0 μm) (Q : ySn μm) {N : Nat} (hN : 200000000000000 ≤ N) (a1 : Int32) : yBt3 (fX0_lost N a1) (fX6_lost N a1) μ μm := by
  have M1 := (yKM_0 μm 0).fm M
  by_cases g : φ 0 1 ≠ 0
  · by_cases neg : (0 : Int32) ≤ a1
    · obtain ⟨A, hA, rfl⟩ : ∃ A, A < 2 ^ 31 ∧ a1 = nI A := by
        have up := Int32.toInt_lt a1
        have lo : 0 ≤ a1.toInt := Int32.le_iff_toInt_le.mp neg
        refine ⟨a1.toInt.toNat, by omega, ?_⟩
        apply Int32.toInt_inj.mp
        rw [nI_toInt (by omega)]
        omega
      obtain ⟨ρ, k1, r1⟩ := yc_marked W O (hl g) G F (N := N) (by omega) (b := 0) (by decide)
      obtain ⟨νm, k2, q2, r2⟩ := ym_isRow W O (hl g) G M Q hN (b := 0) (by decide)
      rcases r2 with ⟨no, e2⟩ | ⟨l, y1, ho, len, ⟨ρe, run⟩, e2, rl⟩
      · rcases r1 with ⟨_, ho, _⟩ | ⟨e1, _⟩
        · exact absurd ho no
        · refine yBt3.mk' (v := -1) (μ1 := ρ) ?_ ?_ k1 k2 q2
          · unfold fX0_lost wLet
            dsimp only
            rw [yc_isFamily O F, yBd, yB1 g, if_pos neg]
            refine Eq.trans (congrArg (fun z => wBind z _) e1) ?_
            rw [yBd, if_pos rfl]
          · unfold fX6_lost wLet
            dsimp only
            rw [ym_isFamily O M1, yBd, yB1 g, if_pos neg]
            refine Eq.trans (congrArg (fun z => wBind z _) e2) ?_
            rw [yBd, if_pos rfl]
      · rcases r1 with ⟨e1, _, F2, l2, y2, len2, rd⟩ | ⟨_, no⟩
        · have el := yRow.uniq l2 l _ y2 y1
          subst el
          have lp := yc_lost_loop O (N := N) hA F2 (fun (μ19 : wMem) => some (μ19.1 0 5, μ19)) l2 N 0 _ (by omega) (Nat.zero_le _) (by omega) (rd ρ (yKv.rfl' _))
          rw [Nat.sub_zero] at lp
          have lt : (nI l2.length < nI A) = (l2.length < A) := xI_lt (by omega) hA
          have ec : fX0_lost N (nI A) μ = if A ≤ l2.length then some (nI (yDs φ (yLay φ (φ 0 6)) (l2.take A)).ov, yPut ρ (yDs φ (yLay φ (φ 0 6)) (l2.take A))) else some (-1, yPut ρ (yDs φ (yLay φ (φ 0 6)) l2)) := by
            unfold fX0_lost wLet
            dsimp only
            rw [yc_isFamily O F, yBd, yB1 g, if_pos neg]
            refine Eq.trans (congrArg (fun z => wBind z _) e1) ?_
            rw [yBd, if_neg (by decide)]
            refine lp.trans ?_
            rw [yPut_5]
          by_cases c : A ≤ l2.length
          · rw [if_pos c] at ec
            have eo := ym_overB O G (N := N) (by omega) (k2.fm M) rl len c run
            refine yBt3.mk' (v := nI (yDs φ (yLay φ (φ 0 6)) (l2.take A)).ov) (μm1 := yTut (yLM φ νm (φ 0 6)) (yT φ (yDs φ (yLay φ (φ 0 6)) (l2.take A)))) ec ?_ (k1.trans (yKC_put _ _)) (k2.trans ((yKM_LM φ _ _).trans (yKM_put _ _)).kn) (ySn_km q2 ((yKM_LM φ _ _).trans (yKM_put _ _)))
            unfold fX6_lost wLet
            dsimp only
            rw [ym_isFamily O M1, yBd, yB1 g, if_pos neg]
            refine Eq.trans (congrArg (fun z => wBind z _) e2) ?_
            rw [yBd, if_neg (by decide), rl.1, yIf lt, if_neg (by omega), eo, yBd]
          · rw [if_neg c] at ec
            refine yBt3.mk' (v := -1) ec ?_ (k1.trans (yKC_put _ _)) k2 q2
            unfold fX6_lost wLet
            dsimp only
            rw [ym_isFamily O M1, yBd, yB1 g, if_pos neg]
            refine Eq.trans (congrArg (fun z => wBind z _) e2) ?_
            rw [yBd, if_neg (by decide), rl.1, yIf lt, if_pos (by omega)]
        · exact absurd ho no
    · refine yBt3.mk' (v := -2) (μ1 := μ) (μm1 := wSI μm 0 0 0) ?_ ?_ (yKC.rfl' _) (yKM_0 _ _).kn (ySn_km Q (yKM_0 _ _))
      · unfold fX0_lost wLet
        dsimp only
        rw [yc_isFamily O F, yBd, yB1 g, if_neg neg]
      · unfold fX6_lost wLet
        dsimp only
        rw [ym_isFamily O M1, yBd, yB1 g, if_neg neg]
  · refine yBt3.mk' (v := -2) (μ1 := μ) (μm1 := wSI μm 0 0 0) ?_ ?_ (yKC.rfl' _) (yKM_0 _ _).kn (ySn_km Q (yKM_0 _ _))
    · unfold fX0_lost wLet
      dsimp only
      rw [yc_isFamily O F, yBd, yB2 g]
    · unfold fX6_lost wLet
      dsimp only
      rw [ym_isFamily O M1, yBd, yB2 g]
