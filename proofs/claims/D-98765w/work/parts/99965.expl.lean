set_option maxRecDepth 100000
/-! part 99965: the twin explores: all states that can be come to -/
theorem yAny {g : Nat → Nat} {k s : Nat} : ((List.range k).any fun i => g i == s) = true ↔ ∃ i, i < k ∧ g i = s := by
  rw [List.any_eq_true]
  constructor
  · rintro ⟨i, hi, e⟩
    exact ⟨i, List.mem_range.mp hi, by simpa using e⟩
  · rintro ⟨i, hi, e⟩
    exact ⟨i, List.mem_range.mpr hi, by simpa using e⟩
/-- as many numbers below m as there are different ones -/
theorem yPig {n m : Nat} {g : Nat → Nat} (h1 : ∀ i, i < n → g i < m) (h2 : ∀ i j, i < n → j < n → g i = g j → i = j) : n ≤ m := by
  have key : ∀ k, k ≤ n → yCn (fun s => (List.range k).any fun i => g i == s) m = k := by
    intro k
    induction k with
    | zero =>
      intro _
      have : ∀ m, yCn (fun s => (List.range 0).any fun i => g i == s) m = 0 := by
        intro m
        induction m with
        | zero => rfl
        | succ m ih => show yCn _ m + _ = 0; rw [ih]; rfl
      exact this m
    | succ k ih =>
      intro hk
      have := yCn_one (p := fun s => (List.range k).any fun i => g i == s) (q := fun s => (List.range (k + 1)).any fun i => g i == s) (i := g k)
        (by
          rw [Bool.eq_false_iff]
          intro q
          obtain ⟨i, hi, e⟩ := yAny.mp q
          have := h2 i k (by omega) (by omega) e
          omega)
        (yAny.mpr ⟨k, by omega, rfl⟩)
        (fun j hj => by
          rw [Bool.eq_iff_iff, yAny, yAny]
          constructor
          · rintro ⟨i, hi, e⟩
            by_cases q : i = k
            · rw [q] at e; exact absurd e.symm hj
            · exact ⟨i, by omega, e⟩
          · rintro ⟨i, hi, e⟩
            exact ⟨i, by omega, e⟩) m (h1 k (by omega))
      rw [this, ih (by omega)]
  have := key n (Nat.le_refl _)
  have := yCn_le (fun s => (List.range n).any fun i => g i == s) m
  omega
theorem ySt_ext {σ τ : ySt} (h0 : σ.ov = τ.ov) (h1 : σ.sd = τ.sd) (h2 : σ.z0 = τ.z0) (h3 : σ.z1 = τ.z1) (h4 : σ.mk = τ.mk) : σ = τ := by
  have a : ySt.of σ.ov σ.sd σ.z0 σ.z1 σ.mk = σ := rfl
  have b : ySt.of τ.ov τ.sd τ.z0 τ.z1 τ.mk = τ := rfl
  rw [← a, ← b, h0, h1, h2, h3, h4]
/-- with one post: who was last at the other one is no question -/
def yNo (φ : Nat → Nat → Nat) (σ : ySt) : Prop := φ 0 3 ≤ 1 → σ.z1 = if φ 0 7 = 0 then 0 else σ.z0
theorem yNo_first (φ : Nat → Nat → Nat) : yNo φ yFirst := fun _ => by
  show 0 = if φ 0 7 = 0 then 0 else 0
  split <;> rfl
theorem yNo_do {φ : Nat → Nat → Nat} {σ : ySt} (h : yNo φ σ) {a : Nat} (ha : yAct φ a) : yNo φ (yDo φ σ a) := by
  intro h1
  have h0 := h h1
  unfold yDo
  by_cases g : a = 200
  · rw [if_pos g]; exact h0
  · rw [if_neg g]
    obtain ⟨_, h2, _, _⟩ := ha.resolve_left g
    have : a / 100 = 0 := by omega
    rw [ySt.of_z1, ySt.of_z0, this]
    by_cases g7 : φ 0 7 = 0
    · rw [if_pos g7] at h0
      rw [if_pos g7]
      simp [g7, h0]
    · simp [g7]
theorem yNo_lay {φ : Nat → Nat → Nat} : ∀ i, (∀ j, j < i → yAct φ (φ 6 j)) → yNo φ (yLay φ i)
  | 0, _ => yNo_first φ
  | i + 1, h => yNo_do (yNo_lay i fun j hj => h j (by omega)) (h i (by omega))
def yTN (φ : Nat → Nat → Nat) (σ : ySt) : Nat := yTn (yT φ σ)
theorem yTN_inj {φ : Nat → Nat → Nat} {σ τ : ySt} (O : yOk φ) (S : ySok φ σ) (T : ySok φ τ) (n1 : yNo φ σ) (n2 : yNo φ τ) (e : yTN φ σ = yTN φ τ) : σ = τ := by
  have h1 := yTu_num O S
  have h2 := yTu_num O T
  unfold yTN at e
  rw [e, h2] at h1
  have a0 : σ.ov = τ.ov := by have := congrArg ySt.ov h1; exact this.symm
  have a1 : σ.sd = τ.sd := by have := congrArg ySt.sd h1; exact this.symm
  have a2 : σ.z0 = τ.z0 := by have := congrArg ySt.z0 h1; exact this.symm
  have a3 : (if φ 0 3 ≤ 1 then 0 else σ.z1) = (if φ 0 3 ≤ 1 then 0 else τ.z1) := by have := congrArg ySt.z1 h1; exact this.symm
  have a4 : σ.mk - 1 = τ.mk - 1 := by have := congrArg ySt.mk h1; exact this.symm
  have b1 := S.mk0
  have b2 := T.mk0
  refine ySt_ext a0 a1 a2 ?_ (by omega)
  by_cases g : φ 0 3 ≤ 1
  · rw [n1 g, n2 g, a2]
  · rw [if_neg g, if_neg g] at a3; exact a3
theorem yTN_lt {φ : Nat → Nat → Nat} {σ : ySt} (O : yOk φ) (S : ySok φ σ) : yTN φ σ < 94080 := yT_lt O S
/-- u lists states that can be come to from σ; those ahead of cur, and cur by acts below a, have led on -/
def yXp (φ : Nat → Nat → Nat) (σ : ySt) (n : Nat) (u : Nat → ySt) (cur a : Nat) : Prop :=
  (∀ i, i < n → ySok φ (u i) ∧ yNo φ (u i) ∧ ∃ l, yRun φ σ l = some (u i)) ∧
  (∀ i j, i < n → j < n → u i = u j → i = j) ∧
  (∃ i, i < n ∧ u i = σ) ∧
  (∀ i, i < n → ∀ x, yEb φ (u i) x = true → (i < cur ∨ (i = cur ∧ x < a)) → ∃ j, j < n ∧ u j = yDo φ (u i) x)
/-- the twin's list and what it has seen -/
def yXm (φ : Nat → Nat → Nat) (n : Nat) (u : Nat → ySt) (μ : wMem) : Prop :=
  μ.1 0 34 = nI n ∧ (∀ i, i < n → μ.1 15 i = nI (yTN φ (u i)) ∧ μ.1 14 (yTN φ (u i)) = 1) ∧ (∀ s, s < 94080 → (∀ i, i < n → yTN φ (u i) ≠ s) → μ.1 14 s = 0)
theorem yXp.le {φ : Nat → Nat → Nat} {σ : ySt} {n : Nat} {u : Nat → ySt} {cur a : Nat} (O : yOk φ) (X : yXp φ σ n u cur a) : n ≤ 94080 :=
  yPig (g := fun i => yTN φ (u i)) (fun i hi => yTN_lt O (X.1 i hi).1) (fun i j hi hj e => X.2.1 i j hi hj (yTN_inj O (X.1 i hi).1 (X.1 j hj).1 (X.1 i hi).2.1 (X.1 j hj).2.1 e))
/-- all but the list, what is seen, and the state is as it was -/
def yKx (μ ν : wMem) : Prop := (∀ c i, c ≠ 14 → c ≠ 15 → (c = 0 → i ≠ 34 ∧ (i < 23 ∨ 27 < i)) → ν.1 c i = μ.1 c i) ∧ ν.2 = μ.2
theorem yKx.rfl' (μ : wMem) : yKx μ μ := ⟨fun _ _ _ _ _ => rfl, rfl⟩
theorem yKx.trans {μ ν ρ : wMem} (h : yKx μ ν) (g : yKx ν ρ) : yKx μ ρ := ⟨fun c i a b d => (g.1 c i a b d).trans (h.1 c i a b d), g.2.trans h.2⟩
theorem yKx.fm {φ : Nat → Nat → Nat} {f : Nat} {μ ν : wMem} (h : yKx μ ν) (F : yFM φ f μ) : yFM φ f ν := yFM_of F fun c h1 h2 i => h.1 c i (by omega) (by omega) (by omega)
theorem yKx_put (μ : wMem) (τ : ySt) : yKx μ (yTut μ τ) := ⟨fun c i _ _ d => by
  by_cases h : c = 0
  · subst h; exact yTut_o μ τ (d rfl).2
  · exact yTut_c μ τ h i, rfl⟩
theorem yXm_put {φ : Nat → Nat → Nat} {n : Nat} {u : Nat → ySt} {μ : wMem} (H : yXm φ n u μ) (τ : ySt) : yXm φ n u (yTut μ τ) :=
  ⟨by rw [yTut_o μ τ (by omega)]; exact H.1, fun i hi => by rw [yTut_c μ τ (by decide), yTut_c μ τ (by decide)]; exact H.2.1 i hi, fun s hs q => by rw [yTut_c μ τ (by decide)]; exact H.2.2 s hs q⟩
theorem yXp_nx {φ : Nat → Nat → Nat} {σ : ySt} {n : Nat} {u : Nat → ySt} {cur a : Nat} (X : yXp φ σ n u cur a) (ha : a ≤ 201) : yXp φ σ n u cur (yNx φ (u cur) a) := by
  refine ⟨X.1, X.2.1, X.2.2.1, fun i hi x ex c => ?_⟩
  rcases c with c | ⟨c1, c2⟩
  · exact X.2.2.2 i hi x ex (Or.inl c)
  · by_cases q : x < a
    · exact X.2.2.2 i hi x ex (Or.inr ⟨c1, q⟩)
    · subst c1
      have := yNx_off φ (u i) ha (b := x) (by omega) c2
      rw [this] at ex
      cases ex
theorem xI_201 {x : Nat} (hx : x ≤ 200) : (nI x = (-1 : Int32)) = False := by
  apply propext
  constructor
  · intro h
    have := congrArg Int32.toInt h
    rw [nI_toInt (by omega)] at this
    have q : (-1 : Int32).toInt = -1 := by decide
    omega
  · exact False.elim
theorem ym_exp_in {φ : Nat → Nat → Nat} (O : yOk φ) {N : Nat} (hN : 200000 ≤ N) {σ : ySt} {cur : Nat} (K : wMem → Option wMem) : ∀ (d M a n : Nat) (u : Nat → ySt) (ν : wMem), 201 - a ≤ d → d < M → a ≤ 201 → cur < n →
    yFM φ 0 ν → yXp φ σ n u cur a → yXm φ n u ν →
    ∃ n1 u1 ν1, gX6_explores_73 N (nI cur) K M (if yNx φ (u cur) a = 201 then -1 else nI (yNx φ (u cur) a)) (yTut ν (yT φ (u cur))) = K (yTut ν1 (yT φ (u cur))) ∧ n ≤ n1 ∧ (∀ i, i < n → u1 i = u i) ∧ yXp φ σ n1 u1 cur 201 ∧ yXm φ n1 u1 ν1 ∧ yKx ν ν1 := by
  intro d
  induction d with
  | zero =>
    intro M a n u ν hd hM ha hc F X H
    obtain ⟨M, rfl⟩ : ∃ q, M = q + 1 := ⟨M - 1, by omega⟩
    have : a = 201 := by omega
    subst this
    have e : yNx φ (u cur) 201 = 201 := rfl
    refine ⟨n, u, ν, ?_, Nat.le_refl _, fun _ _ => rfl, X, H, yKx.rfl' _⟩
    rw [e, if_pos rfl]
    show gbX6_explores_73 N _ _ _ _ _ = _
    unfold gbX6_explores_73
    rw [if_pos rfl]
  | succ d ih =>
    intro M a n u ν hd hM ha hc F X H
    obtain ⟨M, rfl⟩ : ∃ q, M = q + 1 := ⟨M - 1, by omega⟩
    have X2 := yXp_nx X ha
    obtain ⟨l1, l2⟩ := yNx_le φ (u cur) ha
    have on := yNx_on φ (u cur) ha
    generalize yNx φ (u cur) a = x at *
    by_cases gx : x = 201
    · subst gx
      refine ⟨n, u, ν, ?_, Nat.le_refl _, fun _ _ => rfl, X2, H, yKx.rfl' _⟩
      rw [if_pos rfl]
      show gbX6_explores_73 N _ _ _ _ _ = _
      unfold gbX6_explores_73
      rw [if_pos rfl]
    · have ex := on gx
      obtain ⟨hx, hcan⟩ := yEb_act ex
      obtain ⟨S, no, l0, r0⟩ := X.1 cur hc
      have T := yDo_ok O S hx
      have no2 := yNo_do no hx
      have lt := yTN_lt O T
      have ltc := yTN_lt O S
      have nle := X.le O
      have dd := ym_does O F S N hx hcan
      have nm := ym_num ν (yT φ (yDo φ (u cur) x)) N
      have add1 : nI x + (1 : Int32) = nI (x + 1) := nI_add x 1
      rw [if_neg gx]
      show ∃ n1 u1 ν1, gbX6_explores_73 N _ _ _ _ _ = _ ∧ _
      unfold gbX6_explores_73 wLet
      dsimp only
      rw [yIf (xI_201 (x := x) (by omega)), if_neg (fun h => h), dd, yBV, nm, yBd]
      show ∃ n1 u1 ν1, wG (ok_in (nI (yTN φ (yDo φ (u cur) x))) 94080) _ = _ ∧ _
      rw [yG (xI_in lt (by decide))]
      have c14 : ∀ s, (yTut ν (yT φ (yDo φ (u cur) x))).1 14 s = ν.1 14 s := fun s => yTut_c ν _ (by decide) s
      have cl : Int32.toNatClampNeg (nI (yTn (yT φ (yDo φ (u cur) x)))) = yTN φ (yDo φ (u cur) x) := xI_cl (show yTN φ (yDo φ (u cur) x) < 2 ^ 31 by omega)
      rw [cl, c14]
      have tail : ∀ (ρ : wMem), yFM φ 0 ρ → ρ.1 15 cur = nI (yTN φ (u cur)) → (wG (ok_in (nI cur) 94080) (wBindV (fX6_begin N ((yTut ρ (yT φ (yDo φ (u cur) x))).1 15 (Int32.toNatClampNeg (nI cur))) (yTut ρ (yT φ (yDo φ (u cur) x)))) fun μ29 => wBind (fX6_nextAct N (nI x + 1) μ29) fun v32 μ31 => gX6_explores_73 N (nI cur) K M v32 μ31)) =
          gX6_explores_73 N (nI cur) K M (if yNx φ (u cur) (x + 1) = 201 then -1 else nI (yNx φ (u cur) (x + 1))) (yTut ρ (yT φ (u cur))) := fun ρ Fρ e15 => by
        have bg : fX6_begin N (nI (yTN φ (u cur))) (yTut ρ (yT φ (yDo φ (u cur) x))) = some (yTut ρ (yT φ (u cur))) := by
          rw [ym_begin _ (s := yTN φ (u cur)) (by omega) N]
          unfold yTN
          rw [yTu_num O S, yTut_put]
        rw [yG (xI_in (by omega) (by decide)), xI_cl (by omega), yTut_c _ _ (by decide), e15, bg, yBV, add1, ym_nx O Fρ S (N := N) (by omega) (a := x + 1) (by omega), yBd]
      have seen : (ν.1 14 (yTN φ (yDo φ (u cur) x)) = 0) = ¬ ∃ j, j < n ∧ u j = yDo φ (u cur) x := by
        apply propext
        constructor
        · rintro h ⟨j, hj, e⟩
          have := (H.2.1 j hj).2
          rw [e, h] at this
          cases this
        · intro h
          refine H.2.2 _ lt fun j hj e => h ⟨j, hj, ?_⟩
          exact yTN_inj O (X.1 j hj).1 T (X.1 j hj).2.1 no2 e
      by_cases g : ∃ j, j < n ∧ u j = yDo φ (u cur) x
      · rw [if_neg (show ¬ ν.1 14 (yTN φ (yDo φ (u cur) x)) = 0 by rw [seen]; exact fun h => h g), tail ν F (H.2.1 cur hc).1]
        refine ih M (x + 1) n u ν (by omega) (by omega) (by omega) hc F ⟨X.1, X.2.1, X.2.2.1, fun i hi y ey c => ?_⟩ H
        rcases c with c | ⟨c1, c2⟩
        · exact X2.2.2.2 i hi y ey (Or.inl c)
        · by_cases q : y = x
          · subst q; subst c1; exact g
          · exact X2.2.2.2 i hi y ey (Or.inr ⟨c1, by omega⟩)
      · rw [if_pos (show ν.1 14 (yTN φ (yDo φ (u cur) x)) = 0 by rw [seen]; exact g)]
        have un : (fun i => if i = n then yDo φ (u cur) x else u i) n = yDo φ (u cur) x := if_pos rfl
        have uo : ∀ i, i < n → (fun i => if i = n then yDo φ (u cur) x else u i) i = u i := fun i hi => if_neg (by omega)
        have X3 : yXp φ σ (n + 1) (fun i => if i = n then yDo φ (u cur) x else u i) cur (x + 1) := by
          generalize (fun i => if i = n then yDo φ (u cur) x else u i) = w at un uo
          refine ⟨fun i hi => ?_, fun i j hi hj e => ?_, ?_, fun i hi y ey c => ?_⟩
          · by_cases q : i = n
            · rw [q, un]
              refine ⟨T, no2, l0 ++ [x], ?_⟩
              rw [yRun_snoc, r0]
              show (if yEb φ (u cur) x = true then some (yDo φ (u cur) x) else none) = _
              rw [if_pos ex]
            · rw [uo i (by omega)]; exact X.1 i (by omega)
          · by_cases q : i = n
            · by_cases q2 : j = n
              · omega
              · rw [q, un, uo j (by omega)] at e
                exact absurd ⟨j, by omega, e.symm⟩ g
            · by_cases q2 : j = n
              · rw [q2, un, uo i (by omega)] at e
                exact absurd ⟨i, by omega, e⟩ g
              · rw [uo i (by omega), uo j (by omega)] at e
                exact X.2.1 i j (by omega) (by omega) e
          · obtain ⟨i, hi, e⟩ := X.2.2.1
            exact ⟨i, by omega, by rw [uo i hi]; exact e⟩
          · have hi' : i < n := by
              rcases c with c | ⟨c1, c2⟩ <;> omega
            rw [uo i hi'] at ey ⊢
            have old : (i < cur ∨ (i = cur ∧ y < x)) → ∃ j, j < n + 1 ∧ w j = yDo φ (u i) y := fun c => by
              obtain ⟨j, hj, e⟩ := X2.2.2.2 i hi' y ey c
              exact ⟨j, by omega, by rw [uo j hj]; exact e⟩
            rcases c with c | ⟨c1, c2⟩
            · exact old (Or.inl c)
            · by_cases q : y = x
              · subst q; subst c1
                exact ⟨n, by omega, un⟩
              · exact old (Or.inr ⟨c1, by omega⟩)
        have n1 : n < 94080 := by have := X3.le O; omega
        have en : (yTut (wSI ν 14 (yTN φ (yDo φ (u cur) x)) 1) (yT φ (yDo φ (u cur) x))).1 0 34 = nI n := by
          rw [yTut_o _ _ (by omega), yS_get, if_neg (by omega)]; exact H.1
        have addn : nI n + (1 : Int32) = nI (n + 1) := nI_add n 1
        have e34 : ∀ v, (yTut (wSI (wSI ν 14 (yTN φ (yDo φ (u cur) x)) 1) 15 n v) (yT φ (yDo φ (u cur) x))).1 0 34 = nI n := fun v => by
          rw [yTut_o _ _ (by omega), yS_get, if_neg (by omega), yS_get, if_neg (by omega)]; exact H.1
        rw [yG (show ok_in (nI (yTn (yT φ (yDo φ (u cur) x)))) 94080 = true from xI_in lt (by decide)), yTut_com _ _ (by omega), en, yG (xI_in n1 (by decide)), xI_cl (by omega), yTut_com _ _ (by omega), e34, addn, yTut_com _ _ (by omega)]
        have H3 : yXm φ (n + 1) (fun i => if i = n then yDo φ (u cur) x else u i) (wSI (wSI (wSI ν 14 (yTN φ (yDo φ (u cur) x)) 1) 15 n (nI (yTn (yT φ (yDo φ (u cur) x))))) 0 34 (nI (n + 1))) := by
          generalize (fun i => if i = n then yDo φ (u cur) x else u i) = w at un uo
          have r14 : ∀ s, (wSI (wSI (wSI ν 14 (yTN φ (yDo φ (u cur) x)) 1) 15 n (nI (yTn (yT φ (yDo φ (u cur) x))))) 0 34 (nI (n + 1))).1 14 s = if s = yTN φ (yDo φ (u cur) x) then 1 else ν.1 14 s := fun s => by
            rw [yS_get, if_neg (by omega), yS_get, if_neg (by omega), yS_get]
            by_cases q : s = yTN φ (yDo φ (u cur) x)
            · rw [if_pos ⟨rfl, q⟩, if_pos q]
            · rw [if_neg (fun h => q h.2), if_neg q]
          refine ⟨by rw [yS_get, if_pos ⟨rfl, rfl⟩], fun i hi => ?_, fun s hs q => ?_⟩
          · rw [r14, yS_get, if_neg (by omega), yS_get]
            by_cases q : i = n
            · rw [if_pos ⟨rfl, q⟩, q, un, if_pos rfl]
              exact ⟨rfl, rfl⟩
            · rw [if_neg (fun h => q h.2), uo i (by omega), yS_get, if_neg (by omega)]
              refine ⟨(H.2.1 i (by omega)).1, ?_⟩
              split
              · rfl
              · exact (H.2.1 i (by omega)).2
          · rw [r14, if_neg (fun e => q n (by omega) (by rw [un]; exact e.symm))]
            exact H.2.2 s hs fun i hi e => q i (by omega) (by rw [uo i hi]; exact e)
        have k3 : yKx ν (wSI (wSI (wSI ν 14 (yTN φ (yDo φ (u cur) x)) 1) 15 n (nI (yTn (yT φ (yDo φ (u cur) x))))) 0 34 (nI (n + 1))) := ⟨fun c i c1 c2 c3 => by
          rw [yS_get, if_neg (fun q => (c3 q.1).1 q.2), yS_get, if_neg (fun q => c2 q.1), yS_get, if_neg (fun q => c1 q.1)], rfl⟩
        have uc := uo cur hc
        generalize (fun i => if i = n then yDo φ (u cur) x else u i) = w at un uo X3 H3 uc
        generalize (wSI (wSI (wSI ν 14 (yTN φ (yDo φ (u cur) x)) 1) 15 n (nI (yTn (yT φ (yDo φ (u cur) x))))) 0 34 (nI (n + 1))) = ν3 at H3 k3
        have F3 := k3.fm F
        have e15 : ν3.1 15 cur = nI (yTN φ (u cur)) := by have := (H3.2.1 cur (by omega)).1; rwa [uc] at this
        rw [tail ν3 F3 e15]
        obtain ⟨n1, u1, ν1, i1, i2, i3, i4, i5, i6⟩ := ih M (x + 1) (n + 1) w ν3 (by omega) (by omega) (by omega) (by omega) F3 X3 H3
        rw [uc] at i1
        exact ⟨n1, u1, ν1, i1, by omega, fun i hi => by rw [i3 i (by omega), uo i hi], i4, i5, k3.trans i6⟩
