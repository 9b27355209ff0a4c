set_option maxRecDepth 100000
/-! part 999694: hopeful -/
/-- what is marked, by the list's places -/
def yOn (n : Nat) (u : Nat → ySt) (o : Nat → Bool) (ν : wMem) : Prop := ∀ i, i < n → ν.1 14 (yNum (u i)) = yB (o i)
/-- all but the state and the marks is as it was -/
def yKo (μ ν : wMem) : Prop := (∀ c i, c ≠ 9 → c ≠ 14 → (c = 0 → i ≠ 5 ∧ i ≠ 6 ∧ i ≠ 7) → ν.1 c i = μ.1 c i) ∧ ν.2 = μ.2
theorem yKo.rfl' (μ : wMem) : yKo μ μ := ⟨fun _ _ _ _ _ => rfl, rfl⟩
theorem yKo.trans {μ ν ρ : wMem} (h : yKo μ ν) (g : yKo ν ρ) : yKo μ ρ := ⟨fun c i a b d => (g.1 c i a b d).trans (h.1 c i a b d), g.2.trans h.2⟩
theorem yKo_put (μ : wMem) (σ : ySt) : yKo μ (yPut μ σ) := ⟨fun _ _ a _ b => yPut_o μ σ b a, rfl⟩
theorem yKo_14 (μ : wMem) (s : Nat) (v : Int32) : yKo μ (wSI μ 14 s v) := ⟨fun c i _ b _ => by rw [yS_get, if_neg (fun q => b q.1)], rfl⟩
theorem yKo.fc {φ : Nat → Nat → Nat} {μ ν : wMem} (h : yKo μ ν) (F : yFC φ μ) : yFC φ ν := yFC_of F fun c h1 h2 i => h.1 c i (by omega) (by omega) (by omega)
theorem yKo.kc {μ ν : wMem} (h : yKo μ ν) : yKC μ ν := fun c i a d => ⟨h.1 c i (by omega) (by omega) (by omega), by rw [h.2]⟩
theorem yKo.seM {n : Nat} {f : Nat → Nat} {u : Nat → ySt} {μ ν : wMem} (h : yKo μ ν) (Z : ySeM n f u μ) : ySeM n f u ν :=
  ⟨Z.1, fun i hi => by rw [h.1 13 _ (by decide) (by decide) (fun q => absurd q (by decide)), h.1 10 _ (by decide) (by decide) (fun q => absurd q (by decide))]; exact Z.2.1 i hi, by rw [h.1 0 21 (by decide) (by decide) (by decide)]; exact Z.2.2⟩
theorem yOn_put {n : Nat} {u : Nat → ySt} {o : Nat → Bool} {μ : wMem} (H : yOn n u o μ) (σ : ySt) : yOn n u o (yPut μ σ) := fun i hi => by rw [yPut_c μ σ (by decide) (by decide)]; exact H i hi
def yOu (o : Nat → Bool) (i : Nat) (v : Bool) : Nat → Bool := fun j => if j = i then v else o j
theorem yOu_s (o : Nat → Bool) (i : Nat) (v : Bool) : yOu o i v i = v := if_pos rfl
theorem yOu_o (o : Nat → Bool) {i j : Nat} (v : Bool) (h : j ≠ i) : yOu o i v j = o j := if_neg h
theorem ySet.nu {φ : Nat → Nat → Nat} {b n : Nat} {σ : ySt} {f : Nat → Nat} {u : Nat → ySt} (O : yOk φ) (Z : ySet φ b σ n f u) {i j : Nat} (hi : i < n) (hj : j < n) (e : yNum (u i) = yNum (u j)) : i = j := Z.2.2.1 i j hi hj (yNum_inj O (Z.1 i hi).1 (Z.1 j hj).1 e)
theorem yOn_set {φ : Nat → Nat → Nat} {b n : Nat} {σ : ySt} {f : Nat → Nat} {u : Nat → ySt} (O : yOk φ) (Z : ySet φ b σ n f u) {o : Nat → Bool} {μ : wMem} (H : yOn n u o μ) {i : Nat} (hi : i < n) (v : Bool) : yOn n u (yOu o i v) (wSI μ 14 (yNum (u i)) (yB v)) := fun j hj => by
  rw [yS_get]
  by_cases q : j = i
  · rw [q, if_pos ⟨rfl, rfl⟩, yOu_s]
  · rw [if_neg (fun h => q (Z.nu O hj hi h.2)), yOu_o o v q]; exact H j hj
theorem ySet.next {φ : Nat → Nat → Nat} {b n : Nat} {σ : ySt} {f : Nat → Nat} {u : Nat → ySt} (Z : ySet φ b σ n f u) {i x : Nat} (hi : i < n) (ex : yEb φ (u i) x = true) : ∃ j, j < n ∧ u j = yDo φ (u i) x :=
  Z.2.1 _ _ ((Z.1 i hi).2.1.snoc ex)
/-- some act from a on leads to one that is marked -/
def yLd (φ : Nat → Nat → Nat) (n : Nat) (u : Nat → ySt) (o : Nat → Bool) (i a : Nat) : Prop := ∃ x j, a ≤ x ∧ yEb φ (u i) x = true ∧ j < n ∧ u j = yDo φ (u i) x ∧ o j = true
theorem yc_lead_loop {φ : Nat → Nat → Nat} (O : yOk φ) {N : Nat} (hN : 200000 ≤ N) {b n : Nat} {σ : ySt} {f : Nat → Nat} {u : Nat → ySt} (Z : ySet φ b σ n f u) {i : Nat} (hi : i < n) {o : Nat → Bool} (K : Int32 → wMem → Option (Int32 × wMem)) : ∀ (d M a : Nat) (ν : wMem), 201 - a ≤ d → d + 1 < M → a ≤ 201 →
    yFC φ ν → yOn n u o ν → ∃ r : Bool, gX0_leadsOn_13 N (nI (yNum (u i))) K M 0 (nI (yNx φ (u i) a)) (yPut ν (u i)) = K (yB r) (yPut ν (u i)) ∧ (r = true ↔ yLd φ n u o i a) := by
  intro d
  induction d with
  | zero =>
    intro M a ν hd hM ha F H
    obtain ⟨M, rfl⟩ : ∃ q, M = q + 1 := ⟨M - 1, by omega⟩
    have : a = 201 := by omega
    subst this
    have e : yNx φ (u i) 201 = 201 := rfl
    refine ⟨false, ?_, ⟨fun h => absurd h (by decide), fun ⟨x, j, h1, ex, _⟩ => by have := yEb_le ex; omega⟩⟩
    rw [e]
    show gbX0_leadsOn_13 N _ _ _ _ _ _ = _
    unfold gbX0_leadsOn_13
    rw [if_pos (by decide)]
    rfl
  | succ d ih =>
    intro M a ν hd hM ha F H
    obtain ⟨M, rfl⟩ : ∃ q, M = q + 1 := ⟨M - 1, by omega⟩
    obtain ⟨l1, l2⟩ := yNx_le φ (u i) ha
    have on := yNx_on φ (u i) ha
    have off : ∀ y, a ≤ y → y < yNx φ (u i) a → yEb φ (u i) y = false := fun y h1 h2 => yNx_off φ (u i) ha h1 h2
    generalize yNx φ (u i) a = x at *
    have e200 : ((200 : Int32) < nI x) = (200 < x) := xI_lt (a := 200) (by decide) (by omega)
    by_cases gx : x = 201
    · subst gx
      refine ⟨false, ?_, ⟨fun h => absurd h (by decide), fun ⟨y, j, h1, ey, _⟩ => ?_⟩⟩
      · show gbX0_leadsOn_13 N _ _ _ _ _ _ = _
        unfold gbX0_leadsOn_13
        rw [yIf e200, if_pos (by omega)]
        rfl
      · have := yEb_le ey
        rw [off y h1 (by omega)] at ey
        cases ey
    · have ex := on gx
      obtain ⟨hx, hc⟩ := yEb_act ex
      have U := (Z.1 i hi).1
      have lti := yNum_lt O U
      obtain ⟨j, hj, ej⟩ := Z.next hi ex
      have ltj := yNum_lt O (Z.1 j hj).1
      have dd := yc_does O F U N hx
      rw [← ej] at dd
      have un : yUn (yNum (u i)) = u i := yUn_num O U
      have add1 : nI x + (1 : Int32) = nI (x + 1) := nI_add x 1
      have nx := yc_nx O F U (N := N) (by omega) (a := x + 1) (by omega)
      have step : gX0_leadsOn_13 N (nI (yNum (u i))) K (M + 1) 0 (nI x) (yPut ν (u i)) = gX0_leadsOn_13 N (nI (yNum (u i))) K M (yB (o j)) (nI (yNx φ (u i) (x + 1))) (yPut ν (u i)) := by
        show gbX0_leadsOn_13 N _ _ _ _ _ _ = _
        unfold gbX0_leadsOn_13 fX0_nextBy wLet
        dsimp only
        rw [yIf e200, if_neg (by omega), if_pos rfl, dd, yBV, yc_state, yBd, yBd, yG (xI_in ltj (by decide)), xI_cl (by omega), yPut_c ν _ (by decide) (by decide), H j hj, yc_be _ (s := yNum (u i)) (by omega) N, yBV, un, yPut_put, add1, nx, yBd]
      rw [step]
      by_cases g : o j = true
      · refine ⟨true, ?_, ⟨fun _ => ⟨x, j, l1, ex, hj, ej, g⟩, fun _ => rfl⟩⟩
        obtain ⟨M, rfl⟩ : ∃ q, M = q + 1 := ⟨M - 1, by omega⟩
        rw [g]
        show gbX0_leadsOn_13 N _ _ _ _ _ _ = _
        unfold gbX0_leadsOn_13
        by_cases q : (200 : Int32) < nI (yNx φ (u i) (x + 1))
        · rw [if_pos q]
        · rw [if_neg q, if_neg (by decide)]
      · have g2 : o j = false := by simpa using g
        rw [g2]
        obtain ⟨r, i1, i2⟩ := ih M (x + 1) ν (by omega) (by omega) (by omega) F H
        refine ⟨r, i1, i2.trans ⟨fun ⟨y, k, h1, ey, r1⟩ => ⟨y, k, by omega, ey, r1⟩, fun ⟨y, k, h1, ey, hk, ek, ok⟩ => ?_⟩⟩
        refine ⟨y, k, ?_, ey, hk, ek, ok⟩
        by_cases q : y < x
        · rw [off y h1 q] at ey; cases ey
        · by_cases q2 : y = x
          · subst q2
            have : k = j := Z.2.2.1 k j hk hj (ek.trans ej.symm)
            subst this
            exact absurd ok g
          · omega
theorem yc_leadsOn {φ : Nat → Nat → Nat} (O : yOk φ) {N : Nat} (hN : 200000 ≤ N) {b n : Nat} {σ : ySt} {f : Nat → Nat} {u : Nat → ySt} (Z : ySet φ b σ n f u) {i : Nat} (hi : i < n) {o : Nat → Bool} {ν : wMem} (F : yFC φ ν) (H : yOn n u o ν) :
    ∃ r ν1, fX0_leadsOn N (nI (yNum (u i))) ν = some (yB r, ν1) ∧ (r = true ↔ yLd φ n u o i 0) ∧ yOn n u (yOu o i r) ν1 ∧ yKo ν ν1 := by
  have U := (Z.1 i hi).1
  have lti := yNum_lt O U
  have un : yUn (yNum (u i)) = u i := yUn_num O U
  have nx := yc_nx O F U (N := N) (by omega) (a := 0) (by omega)
  obtain ⟨r, i1, i2⟩ := yc_lead_loop O hN Z hi (o := o) (fun (x19 : Int32) (μ18 : wMem) => wG (ok_in (nI (yNum (u i))) 100352) (wG (ok_b x19) (wLet (wSI μ18 14 (Int32.toNatClampNeg (nI (yNum (u i)))) x19) fun μ22 => wG (ok_b x19) (some (x19, μ22))))) 201 N 0 ν (by omega) (by omega) (by omega) F H
  refine ⟨r, wSI (yPut ν (u i)) 14 (yNum (u i)) (yB r), ?_, i2, yOn_set O Z (yOn_put H _) hi r, (yKo_put _ _).trans (yKo_14 _ _ _)⟩
  unfold fX0_leadsOn
  rw [yc_be ν (s := yNum (u i)) (by omega) N, yBV, un]
  refine Eq.trans (congrArg (fun z => wBind z _) nx) ?_
  rw [yBd]
  refine i1.trans ?_
  rw [yG (xI_in lti (by decide)), yG (yB_ok r)]
  unfold wLet
  dsimp only
  rw [yG (yB_ok r), xI_cl (by omega)]
theorem yCn_mono {p q : Nat → Bool} : ∀ n, (∀ i, i < n → p i = true → q i = true) → yCn p n ≤ yCn q n ∧ (yCn p n = yCn q n → ∀ i, i < n → q i = p i)
  | 0, _ => ⟨Nat.le_refl _, fun _ i hi => absurd hi (by omega)⟩
  | n + 1, h => by
    obtain ⟨a, b⟩ := yCn_mono n fun i hi => h i (by omega)
    have c := h n (by omega)
    show yCn p n + (if p n = true then 1 else 0) ≤ yCn q n + (if q n = true then 1 else 0) ∧ (yCn p n + (if p n = true then 1 else 0) = yCn q n + (if q n = true then 1 else 0) → _)
    by_cases g : p n = true
    · rw [g, c g]
      refine ⟨by omega, fun e i hi => ?_⟩
      by_cases z : i = n
      · rw [z, g, c g]
      · exact b (by omega) i (by omega)
    · have g2 : p n = false := by simpa using g
      rw [g2]
      by_cases k : q n = true
      · rw [k]
        refine ⟨by simp; omega, fun e => ?_⟩
        simp at e
        omega
      · have k2 : q n = false := by simpa using k
        rw [k2]
        refine ⟨by simpa using a, fun e i hi => ?_⟩
        by_cases z : i = n
        · rw [z, g2, k2]
        · exact b (by simpa using e) i (by omega)
/-- the end can be come to -/
def yHo (φ : Nat → Nat → Nat) (τ : ySt) : Prop := ∃ l ρ, yRun φ τ l = some ρ ∧ yIsE φ ρ
theorem yHo.cons {φ : Nat → Nat → Nat} {τ : ySt} {x : Nat} (ex : yEb φ τ x = true) (h : yHo φ (yDo φ τ x)) : yHo φ τ := by
  obtain ⟨l, ρ, r, e⟩ := h
  refine ⟨x :: l, ρ, ?_, e⟩
  show (if yEb φ τ x = true then yRun φ (yDo φ τ x) l else none) = _
  rw [if_pos ex, r]
theorem yc_hope_pass {φ : Nat → Nat → Nat} (O : yOk φ) {N : Nat} (hN : 200000 ≤ N) {b n : Nat} {σ : ySt} {f : Nat → Nat} {u : Nat → ySt} (Z : ySet φ b σ n f u) (x3 : Int32) (K : Int32 → wMem → Option (Int32 × wMem)) : ∀ (k M : Nat) (o : Nat → Bool) (ν : wMem), k < M → k ≤ n → n ≤ 100352 →
    yFC φ ν → ySeM n f u ν → yOn n u o ν → (∀ i, i < n → o i = true → yHo φ (u i)) →
    ∃ o1 ν1, gX0_hopeful_88 N x3 K M (nI (yCn o n)) (nI k - 1) ν = K (nI (yCn o1 n)) ν1 ∧ yOn n u o1 ν1 ∧ yKo ν ν1 ∧ (∀ i, i < n → o1 i = true → yHo φ (u i)) ∧ (∀ i, i < n → o i = true → o1 i = true) ∧ (yCn o n = yCn o1 n → ∀ i, i < k → o i = true ∨ ¬ yLd φ n u o i 0) := by
  intro k
  induction k with
  | zero =>
    intro M o ν hM hk hn F C H s
    obtain ⟨M, rfl⟩ : ∃ q, M = q + 1 := ⟨M - 1, by omega⟩
    refine ⟨o, ν, ?_, H, yKo.rfl' _, s, fun _ _ h => h, fun _ i hi => absurd hi (by omega)⟩
    show gbX0_hopeful_88 N _ _ _ _ _ _ = _
    unfold gbX0_hopeful_88
    rw [if_pos (by decide)]
  | succ k ih =>
    intro M o ν hM hk hn F C H s
    obtain ⟨M, rfl⟩ : ∃ q, M = q + 1 := ⟨M - 1, by omega⟩
    have hk' : k < n := by omega
    have U := (Z.1 k hk').1
    have lt := yNum_lt O U
    obtain ⟨c13, c10⟩ := C.2.1 k hk'
    have pk : nI (k + 1) - (1 : Int32) = nI k := xI_pred (z := k + 1) (by omega)
    have m2 := xI_m2 k
    rw [pk] at m2
    have z0 : ∀ a : Int32, a + 0 = a := fun a => Int32.add_zero a
    by_cases g : o k = true
    · obtain ⟨o1, ν1, i1, i2, i3, i4, i5, i6⟩ := ih M o ν (by omega) (by omega) hn F C H s
      refine ⟨o1, ν1, ?_, i2, i3, i4, i5, fun e i hi => ?_⟩
      · refine Eq.trans ?_ i1
        show gbX0_hopeful_88 N _ _ _ _ _ _ = _
        unfold gbX0_hopeful_88 wLet
        dsimp only
        rw [yIf (xI_neg1 (k := k + 1) (by omega)), if_neg (by omega), pk, yG (xI_in (by omega) (by decide)), xI_cl (by omega), c13, yG (xI_in lt (by decide)), xI_cl (by omega), H k hk', g, if_neg (by decide), m2, z0]
      · by_cases q : i = k
        · rw [q]; exact Or.inl g
        · exact i6 e i (by omega)
    · have g2 : o k = false := by simpa using g
      obtain ⟨r, ν2, l1, l2, l3, l4⟩ := yc_leadsOn O hN Z hk' F H
      have C2 := l4.seM C
      have s2 : ∀ i, i < n → yOu o k r i = true → yHo φ (u i) := fun i hi h => by
        by_cases q : i = k
        · subst q
          rw [yOu_s] at h
          obtain ⟨x, j, _, ex, hj, ej, oj⟩ := l2.mp h
          exact yHo.cons ex (by rw [← ej]; exact s j hj oj)
        · rw [yOu_o o r q] at h; exact s i hi h
      obtain ⟨o1, ν1, i1, i2, i3, i4, i5, i6⟩ := ih M (yOu o k r) ν2 (by omega) (by omega) hn (l4.fc F) C2 l3 s2
      have up : ∀ i, i < n → o i = true → yOu o k r i = true := fun i hi h => by
        by_cases q : i = k
        · rw [q] at h; exact absurd h g
        · rw [yOu_o o r q]; exact h
      have cnt : nI (yCn o n) + (if r = true then (1 : Int32) else 0) = nI (yCn (yOu o k r) n) := by
        cases hr : r with
        | false =>
          rw [if_neg (by decide), z0]
          congr 1
          exact yCn_eq n fun i _ => by
            by_cases q : i = k
            · rw [q, yOu_s, g2]
            · rw [yOu_o o _ q]
        | true =>
          rw [if_pos rfl, yCn_one (p := o) (q := yOu o k true) (i := k) g2 (yOu_s _ _ _) (fun j hj => yOu_o o _ hj) n hk']
          exact nI_add _ 1
      refine ⟨o1, ν1, ?_, i2, l4.trans i3, i4, fun i hi h => i5 i hi (up i hi h), fun e i hi => ?_⟩
      · refine Eq.trans ?_ i1
        show gbX0_hopeful_88 N _ _ _ _ _ _ = _
        unfold gbX0_hopeful_88 wLet
        dsimp only
        rw [yIf (xI_neg1 (k := k + 1) (by omega)), if_neg (by omega), pk, yG (xI_in (by omega) (by decide)), xI_cl (by omega), c13, yG (xI_in lt (by decide)), xI_cl (by omega), H k hk', g2, if_pos (by decide), yG (xI_in (by omega) (by decide)), l1, yBd, m2, ← cnt, yIf (yB_0 r)]
        cases r with
        | false => rw [if_pos rfl, if_neg (by decide)]
        | true => rw [if_neg (by decide), if_pos rfl]
      · have e1 := yCn_mono n up
        have e2 := yCn_mono n i5
        have er := e1.2 (by omega) k hk'
        rw [yOu_s, g2] at er
        have same : ∀ i, i < n → yOu o k r i = o i := e1.2 (by omega)
        by_cases q : i = k
        · subst q
          right
          rw [← l2, er]
          decide
        · rcases i6 (by omega) i (by omega) with y | y
          · left; rw [← same i (by omega)]; exact y
          · right
            intro ⟨x, j, h1, ex, hj, ej, oj⟩
            exact y ⟨x, j, h1, ex, hj, ej, by rw [same j hj]; exact oj⟩
theorem yc_hope_main {φ : Nat → Nat → Nat} (O : yOk φ) {N : Nat} (hN : 200000 ≤ N) {b n : Nat} {σ : ySt} {f : Nat → Nat} {u : Nat → ySt} (Z : ySet φ b σ n f u) (K : Int32 → wMem → Option (Int32 × wMem)) : ∀ (D M : Nat) (o : Nat → Bool) (ν : wMem), n - yCn o n ≤ D → D + 1 < M → n ≤ 100352 →
    yFC φ ν → ySeM n f u ν → yOn n u o ν → (∀ i, i < n → o i = true → yHo φ (u i)) →
    ∃ o1 ν1, gX0_hopeful_74 N K M (nI (yCn o n)) 1 ν = K (nI (yCn o1 n)) ν1 ∧ yKo ν ν1 ∧ (∀ i, i < n → o1 i = true → yHo φ (u i)) ∧ (∀ i, i < n → o i = true → o1 i = true) ∧ ∀ i, i < n → o1 i = true ∨ ¬ yLd φ n u o1 i 0 := by
  intro D
  induction D with
  | zero =>
    intro M o ν hD hM hn F C H s
    obtain ⟨M, rfl⟩ : ∃ q, M = q + 1 := ⟨M - 1, by omega⟩
    obtain ⟨M, rfl⟩ : ∃ q, M = q + 1 := ⟨M - 1, by omega⟩
    obtain ⟨o1, ν1, i1, i2, i3, i4, i5, i6⟩ := yc_hope_pass O hN Z (nI (yCn o n)) (fun (x48 : Int32) (μ47 : wMem) => wLet (fun (v50 : Int32) (μ49 : wMem) => gX0_hopeful_74 N K (M + 1) x48 v50 μ49) fun Jhopeful146 => if x48 ≤ nI (yCn o n) then Jhopeful146 0 μ47 else Jhopeful146 1 μ47) n N o ν (by omega) (Nat.le_refl _) hn F C H s
    obtain ⟨m1, m2⟩ := yCn_mono n i5
    have top := yCn_le o1 n
    have eq : yCn o n = yCn o1 n := by omega
    have same := m2 eq
    have cl : nI (yCn o1 n) ≤ nI (yCn o n) := by rw [eq]; exact Int32.le_rfl
    refine ⟨o1, ν1, ?_, i3, i4, i5, fun i hi => ?_⟩
    · show gbX0_hopeful_74 N _ _ _ _ _ = _
      unfold gbX0_hopeful_74 wLet
      dsimp only
      rw [if_neg (by decide), C.2.2]
      refine i1.trans ?_
      unfold wLet
      dsimp only
      rw [if_pos cl]
      show gbX0_hopeful_74 N _ _ _ _ _ = _
      unfold gbX0_hopeful_74
      rw [if_pos rfl]
    · rcases i6 eq i hi with y | y
      · left; rw [same i hi]; exact y
      · right
        intro ⟨x, j, h1, ex, hj, ej, oj⟩
        exact y ⟨x, j, h1, ex, hj, ej, by rw [← same j hj]; exact oj⟩
  | succ D ih =>
    intro M o ν hD hM hn F C H s
    obtain ⟨M, rfl⟩ : ∃ q, M = q + 1 := ⟨M - 1, by omega⟩
    obtain ⟨o1, ν1, i1, i2, i3, i4, i5, i6⟩ := yc_hope_pass O hN Z (nI (yCn o n)) (fun (x48 : Int32) (μ47 : wMem) => wLet (fun (v50 : Int32) (μ49 : wMem) => gX0_hopeful_74 N K M x48 v50 μ49) fun Jhopeful146 => if x48 ≤ nI (yCn o n) then Jhopeful146 0 μ47 else Jhopeful146 1 μ47) n N o ν (by omega) (Nat.le_refl _) hn F C H s
    obtain ⟨m1, m2⟩ := yCn_mono n i5
    have t0 := yCn_le o n
    have t1 := yCn_le o1 n
    have cle : (nI (yCn o1 n) ≤ nI (yCn o n)) = (yCn o1 n ≤ yCn o n) := xI_le (by omega) (by omega)
    have st : gX0_hopeful_74 N K (M + 1) (nI (yCn o n)) 1 ν = if yCn o1 n ≤ yCn o n then gX0_hopeful_74 N K M (nI (yCn o1 n)) 0 ν1 else gX0_hopeful_74 N K M (nI (yCn o1 n)) 1 ν1 := by
      show gbX0_hopeful_74 N _ _ _ _ _ = _
      unfold gbX0_hopeful_74 wLet
      dsimp only
      rw [if_neg (by decide), C.2.2]
      refine i1.trans ?_
      unfold wLet
      dsimp only
      rw [yIf cle]
    rw [st]
    by_cases g : yCn o1 n ≤ yCn o n
    · obtain ⟨M, rfl⟩ : ∃ q, M = q + 1 := ⟨M - 1, by omega⟩
      have eq : yCn o n = yCn o1 n := by omega
      have same := m2 eq
      refine ⟨o1, ν1, ?_, i3, i4, i5, fun i hi => ?_⟩
      · rw [if_pos g]
        show gbX0_hopeful_74 N _ _ _ _ _ = _
        unfold gbX0_hopeful_74
        rw [if_pos rfl]
      · rcases i6 eq i hi with y | y
        · left; rw [same i hi]; exact y
        · right
          intro ⟨x, j, h1, ex, hj, ej, oj⟩
          exact y ⟨x, j, h1, ex, hj, ej, by rw [← same j hj]; exact oj⟩
    · rw [if_neg g]
      obtain ⟨o2, ν2, j1, j2, j3, j4, j5⟩ := ih M o1 ν1 (by omega) (by omega) hn (i3.fc F) (i3.seM C) i2 i4
      exact ⟨o2, ν2, j1, i3.trans j2, j3, fun i hi h => j4 i hi (i5 i hi h), j5⟩
theorem yc_hope_init {φ : Nat → Nat → Nat} (O : yOk φ) (N : Nat) {b n : Nat} {σ : ySt} {f : Nat → Nat} {u : Nat → ySt} (Z : ySet φ b σ n f u) (K : Int32 → wMem → Option (Int32 × wMem)) : ∀ (d M i : Nat) (ν : wMem), i + d = n → d < M → yFC φ ν → ySeM n f u ν → (∀ j, j < i → ν.1 14 (yNum (u j)) = yB (decide ((u j).ov = yEnd φ))) →
    ∃ ν1, yKo ν ν1 ∧ gX0_hopeful_18 N K M (nI (yCn (fun j => decide ((u j).ov = yEnd φ)) i)) (nI i) ν = K (nI (yCn (fun j => decide ((u j).ov = yEnd φ)) n)) ν1 ∧ yOn n u (fun j => decide ((u j).ov = yEnd φ)) ν1 := by
  intro d
  induction d with
  | zero =>
    intro M i ν hd hM F C H
    obtain ⟨M, rfl⟩ : ∃ q, M = q + 1 := ⟨M - 1, by omega⟩
    have : i = n := by omega
    subst this
    refine ⟨ν, yKo.rfl' _, ?_, H⟩
    show gbX0_hopeful_18 N _ _ _ _ _ = _
    unfold gbX0_hopeful_18
    rw [C.2.2, if_pos Int32.le_rfl]
  | succ d ih =>
    intro M i ν hd hM F C H
    obtain ⟨M, rfl⟩ : ∃ q, M = q + 1 := ⟨M - 1, by omega⟩
    have hn := C.1
    have hi' : i < n := by omega
    have e : (nI n ≤ nI i) = (n ≤ i) := xI_le (by omega) (by omega)
    have U := (Z.1 i hi').1
    have lt := yNum_lt O U
    obtain ⟨c13, c10⟩ := C.2.1 i hi'
    have un : yUn (yNum (u i)) = u i := yUn_num O U
    have add1 : nI i + (1 : Int32) = nI (i + 1) := nI_add i 1
    have k1 : yKo ν (wSI (yPut ν (u i)) 14 (yNum (u i)) (yB (decide ((u i).ov = yEnd φ)))) := (yKo_put _ _).trans (yKo_14 _ _ _)
    have com : wSI (yPut ν (u i)) 14 (yNum (u i)) (yB (decide ((u i).ov = yEnd φ))) = yPut (wSI ν 14 (yNum (u i)) (yB (decide ((u i).ov = yEnd φ)))) (u i) := by
      apply yM_ext
      · intro c k
        simp only [yPut, yS_get]
        repeat' split
        all_goals first | rfl | (exfalso; omega)
      · rfl
    have F1 : yFC φ (wSI ν 14 (yNum (u i)) (yB (decide ((u i).ov = yEnd φ)))) := (yKo_14 _ _ _).fc F
    obtain ⟨ν1, j1, j2, j3⟩ := ih M (i + 1) (wSI (yPut ν (u i)) 14 (yNum (u i)) (yB (decide ((u i).ov = yEnd φ)))) (by omega) (by omega) (k1.fc F) (k1.seM C) (fun j hj => by
      rw [yS_get]
      by_cases q : j = i
      · subst q; rw [if_pos ⟨rfl, rfl⟩]
      · rw [if_neg (fun y => q (Z.nu O (by omega) hi' y.2)), yPut_c ν _ (by decide) (by decide)]; exact H j (by omega))
    refine ⟨ν1, k1.trans j1, ?_, j3⟩
    refine Eq.trans ?_ j2
    have cnt : nI (yCn (fun j => decide ((u j).ov = yEnd φ)) i) + (if decide ((u i).ov = yEnd φ) = false then (0 : Int32) else 1) = nI (yCn (fun j => decide ((u j).ov = yEnd φ)) (i + 1)) := by
      show _ = nI (yCn (fun j => decide ((u j).ov = yEnd φ)) i + (if decide ((u i).ov = yEnd φ) = true then 1 else 0))
      cases decide ((u i).ov = yEnd φ) with
      | false => rw [if_pos rfl, if_neg (by decide)]; exact Int32.add_zero _
      | true => rw [if_neg (by decide), if_pos rfl]; exact nI_add _ 1
    show gbX0_hopeful_18 N _ _ _ _ _ = _
    unfold gbX0_hopeful_18 wLet
    dsimp only
    rw [C.2.2, yIf e, if_neg (by omega), yG (xI_in (by omega) (by decide)), xI_cl (by omega), c13, yc_be ν (s := yNum (u i)) (by omega) N, yBV, un, yG (xI_in (by omega) (by decide)), yc_end O F U N, yBd, yPut_c ν _ (by decide) (by decide), c13, yG (xI_in lt (by decide)), yG (yB_ok _), xI_cl (by omega), com, yc_end O F1 U N, yBd, yIf (yB_0 _), add1, ← cnt]
    by_cases g : decide ((u i).ov = yEnd φ) = false
    · rw [if_pos g, if_pos g]
    · rw [if_neg g, if_neg g]
theorem ym_hope_loop {φ : Nat → Nat → Nat} (O : yOk φ) (N : Nat) {n : Nat} {σ : ySt} {u : Nat → ySt} {v : Nat → Nat} (A : yAll φ σ n u) (hn : n ≤ 94080) {ν : wMem} (X : yXm φ n u ν) (H : yLv φ n u v ν) (hv : ∀ i, i < n → v i ≤ 2000000000) (K : Int32 → wMem → Option (Int32 × wMem)) : ∀ (d M i : Nat), i + d = n → d < M →
    gX6_hopeful_31 N K M (nI (yCn (fun j => decide (v j ≠ 2000000000)) i)) (nI i) ν = K (nI (yCn (fun j => decide (v j ≠ 2000000000)) n)) ν := by
  intro d
  induction d with
  | zero =>
    intro M i hd hM
    obtain ⟨M, rfl⟩ : ∃ q, M = q + 1 := ⟨M - 1, by omega⟩
    have : i = n := by omega
    subst this
    show gbX6_hopeful_31 N _ _ _ _ _ = _
    unfold gbX6_hopeful_31
    rw [X.1, if_pos Int32.le_rfl]
  | succ d ih =>
    intro M i hd hM
    obtain ⟨M, rfl⟩ : ∃ q, M = q + 1 := ⟨M - 1, by omega⟩
    have hi' : i < n := by omega
    have e : (nI n ≤ nI i) = (n ≤ i) := xI_le (by omega) (by omega)
    have U := (A.1 i hi').1
    have lt := yTN_lt O U
    have vi := hv i hi'
    have add1 : nI i + (1 : Int32) = nI (i + 1) := nI_add i 1
    have ef : (nI (v i) = (2000000000 : Int32)) = (v i = 2000000000) := xI_eq (b := 2000000000) (by omega) (by decide)
    refine Eq.trans ?_ (ih M (i + 1) (by omega) (by omega))
    have cnt : nI (yCn (fun j => decide (v j ≠ 2000000000)) i) + (if v i = 2000000000 then (0 : Int32) else 1) = nI (yCn (fun j => decide (v j ≠ 2000000000)) (i + 1)) := by
      show _ = nI (yCn (fun j => decide (v j ≠ 2000000000)) i + (if decide (v i ≠ 2000000000) = true then 1 else 0))
      by_cases g : v i = 2000000000
      · rw [if_pos g, if_neg (by simp [g])]; exact Int32.add_zero _
      · rw [if_neg g, if_pos (by simp [g])]; exact nI_add _ 1
    show gbX6_hopeful_31 N _ _ _ _ _ = _
    unfold gbX6_hopeful_31 wLet
    dsimp only
    rw [X.1, yIf e, if_neg (by omega), yG (xI_in (by omega) (by decide)), xI_cl (by omega), (X.2.1 i hi').1, yG (xI_in lt (by decide)), xI_cl (by omega), H i hi', yIf ef, add1, ← cnt]
    by_cases g : v i = 2000000000
    · rw [if_pos g, if_pos g]
    · rw [if_neg g, if_neg g]
theorem yq_hopeful {φ : Nat → Nat → Nat} {μ μm : wMem} (O : yOk φ) (hl : φ 0 1 ≠ 0 → 0 < φ 0 0) (F : yFC φ μ) (M : yFM φ 0 μm) (Q : ySn μm) {N : Nat} (hN : 200000000000000 ≤ N) : yBt3 (fX0_hopeful N) (fX6_hopeful N) μ μm := by
  have M1 := (yKM_0 μm 0).fm M
  by_cases g : φ 0 1 ≠ 0
  · obtain ⟨n, f, u, ν, a1, a2, Z, C⟩ := yc_settled O (hl g) (b := 0) (by decide) (N := N) (by omega) (yFirst_ok φ) (yFew_0 O (yFirst_ok φ) (Or.inl rfl)) F
    have hn := C.1
    have F1 := a2.fc F
    obtain ⟨ν1, k1, b1, H1⟩ := yc_hope_init O N Z (fun (x28 : Int32) (μ27 : wMem) => gX0_hopeful_74 N (fun (x53 : Int32) (μ52 : wMem) => some (x53, μ52)) N x28 1 μ27) n N 0 ν (by omega) (by omega) F1 C (fun j hj => absurd hj (by omega))
    have s1 : ∀ i, i < n → decide ((u i).ov = yEnd φ) = true → yHo φ (u i) := fun i hi h => ⟨[], u i, rfl, (of_decide_eq_true h : (u i).ov = yEnd φ)⟩
    obtain ⟨o, ν2, c1, c2, c3, c4, c5⟩ := yc_hope_main O (N := N) (by omega) Z (fun (x53 : Int32) (μ52 : wMem) => some (x53, μ52)) 100352 N (fun j => decide ((u j).ov = yEnd φ)) ν1 (by omega) (by omega) hn (k1.fc F1) (k1.seM C) H1 s1
    have full : ∀ i, i < n → (o i = true ↔ yHo φ (u i)) := by
      have key : ∀ (l : List Nat) (i : Nat), i < n → ∀ ρ, yRun φ (u i) l = some ρ → yIsE φ ρ → o i = true := by
        intro l
        induction l with
        | nil =>
          intro i hi ρ r e
          have : u i = ρ := Option.some.inj r
          subst this
          exact c4 i hi (decide_eq_true (show (u i).ov = yEnd φ from e))
        | cons x l ih =>
          intro i hi ρ r e
          replace r : (if yEb φ (u i) x = true then yRun φ (yDo φ (u i) x) l else none) = some ρ := r
          by_cases q : yEb φ (u i) x = true
          · rw [if_pos q] at r
            obtain ⟨j, hj, ej⟩ := Z.next hi q
            rw [← ej] at r
            have oj := ih j hj ρ r e
            rcases c5 i hi with y | y
            · exact y
            · exact absurd ⟨x, j, Nat.zero_le _, q, hj, ej, oj⟩ y
          · rw [if_neg q] at r; cases r
      intro i hi
      exact ⟨c3 i hi, fun ⟨l, ρ, r, e⟩ => key l i hi ρ r e⟩
    obtain ⟨n2, u2, ν3, τ3, e3, A, hn2, X, k3, Q3⟩ := ym_explores0 O M1 (ySn_km Q (yKM_0 _ _)) (N := N) (by omega)
    obtain ⟨v, ν4, τ4, e4, H4, L4, k4, k5, h38⟩ := ym_seeks O (hl g) hN (τ := τ3) (b := 0) (w := 0) (s := 0) A hn2 (by decide) (by decide) (by decide) (fun q => absurd q (by decide)) (k3.fm M1) X
    have X4 : yXm φ n2 u2 ν4 := ⟨by rw [k4 0 34 (by decide) (by omega)]; exact X.1, fun i hi => by rw [k4 15 _ (by decide) (by omega), k4 14 _ (by decide) (by omega)]; exact X.2.1 i hi, fun t ht q => by rw [k4 14 _ (by decide) (by omega)]; exact X.2.2 t ht q⟩
    have hv : ∀ i, i < n2 → v i ≤ 2000000000 := fun i hi => by rcases L4 i hi with ⟨h, _⟩ | ⟨h, _⟩ <;> omega
    have vh : ∀ i, i < n2 → (v i ≠ 2000000000 ↔ yHo φ (u2 i)) := fun i hi => by
      have U2 := (A.1 i hi).1
      rcases L4 i hi with ⟨h, ⟨τ, p, l, r, _⟩, _⟩ | ⟨h, q⟩
      · exact ⟨fun _ => ⟨l, τ, r, p⟩, fun _ => by omega⟩
      · refine ⟨fun x => absurd h x, fun ⟨l, τ, r, p⟩ => ?_⟩
        obtain ⟨c', w, hc⟩ := yFew_0 O U2 (b := 0) (Or.inl rfl) τ _ ⟨l, r, rfl⟩
        have := q τ c' p (yW0 w)
        omega
    have ec : yCn o n = yCn (fun j => decide (v j ≠ 2000000000)) n2 := by
      have e1 : yCn o n = yCn (fun i => yD (yHo φ (u i))) n := yCn_eq n fun i hi => by
        rw [Bool.eq_iff_iff, yD_iff]; exact full i hi
      have e2 : yCn (fun j => decide (v j ≠ 2000000000)) n2 = yCn (fun i => yD (yHo φ (u2 i))) n2 := yCn_eq n2 fun i hi => by
        rw [Bool.eq_iff_iff, yD_iff, decide_eq_true_iff]; exact vh i hi
      rw [e1, e2]
      exact yCount2 O Z A (yHo φ)
    have ml := ym_hope_loop O N A hn2 (yXm_put X4 τ4) (yLv_put H4 τ4) hv (fun (x20 : Int32) (μ19 : wMem) => some (x20, μ19)) n2 N 0 (by omega) (by omega)
    have kn4 : yKN ν3 ν4 := fun c i a _ d => ⟨k4 c i (by omega) (by omega), by rw [k5]⟩
    refine yBt3.mk' (v := nI (yCn o n)) (μ1 := ν2) (μm1 := yTut ν4 τ4) ?_ ?_ (a2.kc.trans (k1.trans c2).kc) ((((yKM_0 μm 0).kn.trans k3.kn).trans kn4).trans (yKM_put _ _).kn) (ySn_km (ySn_of Q3 fun c i q => k4 c i (by omega) (by omega)) (yKM_put _ _))
    · unfold fX0_hopeful fX0_settlesAll
      rw [yc_isFamily O F, yBd, yB1 g, yc_first, yBV]
      refine Eq.trans (congrArg (fun z => wBindV (wBindV z _) _) a1) ?_
      rw [yBV, yBV]
      exact b1.trans c1
    · unfold fX6_hopeful wLet
      dsimp only
      rw [ym_isFamily O M1, yBd, yB1 g, e3, yBV]
      refine Eq.trans (congrArg (fun z => wBindV z _) e4) ?_
      rw [yBV, ec]
      exact ml
  · refine yBt3.mk' (v := -2) (μ1 := μ) (μm1 := wSI μm 0 0 0) ?_ ?_ (yKC.rfl' _) (yKM_0 _ _).kn (ySn_km Q (yKM_0 _ _))
    · unfold fX0_hopeful
      rw [yc_isFamily O F, yBd, yB2 g]
    · unfold fX6_hopeful wLet
      dsimp only
      rw [ym_isFamily O M1, yBd, yB2 g]
