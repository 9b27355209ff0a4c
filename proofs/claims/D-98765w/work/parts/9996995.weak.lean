set_option maxRecDepth 100000
/-! part 9996995: laying where acts need not be possible but for their sides (printed by mkweak.py) -/
def ySid (σ : ySt) (a : Nat) : Prop := a ≠ 200 → yBit σ.ov (a % 10) = σ.sd ∧ (a % 100 / 10 ≠ 0 → a % 10 ≠ a % 100 / 10 - 1)
def yGw (φ : Nat → Nat → Nat) : Prop := ∀ i, i < φ 0 6 → yAct φ (φ 6 i) ∧ ySid (yLay φ i) (φ 6 i)
theorem yGo.w {φ : Nat → Nat → Nat} (G : yGo φ) : yGw φ := fun i hi => ⟨(G i hi).1, fun h => yCan_side (G i hi).2 h⟩
theorem yLay_okw {φ : Nat → Nat → Nat} (O : yOk φ) (G : yGw φ) : ∀ i, i ≤ φ 0 6 → ySok φ (yLay φ i)
  | 0, _ => yFirst_ok φ
  | i + 1, h => yDo_ok O (yLay_okw O G i (by omega)) (G i (by omega)).1
theorem yc_lay_loopw {φ : Nat → Nat → Nat} {μ : wMem} (O : yOk φ) (F : yFC φ μ) (G : yGw φ) (N : Nat) (K : wMem → Option wMem) : ∀ (n M i : Nat), n < M → i + n = φ 0 6 →
    gX0_asItIs_16 N K M (nI i) (yPut (yDR μ (yDays φ i) (yRisks φ i)) (yLay φ i)) = K (yPut (yDR μ (yDays φ (φ 0 6)) (yRisks φ (φ 0 6))) (yLay φ (φ 0 6))) := by
  have h40 := O.acts
  have f6 : ∀ i, (yPut (yDR μ (yDays φ i) (yRisks φ i)) (yLay φ i)).1 1 6 = nI (φ 0 6) := fun i => by rw [yPut_c _ _ (by decide) (by decide)]; exact (yFC_DR F _ _).fld 6 (by decide)
  intro n
  induction n with
  | zero =>
    intro M i hM hi
    obtain ⟨M, rfl⟩ : ∃ q, M = q + 1 := ⟨M - 1, by omega⟩
    show gbX0_asItIs_16 N K _ _ _ = _
    unfold gbX0_asItIs_16
    rw [f6, yIf (xI_le (by omega) (by omega)), if_pos (by omega)]
    have : i = φ 0 6 := by omega
    rw [this]
  | succ n ih =>
    intro M i hM hi
    obtain ⟨M, rfl⟩ : ∃ q, M = q + 1 := ⟨M - 1, by omega⟩
    show gbX0_asItIs_16 N K _ _ _ = _
    unfold gbX0_asItIs_16
    have fa : (yPut (yDR μ (yDays φ i) (yRisks φ i)) (yLay φ i)).1 7 i = nI (φ 6 i) := by rw [yPut_c _ _ (by decide) (by decide)]; exact (yFC_DR F _ _).act i (by omega)
    have ei : nI i + (1 : Int32) = nI (i + 1) := nI_add i 1
    rw [f6, yIf (xI_le (by omega) (by omega)), if_neg (by omega), yG (xI_in (by omega) (by omega)), xI_cl (by omega), fa, yc_does0 O F (yLay_okw O G i (by omega)) N (G i (by omega)).1, yBV]
    unfold wLet
    rw [ei]
    exact ih M (i + 1) (by omega) (by omega)
theorem yc_layw {φ : Nat → Nat → Nat} {μ : wMem} (O : yOk φ) (F : yFC φ μ) (G : yGw φ) {N : Nat} (hN : 41 ≤ N) :
    fX0_asItIs N μ = some (yPut (yDR μ (yDays φ (φ 0 6)) (yRisks φ (φ 0 6))) (yLay φ (φ 0 6))) := by
  have h40 := O.acts
  unfold fX0_asItIs
  rw [yc_first, yBV]
  show gX0_asItIs_16 N _ N (nI 0) (wSI (wSI (yPut μ yFirst) 0 9 (nI 0)) 0 10 (nI 0)) = _
  rw [yDR_0]
  exact yc_lay_loopw O F G N _ (φ 0 6) N 0 (by omega) (by omega)
theorem ym_doesw {φ : Nat → Nat → Nat} {μ : wMem} {σ : ySt} (O : yOk φ) (F : yFM φ 0 μ) (S : ySok φ σ) (N : Nat) {a : Nat} (ha : yAct φ a) (hc : ySid σ a) :
    fX6_does N (nI a) (yTut μ (yT φ σ)) = some (yTut μ (yT φ (yDo φ σ a))) := by
  have hl := ha.le
  have e24 : (yTut μ (yT φ σ)).1 0 24 = nI σ.sd := yTut_24 μ _
  unfold fX6_does
  rw [yIf (xI_e200 (by omega))]
  by_cases h : a = 200
  · rw [if_pos h]
    show some (wSI (yTut μ (yT φ σ)) 0 24 (1 - (yTut μ (yT φ σ)).1 0 24)) = _
    rw [e24, yc_sub1 S.sd, yTut_s24, h, yDo_200]
    rfl
  · rw [if_neg h]
    obtain ⟨h1, h2, h3, h4⟩ := ha.resolve_left h
    obtain ⟨s1, s2⟩ := hc h
    rw [xI_r10 (by omega), xI_rd (by omega), xI_d100 (by omega), ym_crosses O F S N h4 h3 h2 s1 s2, yBV, yDo_cr φ σ h]
theorem ym_goesw {φ : Nat → Nat → Nat} {μ : wMem} (O : yOk φ) (F : yFM φ 0 μ) (G : yGw φ) (N : Nat) {i : Nat} (hi : i < φ 0 6) :
    fX6_goes N (nI (φ 6 i)) (yTut (yLM φ μ i) (yT φ (yLay φ i))) = some (yTut (yLM φ μ (i + 1)) (yT φ (yLay φ (i + 1)))) := by
  obtain ⟨ha, hc⟩ := G i hi
  have S := yLay_okw O G i (by omega)
  have hl := ha.le
  have h6 := O.persons
  have hcnt := yCnt_lt O (i := i) (by omega)
  have q28 : (yTut (yLM φ μ i) (yT φ (yLay φ i))).1 0 28 = nI (yDays φ i) := by rw [yTut_o _ _ (by omega), yLM_28]
  have q30 : (yTut (yLM φ μ i) (yT φ (yLay φ i))).1 0 30 = nI (yCnt φ i) := by rw [yTut_o _ _ (by omega), yLM_30]
  unfold fX6_goes wLet
  dsimp only
  by_cases h : φ 6 i = 200
  · have q7 : (yTut (yLM φ μ i) (yT φ (yLay φ i))).1 7 (Int32.toNatClampNeg (0 : Int32)) = nI (φ 0 0) := by rw [yTut_c _ _ (by decide), yLM_o φ μ (by simp) (by simp)]; exact F.loaf
    have e0 : yLM φ μ (i + 1) = wSI (yLM φ μ i) 0 28 (nI (yDays φ (i + 1))) := by show (if φ 6 i = 200 then _ else _) = _; rw [if_pos h]
    have e1 : yDays φ (i + 1) = yDays φ i + φ 0 0 := by show yDays φ i + _ = _; rw [if_pos h]
    rw [yIf (xI_e200 (by omega)), if_pos h, yG (show ok_in (0 : Int32) 35 = true by decide), q28, q7, nI_add, ← e1, yTut_com _ _ (by omega), ← e0,
      ym_doesw O (yFM_LM F _) S N ha hc, yBV]
    rfl
  · obtain ⟨h1, h2, h3, h4⟩ := ha.resolve_left h
    have h22 := O.posts
    have hsd := S.sd
    have q24 : (yTut (yLM φ μ i) (yT φ (yLay φ i))).1 0 24 = nI (yLay φ i).sd := yTut_24 _ _
    have e10 : (10 : Int32) * nI (φ 6 i / 100) = nI (10 * (φ 6 i / 100)) := xI_mul 10 _
    have d1 : yDays φ (i + 1) = yDays φ i + 1 := by show yDays φ i + _ = _; rw [if_neg h]
    have c1 : yCnt φ (i + 1) = yCnt φ i + 1 := by show yCnt φ i + _ = _; rw [if_neg h]
    have r1 : yRisks φ (i + 1) = yRisks φ i + yRisk φ (φ 6 i % 10) (φ 6 i / 100) := by show yRisks φ i + _ = _; rw [if_neg h]
    have e0 : yLM φ μ (i + 1) = wSI (wSI (wSI (wSI (yLM φ μ i) 13 (yCnt φ i) (nI (10 * (φ 6 i / 100) + (yLay φ i).sd))) 0 30 (nI (yCnt φ (i + 1)))) 0 28 (nI (yDays φ (i + 1)))) 0 29 (nI (yRisks φ (i + 1))) := by
      show (if φ 6 i = 200 then _ else _) = _; rw [if_neg h]
    have t1 : nI (yCnt φ i) + (1 : Int32) = nI (yCnt φ (i + 1)) := by rw [c1]; exact nI_add _ 1
    have t2 : nI (yDays φ i) + (1 : Int32) = nI (yDays φ (i + 1)) := by rw [d1]; exact nI_add _ 1
    have w30 : ∀ v τ, (yTut (wSI (yLM φ μ i) 13 (yCnt φ i) v) τ).1 0 30 = nI (yCnt φ i) := fun v τ => by
      rw [yTut_o _ _ (by omega)]; simp [yS_get, yLM_30]
    have w28 : ∀ v u τ, (yTut (wSI (wSI (yLM φ μ i) 13 (yCnt φ i) v) 0 30 u) τ).1 0 28 = nI (yDays φ i) := fun v u τ => by
      rw [yTut_o _ _ (by omega)]; simp [yS_get, yLM_28]
    have w29 : ∀ v u w τ, (yTut (wSI (wSI (wSI (yLM φ μ i) 13 (yCnt φ i) v) 0 30 u) 0 28 w) τ).1 0 29 = nI (yRisks φ i) := fun v u w τ => by
      rw [yTut_o _ _ (by omega)]; simp [yS_get, yLM_29]
    have wF : ∀ v u w, yFM φ 0 (wSI (wSI (wSI (yLM φ μ i) 13 (yCnt φ i) v) 0 30 u) 0 28 w) := fun v u w => yFM_of (yFM_LM (φ := φ) F i) fun c g1 g2 j => by
      simp only [yS_get]
      simp [show c ≠ 0 by omega, show c ≠ 13 by omega]
    rw [yIf (xI_e200 (by omega)), if_neg h, q30, yG (xI_in (by omega) (by omega)), xI_cl (by omega), xI_d100 (by omega), e10, q24, nI_add, xI_r10 (by omega),
      yTut_com _ _ (by omega), w30, t1, yTut_com _ _ (by omega), w28, t2, yTut_com _ _ (by omega), ym_risk O (yFM_put (wF _ _ _) _) N h4 h2, yBd, w29, nI_add, ← r1, yTut_com _ _ (by omega), ← e0,
      ym_doesw O (yFM_LM F _) S N ha hc, yBV]
    rfl
theorem ym_lay_loopw {φ : Nat → Nat → Nat} {μ : wMem} (O : yOk φ) (F : yFM φ 0 μ) (G : yGw φ) (N : Nat) (K : wMem → Option wMem) : ∀ (n M i : Nat), n < M → i + n = φ 0 6 →
    gX6_lays_6 N K M (nI i) (yTut (yLM φ μ i) (yT φ (yLay φ i))) = K (yTut (yLM φ μ (φ 0 6)) (yT φ (yLay φ (φ 0 6)))) := by
  have h40 := O.acts
  have f6 : ∀ i, (yTut (yLM φ μ i) (yT φ (yLay φ i))).1 7 (Int32.toNatClampNeg (6 : Int32)) = nI (φ 0 6) := fun i => by rw [yTut_c _ _ (by decide)]; exact (yFM_LM F i).acts
  intro n
  induction n with
  | zero =>
    intro M i hM hi
    obtain ⟨M, rfl⟩ : ∃ q, M = q + 1 := ⟨M - 1, by omega⟩
    show gbX6_lays_6 N K _ _ _ = _
    unfold gbX6_lays_6
    rw [yG (show ok_in (6 : Int32) 35 = true by decide), f6, yIf (xI_le (by omega) (by omega)), if_pos (by omega)]
    have : i = φ 0 6 := by omega
    rw [this]
  | succ n ih =>
    intro M i hM hi
    obtain ⟨M, rfl⟩ : ∃ q, M = q + 1 := ⟨M - 1, by omega⟩
    show gbX6_lays_6 N K _ _ _ = _
    unfold gbX6_lays_6
    have fa : (yTut (yLM φ μ i) (yT φ (yLay φ i))).1 11 i = nI (φ 6 i) := by rw [yTut_c _ _ (by decide)]; exact (yFM_LM F i).act (by omega)
    have ei : nI i + (1 : Int32) = nI (i + 1) := nI_add i 1
    rw [yG (show ok_in (6 : Int32) 35 = true by decide), f6, yIf (xI_le (by omega) (by omega)), if_neg (by omega), yG (xI_in (by omega) (by omega)), xI_cl (by omega), fa, ym_goesw O F G N (by omega), yBV]
    unfold wLet
    rw [ei]
    exact ih M (i + 1) (by omega) (by omega)
theorem ym_layw {φ : Nat → Nat → Nat} {μ : wMem} (O : yOk φ) (F : yFM φ 0 μ) (G : yGw φ) {N : Nat} (hN : 41 ≤ N) :
    fX6_lays N μ = some (yTut (yLM φ μ (φ 0 6)) (yT φ (yLay φ (φ 0 6)))) := by
  have h40 := O.acts
  have hb : fX6_begin N (0 : Int32) μ = some (yTut μ (yTu 0)) := ym_begin μ (s := 0) (by decide) N
  unfold fX6_lays fX6_start
  rw [hb, yBV, yT_first φ]
  show gX6_lays_6 N _ N (nI 0) (wSI (wSI (wSI (yTut μ (yT φ yFirst)) 0 28 (nI 0)) 0 29 (nI 0)) 0 30 (nI 0)) = _
  rw [yTut_com _ _ (by omega), yTut_com _ _ (by omega), yTut_com _ _ (by omega)]
  exact ym_lay_loopw O F G N _ (φ 0 6) N 0 (by omega) (by omega)
theorem yq_cost2 {φ : Nat → Nat → Nat} {μ μm : wMem} (W : yBnd) (O : yOk φ) (hl : 0 < φ 0 0) (G : yGo φ) (F : yFC φ μ) (M : yFM φ 0 μm) (Q : ySn μm) {N : Nat} (hN : 200000000000000 ≤ N) {b : Nat} (hb : b < 3) :
    ∃ ν νm, yKC μ ν ∧ yKN μm νm ∧ ySn νm ∧
      ((∃ p s, s < 1000 ∧ p < 200000 ∧ fX0_costNow N (19 + b) μ = some (nI (1000 * p + s), ν) ∧ fX6_seeksNow N 0 0 (nI b) μm = some (nI (10000 * p + s), νm) ∧ (b = 0 → p = 0)) ∨
       (fX0_costNow N (19 + b) μ = some (1000000000, ν) ∧ fX6_seeksNow N 0 0 (nI b) μm = some (2000000000, νm))) := by
  have S := yLay_ok O G (φ 0 6) (Nat.le_refl _)
  have no := yNo_lay (φ := φ) (φ 0 6) (yAct_go G)
  obtain ⟨lr, rr⟩ := yLay_run G (φ 0 6) (Nat.le_refl _)
  obtain ⟨few1, bd⟩ := W φ O hl lr _ rr
  have few : yFew φ b (yLay φ (φ 0 6)) := by
    have : b = 0 ∨ b = 1 ∨ b = 2 := by omega
    rcases this with h | h | h
    · exact yFew_0 O S (Or.inl h)
    · rw [h]; exact few1
    · exact yFew_0 O S (Or.inr h)
  have M1 := M
  obtain ⟨n, f, u, ν, Z, C, kc, rc⟩ := yc_costNow O hl hb (N := N) (by omega) F S few (yc_lay O F G (by omega))
  obtain ⟨n2, u2, v2, ν2, i2, em, hi2, ei2, A2, hn2, X2, H2, L2, k2, Q2, h38⟩ := ym_seeksNow O hl hN hb (w := 0) (s := 0) (by decide) (by decide) (fun q => absurd q (by decide)) (ym_lay O M1 G (by omega)) (yFM_LM M1 _) (ySn_km Q (yKM_LM φ _ _)) S no
  have kn : yKN μm (yTut ν2 (yT φ (yLay φ (φ 0 6)))) := ((yKM_LM φ _ _).kn.trans k2.kn).trans (yKM_put _ _).kn
  have sn : ySn (yTut ν2 (yT φ (yLay φ (φ 0 6)))) := ySn_km Q2 (yKM_put _ _)
  refine ⟨ν, _, (yKC_DR μ _ _).trans kc.kc, kn, sn, ?_⟩
  have tl := L2 i2 hi2
  rw [ei2] at tl
  replace tl : yTl φ b (yIsE φ) (yLay φ (φ 0 6)) (v2 i2) := tl
  rcases rc with ⟨c, h1, h2, h3⟩ | ⟨h1, h2⟩
  · left
    obtain ⟨⟨τ0, p0, l0, r0, _⟩, _⟩ := id h3
    obtain ⟨p, s, s1, p1, mn⟩ := yLex O hb (bd b hb) r0 p0
    have c1 := h3.uniq (mn 1000 (by decide))
    have x1 : v2 i2 = 10000 * p + s := by
      rcases tl with ⟨_, t⟩ | ⟨_, t⟩
      · exact t.uniq (mn 10000 (by decide))
      · obtain ⟨τ1, q1, w1⟩ := (mn 10000 (by decide)).1
        have := t τ1 _ q1 w1
        omega
    refine ⟨p, s, s1, p1, by rw [h1, c1], by rw [← x1]; exact em, fun b0 => ?_⟩
    subst b0
    obtain ⟨τ1, q1, l1, r1, e1⟩ := (mn 1000 (by decide)).1
    obtain ⟨τ2, q2, l2, r2, e2⟩ := (mn 2000 (by decide)).1
    have z : ∀ l, yPr φ 0 l = 0 := by
      intro m
      induction m with
      | nil => rfl
      | cons a m ih => show yPr1 φ 0 a + yPr φ 0 m = 0; rw [ih]; rfl
    rw [yCs_two φ 1000 (by decide), z] at e1
    rw [yCs_two φ 2000 (by decide), z] at e2
    have m1 := (mn 2000 (by decide)).2 τ1 _ q1 ⟨l1, r1, rfl⟩
    rw [yCs_two φ 2000 (by decide), z] at m1
    omega
  · right
    refine ⟨h1, ?_⟩
    rcases tl with ⟨_, ⟨τ1, q1, w1⟩, _⟩ | ⟨t, _⟩
    · obtain ⟨d, w2⟩ := yW_any (H2 := 1000) (b2 := b) w1
      exact absurd q1 (h2 τ1 d w2)
    · rw [t] at em
      exact em
