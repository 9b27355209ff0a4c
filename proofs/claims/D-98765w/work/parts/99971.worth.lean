set_option maxRecDepth 100000
/-! part 99971: least costs told (printed by mkweak.py) -/
theorem yq_cost3 {φ : Nat → Nat → Nat} {μ μm : wMem} (W : yBnd) (O : yOk φ) (hl : 0 < φ 0 0) (G : yGo φ) (F : yFC φ μ) (M : yFM φ 0 μm) (Q : ySn μm) {N : Nat} (hN : 200000000000000 ≤ N) {b : Nat} (hb : b < 3) :
    ∃ ν νm, yKC μ ν ∧ yKN μm νm ∧ ySn νm ∧
      ((∃ p s, s < 1000 ∧ p < 200000 ∧ fX0_costNow N (19 + b) μ = some (nI (1000 * p + s), ν) ∧ fX6_seeksNow N 0 0 (nI b) μm = some (nI (10000 * p + s), νm) ∧ (b = 0 → p = 0) ∧ yDx φ b (yLay φ (φ 0 6)) p s) ∨
       (fX0_costNow N (19 + b) μ = some (1000000000, ν) ∧ fX6_seeksNow N 0 0 (nI b) μm = some (2000000000, νm) ∧ ¬ yHo φ (yLay φ (φ 0 6)))) := by
  have S := yLay_ok O G (φ 0 6) (Nat.le_refl _)
  have no := yNo_lay (φ := φ) (φ 0 6) (yAct_go G)
  obtain ⟨lr, rr⟩ := yLay_run G (φ 0 6) (Nat.le_refl _)
  obtain ⟨few1, bd⟩ := W φ O hl lr _ rr
  have few : yFew φ b (yLay φ (φ 0 6)) := by
    have : b = 0 ∨ b = 1 ∨ b = 2 := by omega
    rcases this with h | h | h
    · exact yFew_0 O S (Or.inl h)
    · rw [h]; exact few1
    · exact yFew_0 O S (Or.inr h)
  have M1 := M
  obtain ⟨n, f, u, ν, Z, C, kc, rc⟩ := yc_costNow O hl hb (N := N) (by omega) F S few (yc_lay O F G (by omega))
  obtain ⟨n2, u2, v2, ν2, i2, em, hi2, ei2, A2, hn2, X2, H2, L2, k2, Q2, h38⟩ := ym_seeksNow O hl hN hb (w := 0) (s := 0) (by decide) (by decide) (fun q => absurd q (by decide)) (ym_lay O M1 G (by omega)) (yFM_LM M1 _) (ySn_km Q (yKM_LM φ _ _)) S no
  have kn : yKN μm (yTut ν2 (yT φ (yLay φ (φ 0 6)))) := ((yKM_LM φ _ _).kn.trans k2.kn).trans (yKM_put _ _).kn
  have sn : ySn (yTut ν2 (yT φ (yLay φ (φ 0 6)))) := ySn_km Q2 (yKM_put _ _)
  refine ⟨ν, _, (yKC_DR μ _ _).trans kc.kc, kn, sn, ?_⟩
  have tl := L2 i2 hi2
  rw [ei2] at tl
  replace tl : yTl φ b (yIsE φ) (yLay φ (φ 0 6)) (v2 i2) := tl
  rcases rc with ⟨c, h1, h2, h3⟩ | ⟨h1, h2⟩
  · left
    obtain ⟨⟨τ0, p0, l0, r0, _⟩, _⟩ := id h3
    obtain ⟨p, s, s1, p1, mn⟩ := yLex O hb (bd b hb) r0 p0
    have c1 := h3.uniq (mn 1000 (by decide))
    have x1 : v2 i2 = 10000 * p + s := by
      rcases tl with ⟨_, t⟩ | ⟨_, t⟩
      · exact t.uniq (mn 10000 (by decide))
      · obtain ⟨τ1, q1, w1⟩ := (mn 10000 (by decide)).1
        have := t τ1 _ q1 w1
        omega
    refine ⟨p, s, s1, p1, by rw [h1, c1], by rw [← x1]; exact em, fun b0 => ?_, s1, p1, mn⟩
    subst b0
    obtain ⟨τ1, q1, l1, r1, e1⟩ := (mn 1000 (by decide)).1
    obtain ⟨τ2, q2, l2, r2, e2⟩ := (mn 2000 (by decide)).1
    have z : ∀ l, yPr φ 0 l = 0 := by
      intro m
      induction m with
      | nil => rfl
      | cons a m ih => show yPr1 φ 0 a + yPr φ 0 m = 0; rw [ih]; rfl
    rw [yCs_two φ 1000 (by decide), z] at e1
    rw [yCs_two φ 2000 (by decide), z] at e2
    have m1 := (mn 2000 (by decide)).2 τ1 _ q1 ⟨l1, r1, rfl⟩
    rw [yCs_two φ 2000 (by decide), z] at m1
    omega
  · right
    refine ⟨h1, ?_, fun ⟨l9, ρ9, r9, e9⟩ => h2 ρ9 _ ⟨l9, r9, rfl⟩ e9⟩
    rcases tl with ⟨_, ⟨τ1, q1, w1⟩, _⟩ | ⟨t, _⟩
    · obtain ⟨d, w2⟩ := yW_any (H2 := 1000) (b2 := b) w1
      exact absurd q1 (h2 τ1 d w2)
    · rw [t] at em
      exact em
/-- the least risk, or none -/
def ySv (φ : Nat → Nat → Nat) (v : Int32) : Prop := (∃ p s, yDx φ 1 (yLay φ (φ 0 6)) p s ∧ v = nI p) ∨ (¬ yHo φ (yLay φ (φ 0 6)) ∧ v = -1)
theorem ySv.uniq {φ : Nat → Nat → Nat} {v w : Int32} (h : ySv φ v) (g : ySv φ w) : v = w := by
  rcases h with ⟨p, s, D, e⟩ | ⟨n, e⟩
  · rcases g with ⟨p2, s2, D2, e2⟩ | ⟨n2, _⟩
    · rw [e, e2, (D.uniq D2).1]
    · exact absurd D.ho n2
  · rcases g with ⟨p2, s2, D2, _⟩ | ⟨n2, e2⟩
    · exact absurd D2.ho n
    · rw [e, e2]
theorem yq_sure {φ : Nat → Nat → Nat} {μ μm : wMem} (W : yBnd) (O : yOk φ) (hl : 0 < φ 0 0) (G : yGo φ) (F : yFC φ μ) (M : yFM φ 0 μm) (Q : ySn μm) {N : Nat} (hN : 200000000000000 ≤ N) :
    ∃ v ν w νm, fX0_surestNow N μ = some (v, ν) ∧ fX6_seeksNow N 0 0 1 μm = some (w, νm) ∧ ySv φ v ∧ (if w = (2000000000 : Int32) then (-1 : Int32) else w / (10000 : Int32)) = v ∧ yKC μ ν ∧ yKN μm νm ∧ ySn νm := by
  obtain ⟨ν, νm, k1, k2, k3, r⟩ := yq_cost3 W O hl G F M Q hN (b := 1) (by decide)
  rcases r with ⟨p, s, s1, p1, e1, e2, _, D⟩ | ⟨e1, e2, no⟩
  · refine ⟨nI p, ν, _, νm, ?_, e2, Or.inl ⟨p, s, D, rfl⟩, ?_, k1, k2, k3⟩
    · unfold fX0_surestNow
      refine Eq.trans (congrArg (fun z => wBind z _) e1) ?_
      rw [yBd, if_neg (by rw [xI_far _ (by omega)]; exact fun h => h), xI_d1000 s1 p1]
    · rw [if_neg (by rw [xI_far2 _ (by omega)]; exact fun h => h), xI_d10000 s1 p1]
  · refine ⟨-1, ν, _, νm, ?_, e2, Or.inr ⟨no, rfl⟩, if_pos rfl, k1, k2, k3⟩
    unfold fX0_surestNow
    refine Eq.trans (congrArg (fun z => wBind z _) e1) ?_
    rw [yBd, if_pos rfl]
def yTop (a : Nat) : Nat := if a < 100 then a else 100
theorem yTop_le (a : Nat) : yTop a ≤ 100 := by unfold yTop; split <;> omega
theorem yc_top {a n : Nat} (ha : a ≤ 100) (hn : n ≤ 100) : (if (nI a + nI n) < (100 : Int32) then (nI a + nI n) else (100 : Int32)) = nI (yTop (a + n)) := by
  have e : (nI (a + n) < (100 : Int32)) = (a + n < 100) := xI_lt (b := 100) (by omega) (by decide)
  unfold yTop
  rw [nI_add, yIf e]
  by_cases q : a + n < 100
  · rw [if_pos q, if_pos q]
  · rw [if_neg q, if_neg q]; rfl
theorem yPo_id (φ : Nat → Nat → Nat) (r i : Nat) : yPo φ r i (φ r i) = φ := by
  funext c j
  unfold yPo
  by_cases q : c = r ∧ j = i
  · rw [if_pos q, q.1, q.2]
  · rw [if_neg q]
/-- the twin's least risk with a person liked more -/
theorem ym_sureBy {φ : Nat → Nat → Nat} {μ μm : wMem} (W : yBnd) (O : yOk φ) (hl : 0 < φ 0 0) (G : yGo φ) (F : yFC φ μ) (M : yFM φ 0 μm) (Q : ySn μm) {N : Nat} (hN : 200000000000000 ≤ N) {p n : Nat} (hp : p < φ 0 2) (hn : n ≤ 100) :
    ∃ v νm, fX6_surestBy N (nI p) (nI n) μm = some (v, νm) ∧ ySv (yPo φ 1 p (yTop (φ 1 p + n))) v ∧ yKN μm νm ∧ ySn νm := by
  have h6 := O.persons
  have lk := O.like p hp
  have tl := yTop_le (φ 1 p + n)
  have m8 := M.like hp
  have Fψ : yFC (yPo φ 1 p (yTop (φ 1 p + n))) (wSI μ 2 p (nI (yTop (φ 1 p + n)))) := yFC_po F (r := 1) (by decide) (by decide)
  have Mψ : yFM (yPo φ 1 p (yTop (φ 1 p + n))) 0 (wSI μm 8 p (nI (yTop (φ 1 p + n)))) := yFM_po1 M
  have Oψ : yOk (yPo φ 1 p (yTop (φ 1 p + n))) := yPo_ok O (by omega)
  obtain ⟨v, ν, w, νm, e1, e2, sv, ew, k1, k2, k3⟩ := yq_sure W Oψ (by rw [yPo_o φ (by decide)]; exact hl) (yPo_go G (by omega)) Fψ Mψ (ySn_of Q fun c j q => by rw [yS_get, if_neg (by omega)]) hN
  have ei : (nI (φ 1 p + n) ≤ (100 : Int32)) = (φ 1 p + n ≤ 100) := xI_le (b := 100) (by omega) (by decide)
  have tail : ∀ x : Int32, x = nI (yTop (φ 1 p + n)) → (wG (ok_in (nI p) 30) (wLet (wSI μm 8 (Int32.toNatClampNeg (nI p)) x) fun μ7 => wBind (fX6_seeksNow N  0 0 1 μ7) fun v10 μ9 => wG (ok_in (nI p) 30) (wLet (wSI μ9 8 p (nI (φ 1 p))) fun μ12 => if v10 = (2000000000 : Int32) then some ((-1), μ12) else some (v10 / (10000 : Int32), μ12)))) = some (v, wSI νm 8 p (nI (φ 1 p))) := fun x hx => by
    rw [hx, yG (xI_in (by omega) (by decide)), yWL, xI_cl (by omega), e2, yBd, yG (xI_in (by omega) (by decide)), yWL, ← ew]
    split <;> rfl
  refine ⟨v, wSI νm 8 p (nI (φ 1 p)), ?_, sv, ?_, ySn_of k3 fun c j q => by rw [yS_get, if_neg (by omega)]⟩
  · unfold fX6_surestBy
    rw [yG (xI_in (by omega) (by decide)), yWL, yWL, xI_cl (by omega), m8, nI_add, yIf ei]
    by_cases q : φ 1 p + n ≤ 100
    · rw [if_pos q]
      refine tail _ ?_
      unfold yTop
      by_cases q2 : φ 1 p + n < 100
      · rw [if_pos q2]
      · rw [if_neg q2, show φ 1 p + n = 100 by omega]
    · rw [if_neg q]
      refine tail _ ?_
      unfold yTop
      rw [if_neg (by omega)]
      rfl
  · have := k2.set 8 p (nI (φ 1 p))
    rw [yS_two, ← m8, yS_same] at this
    rw [← m8]
    exact this
/-- what a person liked more is worth -/
theorem yc_worthOf {φ : Nat → Nat → Nat} {μ μm : wMem} (W : yBnd) (O : yOk φ) (hl : 0 < φ 0 0) (G : yGo φ) (F : yFC φ μ) (M : yFM φ 0 μm) (Q : ySn μm) {N : Nat} (hN : 200000000000000 ≤ N) {p n : Nat} (hp : p < φ 0 2) (hn : n ≤ 100) :
    ∃ v w ν, fX0_worthOf N (nI p) (nI n) μ = some (if v = (-1 : Int32) then -1 else v - w, ν) ∧ ySv φ v ∧ ySv (yPo φ 1 p (yTop (φ 1 p + n))) w ∧ yKC μ ν := by
  have h6 := O.persons
  have lk := O.like p hp
  have tl := yTop_le (φ 1 p + n)
  obtain ⟨v, ν, _, νm, e1, _, sv, _, k1, k2, k3⟩ := yq_sure W O hl G F M Q hN
  have Fν := k1.fc F
  have f2 := Fν.like p hp
  have Fψ : yFC (yPo φ 1 p (yTop (φ 1 p + n))) (wSI ν 2 p (nI (yTop (φ 1 p + n)))) := yFC_po Fν (r := 1) (by decide) (by decide)
  have Mψ : yFM (yPo φ 1 p (yTop (φ 1 p + n))) 0 (wSI μm 8 p (nI (yTop (φ 1 p + n)))) := yFM_po1 M
  have Oψ : yOk (yPo φ 1 p (yTop (φ 1 p + n))) := yPo_ok O (by omega)
  obtain ⟨w, ν2, _, _, e3, _, sw, _, k4, _, _⟩ := yq_sure W Oψ (by rw [yPo_o φ (by decide)]; exact hl) (yPo_go G (by omega)) Fψ Mψ (ySn_of Q fun c j q => by rw [yS_get, if_neg (by omega)]) hN
  refine ⟨v, w, wSI ν2 2 p (nI (φ 1 p)), ?_, sv, sw, ?_⟩
  · unfold fX0_worthOf
    rw [e1, yBd, yG (xI_in (by omega) (by decide)), yWL, yG (xI_in (by omega) (by decide)), yWL, xI_cl (by omega), f2, yc_top lk hn, e3, yBd, yG (xI_in (by omega) (by decide)), yWL]
    split <;> rfl
  · have := k4.set 2 p (nI (φ 1 p))
    rw [yS_two, ← f2, yS_same] at this
    rw [← f2]
    exact k1.trans this
theorem yq_worth {φ : Nat → Nat → Nat} {μ μm : wMem} (W : yBnd) (O : yOk φ) (hl : 0 < φ 0 2 → 0 < φ 0 0) (G : yGo φ) (F : yFC φ μ) (M : yFM φ 0 μm) (Q : ySn μm) {N : Nat} (hN : 200000000000000 ≤ N) (a1 a2 : Int32) : yBt3 (fX0_worth N a1 a2) (fX6_worth N a1 a2) μ μm := by
  have h6 := O.persons
  have M1 := (yKM_0 μm 0).fm M
  have Q1 := ySn_km Q (yKM_0 μm 0)
  by_cases g : yIs a1 (φ 0 2)
  · obtain ⟨p, hp, rfl⟩ := g.of (by omega)
    by_cases w : (0 : Int64).toInt ≤ a2.toInt ∧ a2.toInt ≤ (100 : Int64).toInt
    · obtain ⟨n, hn, rfl⟩ := yI_100 w
      have hl' := hl (by omega)
      obtain ⟨v, u, ν, e1, sv, su, k1⟩ := yc_worthOf W O hl' G F M1 Q1 hN hp hn
      obtain ⟨v2, νm, e2, sv2, k2, q2⟩ := ym_sureBy W O hl' G F M1 Q1 hN hp (n := 0) (by decide)
      obtain ⟨u2, νm2, e3, su2, k3, q3⟩ := ym_sureBy W O hl' G F (k2.fm M1) q2 hN hp hn
      have e0 : yPo φ 1 p (yTop (φ 1 p + 0)) = φ := by
        have lk := O.like p hp
        have : yTop (φ 1 p + 0) = φ 1 p := by unfold yTop; split <;> omega
        rw [this, yPo_id]
      rw [e0] at sv2
      have ev := sv2.uniq sv
      have eu := su2.uniq su
      subst ev
      subst eu
      have e2' : fX6_surestBy N (nI p) 0 (wSI μm 0 0 0) = some (v2, νm) := e2
      have ec : fX0_worth N (nI p) (nI n) μ = some (if v2 = (-1 : Int32) then -1 else v2 - u2, ν) := by
        unfold fX0_worth
        rw [yc_isPerson O F, yBd, yWL, yB1 g, yc_rng, yBd, yB1 w, e1, yBd]
      by_cases q : v2 = -1
      · rw [if_pos q] at ec
        refine yBt3.mk' ec (μm1 := νm) ?_ k1 ((yKM_0 μm 0).kn.trans k2) q2
        unfold fX6_worth
        rw [yWL, ym_isPerson O M1, yBd, yWL, yB1 g, ym_rng, yBd, yB1 w, e2', yBd, if_pos q]
      · rw [if_neg q] at ec
        refine yBt3.mk' ec (μm1 := νm2) ?_ k1 (((yKM_0 μm 0).kn.trans k2).trans k3) q3
        unfold fX6_worth
        rw [yWL, ym_isPerson O M1, yBd, yWL, yB1 g, ym_rng, yBd, yB1 w, e2', yBd, if_neg q, e3, yBd]
    · refine yBt3.mk' (v := -2) (μ1 := μ) (μm1 := wSI μm 0 0 0) ?_ ?_ (yKC.rfl' _) (yKM_0 _ _).kn Q1
      · unfold fX0_worth
        rw [yc_isPerson O F, yBd, yWL, yB1 g, yc_rng, yBd, yB2 w]
      · unfold fX6_worth
        rw [yWL, ym_isPerson O M1, yBd, yWL, yB1 g, ym_rng, yBd, yB2 w]
  · refine yBt3.mk' (v := -2) (μ1 := μ) (μm1 := wSI μm 0 0 0) ?_ ?_ (yKC.rfl' _) (yKM_0 _ _).kn Q1
    · unfold fX0_worth
      rw [yc_isPerson O F, yBd, yWL, yB2 g]
    · unfold fX6_worth
      rw [yWL, ym_isPerson O M1, yBd, yWL, yB2 g]
/-- the component goes by all persons -/
theorem yq_whom_loop {φ : Nat → Nat → Nat} {μ μm : wMem} (W : yBnd) (O : yOk φ) (hl : 0 < φ 0 0) (G : yGo φ) (F : yFC φ μ) (M0 : yFM φ 0 μm) {N : Nat} (hN : 200000000000000 ≤ N) {n : Nat} (hn : n ≤ 100) {base : Int32} (hb : ySv φ base) (K K2 : Int32 → wMem → Option (Int32 × wMem)) : ∀ (d M M2 k : Nat) (best most : Int32) (ν νm : wMem), d < M → d < M2 → k + d = φ 0 2 → yKC μ ν → yKN μm νm → ySn νm → (0 : Int32) ≤ most →
    ∃ v ν1 νm1, gX0_whom_29 N (nI n) K M best most (nI k) ν = K v ν1 ∧ yKC μ ν1 ∧ yKN μm νm1 ∧ ySn νm1 ∧ (base ≠ -1 → gX6_whom_34 N (nI n) K2 M2 best most (nI k) νm = K2 v νm1) ∧ (base = -1 → v = best ∧ (k < φ 0 2 → gX6_whom_34 N (nI n) K2 M2 best most (nI k) νm = some (-1, νm1)) ∧ (¬ k < φ 0 2 → gX6_whom_34 N (nI n) K2 M2 best most (nI k) νm = K2 best νm1)) := by
  have h6 := O.persons
  intro d
  induction d with
  | zero =>
    intro M M2 k best most ν νm hM hM2 hk kc kn sn hm
    obtain ⟨M, rfl⟩ : ∃ q, M = q + 1 := ⟨M - 1, by omega⟩
    obtain ⟨M2, rfl⟩ : ∃ q, M2 = q + 1 := ⟨M2 - 1, by omega⟩
    have e72 : νm.1 7 (Int32.toNatClampNeg (2 : Int32)) = nI (φ 0 2) := (kn.fm M0).persons
    have le : (nI (φ 0 2) ≤ nI k) = (φ 0 2 ≤ k) := xI_le (by omega) (by omega)
    have em : gX6_whom_34 N (nI n) K2 (M2 + 1) best most (nI k) νm = K2 best νm := by
      show gbX6_whom_34 N _ _ _ _ _ _ _ = _
      unfold gbX6_whom_34
      rw [yG (show ok_in (2 : Int32) 35 = true by decide), e72, yIf le, if_pos (by omega)]
    refine ⟨best, ν, νm, ?_, kc, kn, sn, fun _ => em, fun _ => ⟨rfl, fun q => by omega, fun _ => em⟩⟩
    show gbX0_whom_29 N _ _ _ _ _ _ _ = _
    unfold gbX0_whom_29
    rw [(kc.fc F).fld 2 (by decide), yIf le, if_pos (by omega)]
  | succ d ih =>
    intro M M2 k best most ν νm hM hM2 hk kc kn sn hm
    obtain ⟨M, rfl⟩ : ∃ q, M = q + 1 := ⟨M - 1, by omega⟩
    obtain ⟨M2, rfl⟩ : ∃ q, M2 = q + 1 := ⟨M2 - 1, by omega⟩
    have hp : k < φ 0 2 := by omega
    have Fν := kc.fc F
    have Mν := kn.fm M0
    have e72 : νm.1 7 (Int32.toNatClampNeg (2 : Int32)) = nI (φ 0 2) := Mν.persons
    have le : (nI (φ 0 2) ≤ nI k) = (φ 0 2 ≤ k) := xI_le (by omega) (by omega)
    have add1 : nI k + (1 : Int32) = nI (k + 1) := nI_add k 1
    obtain ⟨v, u, ν1, e1, sv, su, k1⟩ := yc_worthOf W O hl G Fν Mν sn hN hp hn
    obtain ⟨v2, νm1, e2, sv2, k2, q2⟩ := ym_sureBy W O hl G Fν Mν sn hN hp (n := 0) (by decide)
    have e0 : yPo φ 1 k (yTop (φ 1 k + 0)) = φ := by
      have lk := O.like k hp
      have : yTop (φ 1 k + 0) = φ 1 k := by unfold yTop; split <;> omega
      rw [this, yPo_id]
    rw [e0] at sv2
    have ev := sv.uniq hb
    have ev2 := sv2.uniq hb
    subst ev
    subst ev2
    have e2' : fX6_surestBy N (nI k) 0 νm = some (v2, νm1) := e2
    by_cases q : v2 = -1
    · rw [if_pos q] at e1
      have nlt : ¬ most < (-1 : Int32) := fun h => by
        have a := Int32.lt_iff_toInt_lt.mp h
        have b := Int32.le_iff_toInt_le.mp hm
        rw [show (-1 : Int32).toInt = -1 by decide] at a
        rw [show (0 : Int32).toInt = 0 by decide] at b
        omega
      obtain ⟨v, ν2, νm2, j1, j2, j3, j4, j5, j6⟩ := ih M M2 (k + 1) best most ν1 νm1 (by omega) (by omega) (by omega) (kc.trans k1) (kn.trans k2) q2 hm
      refine ⟨v, ν2, νm1, ?_, j2, kn.trans k2, q2, fun y => absurd q y, fun _ => ⟨(j6 q).1, fun _ => ?_, fun y => absurd hp y⟩⟩
      · refine Eq.trans ?_ j1
        show gbX0_whom_29 N _ _ _ _ _ _ _ = _
        unfold gbX0_whom_29
        rw [Fν.fld 2 (by decide), yIf le, if_neg (by omega), e1, yBd, yWL, if_neg nlt, add1]
        rfl
      · show gbX6_whom_34 N _ _ _ _ _ _ _ = _
        unfold gbX6_whom_34
        rw [yG (show ok_in (2 : Int32) 35 = true by decide), e72, yIf le, if_neg (by omega), e2', yBd, if_pos q]
    · rw [if_neg q] at e1
      obtain ⟨u2, νm2, e3, su2, k3, q3⟩ := ym_sureBy W O hl G Fν (k2.fm Mν) q2 hN hp hn
      have eu := su2.uniq su
      subst eu
      by_cases lt : most < v2 - u2
      · have hm2 : (0 : Int32) ≤ v2 - u2 := by
          have a := Int32.lt_iff_toInt_lt.mp lt
          have b := Int32.le_iff_toInt_le.mp hm
          exact Int32.le_iff_toInt_le.mpr (by omega)
        obtain ⟨v, ν2, νm3, j1, j2, j3, j4, j5, j6⟩ := ih M M2 (k + 1) (nI k) (v2 - u2) ν1 νm2 (by omega) (by omega) (by omega) (kc.trans k1) ((kn.trans k2).trans k3) q3 hm2
        refine ⟨v, ν2, νm3, ?_, j2, j3, j4, fun y => ?_, fun y => absurd y q⟩
        · refine Eq.trans ?_ j1
          show gbX0_whom_29 N _ _ _ _ _ _ _ = _
          unfold gbX0_whom_29
          rw [Fν.fld 2 (by decide), yIf le, if_neg (by omega), e1, yBd, yWL, if_pos lt, add1]
          rfl
        · refine Eq.trans ?_ (j5 y)
          show gbX6_whom_34 N _ _ _ _ _ _ _ = _
          unfold gbX6_whom_34
          rw [yG (show ok_in (2 : Int32) 35 = true by decide), e72, yIf le, if_neg (by omega), e2', yBd, if_neg q, e3, yBd, yWL, yWL, if_pos lt, add1]
          rfl
      · obtain ⟨v, ν2, νm3, j1, j2, j3, j4, j5, j6⟩ := ih M M2 (k + 1) best most ν1 νm2 (by omega) (by omega) (by omega) (kc.trans k1) ((kn.trans k2).trans k3) q3 hm
        refine ⟨v, ν2, νm3, ?_, j2, j3, j4, fun y => ?_, fun y => absurd y q⟩
        · refine Eq.trans ?_ j1
          show gbX0_whom_29 N _ _ _ _ _ _ _ = _
          unfold gbX0_whom_29
          rw [Fν.fld 2 (by decide), yIf le, if_neg (by omega), e1, yBd, yWL, if_neg lt, add1]
          rfl
        · refine Eq.trans ?_ (j5 y)
          show gbX6_whom_34 N _ _ _ _ _ _ _ = _
          unfold gbX6_whom_34
          rw [yG (show ok_in (2 : Int32) 35 = true by decide), e72, yIf le, if_neg (by omega), e2', yBd, if_neg q, e3, yBd, yWL, yWL, if_neg lt, add1]
          rfl
theorem yq_whom {φ : Nat → Nat → Nat} {μ μm : wMem} (W : yBnd) (O : yOk φ) (hl : φ 0 1 ≠ 0 → 0 < φ 0 0) (G : yGo φ) (F : yFC φ μ) (M : yFM φ 0 μm) (Q : ySn μm) {N : Nat} (hN : 200000000000000 ≤ N) (a1 : Int32) : yBt3 (fX0_whom N a1) (fX6_whom N a1) μ μm := by
  have h6 := O.persons
  have M1 := (yKM_0 μm 0).fm M
  have Q1 := ySn_km Q (yKM_0 μm 0)
  by_cases g : φ 0 1 ≠ 0
  · by_cases w : (0 : Int64).toInt ≤ a1.toInt ∧ a1.toInt ≤ (100 : Int64).toInt
    · obtain ⟨n, hn, rfl⟩ := yI_100 w
      obtain ⟨base, _, _, _, _, _, sb, _⟩ := yq_sure W O (hl g) G F M1 Q1 hN
      obtain ⟨v, ν1, νm1, j1, j2, j3, j4, j5, j6⟩ := yq_whom_loop W O (hl g) G F M1 hN hn sb (fun (x20 : Int32) (μ19 : wMem) => some (x20, μ19)) (fun (x27 : Int32) (μ26 : wMem) => some (x27, μ26)) (φ 0 2) N N 0 (-1) 0 μ (wSI μm 0 0 0) (by omega) (by omega) (by omega) (yKC.rfl' _) (yKM.rfl' _).kn Q1 (by decide)
      refine yBt3.mk' (v := v) (μ1 := ν1) (μm1 := νm1) ?_ ?_ j2 ((yKM_0 μm 0).kn.trans j3) j4
      · unfold fX0_whom
        rw [yc_isFamily O F, yBd, yWL, yB1 g, yc_rng, yBd, yB1 w]
        exact j1
      · unfold fX6_whom
        rw [yWL, ym_isFamily O M1, yBd, yWL, yB1 g, ym_rng, yBd, yB1 w]
        by_cases q : base = -1
        · obtain ⟨y1, y2, y3⟩ := j6 q
          rw [y1]
          by_cases z : 0 < φ 0 2
          · exact y2 z
          · exact y3 z
        · exact j5 q
    · refine yBt3.mk' (v := -2) (μ1 := μ) (μm1 := wSI μm 0 0 0) ?_ ?_ (yKC.rfl' _) (yKM_0 _ _).kn Q1
      · unfold fX0_whom
        rw [yc_isFamily O F, yBd, yWL, yB1 g, yc_rng, yBd, yB2 w]
      · unfold fX6_whom
        rw [yWL, ym_isFamily O M1, yBd, yWL, yB1 g, ym_rng, yBd, yB2 w]
  · refine yBt3.mk' (v := -2) (μ1 := μ) (μm1 := wSI μm 0 0 0) ?_ ?_ (yKC.rfl' _) (yKM_0 _ _).kn Q1
    · unfold fX0_whom
      rw [yc_isFamily O F, yBd, yWL, yB2 g]
    · unfold fX6_whom
      rw [yWL, ym_isFamily O M1, yBd, yWL, yB2 g]
