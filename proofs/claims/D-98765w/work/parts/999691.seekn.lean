set_option maxRecDepth 100000
/-! part 999691: seeksNow; both sides' least costs to the end; days, surest, slowly, crossings, moves -/
/-- all but the twin's scratch, the lists too, is as it was -/
def yKN (μ ν : wMem) : Prop := ∀ c i, (c = 0 → i = 6 ∨ i = 14 ∨ i = 15) → c ≠ 4 → (c < 13 ∨ 22 < c) → ν.1 c i = μ.1 c i ∧ ν.2 c i = μ.2 c i
theorem yKN.trans {μ ν ρ : wMem} (h : yKN μ ν) (g : yKN ν ρ) : yKN μ ρ := fun c i a b d => ⟨(g c i a b d).1.trans (h c i a b d).1, (g c i a b d).2.trans (h c i a b d).2⟩
theorem yKM.kn {μ ν : wMem} (h : yKM μ ν) : yKN μ ν := fun c i a b d => h c i (by omega) b (by omega)
theorem yKN.fm {φ : Nat → Nat → Nat} {f : Nat} {μ ν : wMem} (h : yKN μ ν) (F : yFM φ f μ) : yFM φ f ν := yFM_of F fun c h1 h2 i => (h c i (by omega) (by omega) (by omega)).1
theorem yKx.kn {μ ν : wMem} (h : yKx μ ν) : yKN μ ν := fun c i a _ d => ⟨h.1 c i (by omega) (by omega) (by omega), by rw [h.2]⟩
theorem yKy.kc {μ ν : wMem} (h : yKy μ ν) : yKC μ ν := fun c i a d => ⟨h.1 c i (by omega) (by omega) (by omega) (by omega) (by omega) (by omega), by rw [h.2]⟩
/-- both answer the same; all but scratch is as it was; the lists are in order -/
def yBt3 (f g : wMem → Option (Int32 × wMem)) (μ μm : wMem) : Prop := ∃ v μ1 μm1, f μ = some (v, μ1) ∧ g μm = some (v, μm1) ∧ yKC μ μ1 ∧ yKN μm μm1 ∧ ySn μm1
theorem yBt3.mk' {f g : wMem → Option (Int32 × wMem)} {μ μm μ1 μm1 : wMem} {v : Int32} (h1 : f μ = some (v, μ1)) (h2 : g μm = some (v, μm1)) (h3 : yKC μ μ1) (h4 : yKN μm μm1) (h5 : ySn μm1) : yBt3 f g μ μm := ⟨v, μ1, μm1, h1, h2, h3, h4, h5⟩
theorem yBth.three {f g : wMem → Option (Int32 × wMem)} {μ μm : wMem} (h : yBth f g μ μm) (Q : ySn μm) : yBt3 f g μ μm := by
  obtain ⟨v, μ1, μm1, h1, h2, h3, h4⟩ := h
  exact ⟨v, μ1, μm1, h1, h2, h3, h4.kn, ySn_km Q h4⟩
theorem ym_begins {φ : Nat → Nat → Nat} (O : yOk φ) {σ : ySt} (S : ySok φ σ) (ν : wMem) (τ : ySt) (N : Nat) : fX6_begin N (nI (yTN φ σ)) (yTut ν τ) = some (yTut ν (yT φ σ)) := by
  have := yTN_lt O S
  rw [ym_begin _ (s := yTN φ σ) (by omega) N]
  unfold yTN
  rw [yTu_num O S, yTut_put]
/-- all but the searches' cells is as it was -/
def yKq (μ ν : wMem) : Prop := (∀ c i, c ≠ 14 → c ≠ 15 → c ≠ 16 → (c = 0 → i ≠ 34 ∧ (i < 36 ∨ 38 < i) ∧ (i < 23 ∨ 27 < i)) → ν.1 c i = μ.1 c i) ∧ ν.2 = μ.2
theorem yKq.kn {μ ν : wMem} (h : yKq μ ν) : yKN μ ν := fun c i a _ d => ⟨h.1 c i (by omega) (by omega) (by omega) (by omega), by rw [h.2]⟩
theorem yKq.fm {φ : Nat → Nat → Nat} {f : Nat} {μ ν : wMem} (h : yKq μ ν) (F : yFM φ f μ) : yFM φ f ν := h.kn.fm F
theorem ym_seeksNow {φ : Nat → Nat → Nat} (O : yOk φ) (hl : 0 < φ 0 0) {N : Nat} (hN : 200000000000000 ≤ N) {σ : ySt} {b w s : Nat} (hb : b < 3) (hw : w < 3) (hs : s < 64) (hs2 : w = 2 → s < 6) {μ ρ : wMem} (hlay : fX6_lays N μ = some (yTut ρ (yT φ σ))) (F : yFM φ 0 ρ) (Q : ySn ρ) (S : ySok φ σ) (no : yNo φ σ) :
    ∃ n u v ν i, fX6_seeksNow N (nI w) (nI s) (nI b) μ = some (nI (v i), yTut ν (yT φ σ)) ∧ i < n ∧ u i = σ ∧ yAll φ σ n u ∧ n ≤ 94080 ∧ yXm φ n u ν ∧ yLv φ n u v ν ∧ (∀ i, i < n → yTl φ b (yPs φ w s) (u i) (v i)) ∧ yKq ρ ν ∧ ySn ν ∧ ν.1 0 38 = nI b := by
  have nm : fX6_numberOf N (yTut ρ (yT φ σ)) = some (nI (yTN φ σ), yTut ρ (yT φ σ)) := ym_num ρ (yT φ σ) N
  obtain ⟨n, u, ν1, τ1, e1, A, hn, X, k1, Q1⟩ := ym_explores O (N := N) (by omega) (τ0 := yT φ σ) S no F Q
  obtain ⟨v, ν2, τ2, e2, H, L, k2, k3, h38⟩ := ym_seeks O hl hN (τ := τ1) (w := w) (s := s) A hn hb hw hs hs2 (k1.fm F) X
  obtain ⟨i, hi, ei⟩ := A.2.2 σ [] rfl
  have X2 : yXm φ n u ν2 := ⟨by rw [k2 0 34 (by decide) (by omega)]; exact X.1, fun i hi => by rw [k2 15 _ (by decide) (by omega), k2 14 _ (by decide) (by omega)]; exact X.2.1 i hi, fun t ht q => by rw [k2 14 _ (by decide) (by omega)]; exact X.2.2 t ht q⟩
  have kq : yKq ρ ν2 := ⟨fun c i a1 a2 a3 a4 => by rw [k2 c i a3 (fun q => ⟨(a4 q).2.2, (a4 q).2.1⟩), k1.1 c i a1 a2 (fun q => ⟨(a4 q).1, (a4 q).2.2⟩)], k3.trans k1.2⟩
  have lt := yTN_lt O S
  have e16 : (yTut ν2 (yT φ σ)).1 16 (yTN φ σ) = nI (v i) := by
    rw [yTut_c _ _ (by decide), ← ei]
    exact H i hi
  refine ⟨n, u, v, ν2, i, ?_, hi, ei, A, hn, X2, H, L, kq, ySn_of Q1 fun c i q => k2 c i (by omega) (by omega), h38⟩
  unfold fX6_seeksNow
  rw [hlay, yBV, nm, yBd, e1, yBV, e2, yBV, ym_begins O S, yBV, yG (xI_in lt (by decide)), xI_cl (by omega), e16]
theorem yLM_sn {φ : Nat → Nat → Nat} {μ : wMem} (Q : ySn μ) : ySn (yLM φ (wSI μ 0 0 0) (φ 0 6)) := ySn_km Q ((yKM_0 μ 0).trans (yKM_LM φ _ _))
theorem yW_any {φ : Nat → Nat → Nat} {H b H2 b2 c : Nat} {σ τ : ySt} (h : yW φ H b σ τ c) : ∃ d, yW φ H2 b2 σ τ d := by
  obtain ⟨l, r, _⟩ := h
  exact ⟨yCs φ H2 b2 l, l, r, rfl⟩
/-- where one can come to (from where the kept acts lead) -/
theorem yAct_go {φ : Nat → Nat → Nat} (G : yGo φ) : ∀ j, j < φ 0 6 → yAct φ (φ 6 j) := fun j hj => (G j hj).1
/-- the least costs to the end, on both sides -/
theorem yq_cost {φ : Nat → Nat → Nat} {μ μm : wMem} (W : yBnd) (O : yOk φ) (hl : 0 < φ 0 0) (G : yGo φ) (F : yFC φ μ) (M : yFM φ 0 μm) (Q : ySn μm) {N : Nat} (hN : 200000000000000 ≤ N) {b : Nat} (hb : b < 3) :
    ∃ ν νm, yKC μ ν ∧ yKN μm νm ∧ ySn νm ∧
      ((∃ p s, s < 1000 ∧ p < 200000 ∧ fX0_costNow N (19 + b) μ = some (nI (1000 * p + s), ν) ∧ fX6_seeksNow N 0 0 (nI b) (wSI μm 0 0 0) = some (nI (10000 * p + s), νm) ∧ (b = 0 → p = 0)) ∨
       (fX0_costNow N (19 + b) μ = some (1000000000, ν) ∧ fX6_seeksNow N 0 0 (nI b) (wSI μm 0 0 0) = some (2000000000, νm))) := by
  have S := yLay_ok O G (φ 0 6) (Nat.le_refl _)
  have no := yNo_lay (φ := φ) (φ 0 6) (yAct_go G)
  obtain ⟨lr, rr⟩ := yLay_run G (φ 0 6) (Nat.le_refl _)
  obtain ⟨few1, bd⟩ := W φ O hl lr _ rr
  have few : yFew φ b (yLay φ (φ 0 6)) := by
    have : b = 0 ∨ b = 1 ∨ b = 2 := by omega
    rcases this with h | h | h
    · exact yFew_0 O S (Or.inl h)
    · rw [h]; exact few1
    · exact yFew_0 O S (Or.inr h)
  have M1 := (yKM_0 μm 0).fm M
  obtain ⟨n, f, u, ν, Z, C, kc, rc⟩ := yc_costNow O hl hb (N := N) (by omega) F S few (yc_lay O F G (by omega))
  obtain ⟨n2, u2, v2, ν2, i2, em, hi2, ei2, A2, hn2, X2, H2, L2, k2, Q2, h38⟩ := ym_seeksNow O hl hN hb (w := 0) (s := 0) (by decide) (by decide) (fun q => absurd q (by decide)) (ym_lay O M1 G (by omega)) (yFM_LM M1 _) (yLM_sn Q) S no
  have kn : yKN μm (yTut ν2 (yT φ (yLay φ (φ 0 6)))) := (((yKM_0 μm 0).trans (yKM_LM φ _ _)).kn.trans k2.kn).trans (yKM_put _ _).kn
  have sn : ySn (yTut ν2 (yT φ (yLay φ (φ 0 6)))) := ySn_km Q2 (yKM_put _ _)
  refine ⟨ν, _, (yKC_DR μ _ _).trans kc.kc, kn, sn, ?_⟩
  have tl := L2 i2 hi2
  rw [ei2] at tl
  replace tl : yTl φ b (yIsE φ) (yLay φ (φ 0 6)) (v2 i2) := tl
  rcases rc with ⟨c, h1, h2, h3⟩ | ⟨h1, h2⟩
  · left
    obtain ⟨⟨τ0, p0, l0, r0, _⟩, _⟩ := id h3
    obtain ⟨p, s, s1, p1, mn⟩ := yLex O hb (bd b hb) r0 p0
    have c1 := h3.uniq (mn 1000 (by decide))
    have x1 : v2 i2 = 10000 * p + s := by
      rcases tl with ⟨_, t⟩ | ⟨_, t⟩
      · exact t.uniq (mn 10000 (by decide))
      · obtain ⟨τ1, q1, w1⟩ := (mn 10000 (by decide)).1
        have := t τ1 _ q1 w1
        omega
    refine ⟨p, s, s1, p1, by rw [h1, c1], by rw [← x1]; exact em, fun b0 => ?_⟩
    subst b0
    obtain ⟨τ1, q1, l1, r1, e1⟩ := (mn 1000 (by decide)).1
    obtain ⟨τ2, q2, l2, r2, e2⟩ := (mn 2000 (by decide)).1
    have z : ∀ l, yPr φ 0 l = 0 := by
      intro m
      induction m with
      | nil => rfl
      | cons a m ih => show yPr1 φ 0 a + yPr φ 0 m = 0; rw [ih]; rfl
    rw [yCs_two φ 1000 (by decide), z] at e1
    rw [yCs_two φ 2000 (by decide), z] at e2
    have m1 := (mn 2000 (by decide)).2 τ1 _ q1 ⟨l1, r1, rfl⟩
    rw [yCs_two φ 2000 (by decide), z] at m1
    omega
  · right
    refine ⟨h1, ?_⟩
    rcases tl with ⟨_, ⟨τ1, q1, w1⟩, _⟩ | ⟨t, _⟩
    · obtain ⟨d, w2⟩ := yW_any (H2 := 1000) (b2 := b) w1
      exact absurd q1 (h2 τ1 d w2)
    · rw [t] at em
      exact em
theorem xI_far (c : Nat) (hc : c < 1000000000) : (nI c = (1000000000 : Int32)) = False := by
  have : (nI c = (1000000000 : Int32)) = (c = 1000000000) := xI_eq (b := 1000000000) (by omega) (by decide)
  rw [this]
  exact propext ⟨fun h => by omega, False.elim⟩
theorem xI_far2 (c : Nat) (hc : c < 2000000000) : (nI c = (2000000000 : Int32)) = False := by
  have : (nI c = (2000000000 : Int32)) = (c = 2000000000) := xI_eq (b := 2000000000) (by omega) (by decide)
  rw [this]
  exact propext ⟨fun h => by omega, False.elim⟩
theorem xI_d1000 {p s : Nat} (hs : s < 1000) (hp : p < 200000) : nI (1000 * p + s) / (1000 : Int32) = nI p := by
  have : nI (1000 * p + s) / (1000 : Int32) = nI ((1000 * p + s) / 1000) := xI_div (by omega) (b := 1000) (by decide)
  rw [this]
  congr 1
  omega
theorem xI_d10000 {p s : Nat} (hs : s < 1000) (hp : p < 200000) : nI (10000 * p + s) / (10000 : Int32) = nI p := by
  have : nI (10000 * p + s) / (10000 : Int32) = nI ((10000 * p + s) / 10000) := xI_div (by omega) (b := 10000) (by decide)
  rw [this]
  congr 1
  omega
theorem xI_r1000 {p s : Nat} (hs : s < 1000) (hp : p < 200000) : nI (1000 * p + s) - nI (1000 * p + s) / (1000 : Int32) * (1000 : Int32) = nI s := by
  have : nI (1000 * p + s) - nI (1000 * p + s) / (1000 : Int32) * (1000 : Int32) = nI ((1000 * p + s) % 1000) := xI_rem (by omega) (b := 1000) (by decide)
  rw [this]
  congr 1
  omega
theorem xI_r10000 {p s : Nat} (hs : s < 1000) (hp : p < 200000) : nI (10000 * p + s) - nI (10000 * p + s) / (10000 : Int32) * (10000 : Int32) = nI s := by
  have : nI (10000 * p + s) - nI (10000 * p + s) / (10000 : Int32) * (10000 : Int32) = nI ((10000 * p + s) % 10000) := xI_rem (by omega) (b := 10000) (by decide)
  rw [this]
  congr 1
  omega
theorem yq_days {φ : Nat → Nat → Nat} {μ μm : wMem} (W : yBnd) (O : yOk φ) (hl : φ 0 1 ≠ 0 → 0 < φ 0 0) (G : yGo φ) (F : yFC φ μ) (M : yFM φ 0 μm) (Q : ySn μm) {N : Nat} (hN : 200000000000000 ≤ N) : yBt3 (fX0_days N) (fX6_days N) μ μm := by
  have M1 := (yKM_0 μm 0).fm M
  by_cases g : φ 0 1 ≠ 0
  · obtain ⟨ν, νm, k1, k2, k3, r⟩ := yq_cost W O (hl g) G F M Q hN (b := 0) (by decide)
    rcases r with ⟨p, s, s1, p1, e1, e2, p0⟩ | ⟨e1, e2⟩
    · refine yBt3.mk' (v := nI s) ?_ ?_ k1 k2 k3
      · unfold fX0_days fX0_orNone
        rw [yc_isFamily O F, yBd, yB1 g]
        refine Eq.trans (congrArg (fun z => wBind z _) e1) ?_
        rw [p0 rfl, yBd, if_neg (by rw [xI_far _ (by omega)]; exact fun h => h), yBd, Nat.mul_zero, Nat.zero_add]
      · unfold fX6_days wLet
        dsimp only
        rw [ym_isFamily O M1, yBd, yB1 g]
        refine Eq.trans (congrArg (fun z => wBind z _) e2) ?_
        rw [p0 rfl, yBd, if_neg (by rw [xI_far2 _ (by omega)]; exact fun h => h), Nat.mul_zero, Nat.zero_add]
    · refine yBt3.mk' (v := -1) ?_ ?_ k1 k2 k3
      · unfold fX0_days fX0_orNone
        rw [yc_isFamily O F, yBd, yB1 g]
        refine Eq.trans (congrArg (fun z => wBind z _) e1) ?_
        rw [yBd, if_pos rfl, yBd]
      · unfold fX6_days wLet
        dsimp only
        rw [ym_isFamily O M1, yBd, yB1 g]
        refine Eq.trans (congrArg (fun z => wBind z _) e2) ?_
        rw [yBd, if_pos rfl]
  · refine yBt3.mk' (v := -2) (μ1 := μ) (μm1 := wSI μm 0 0 0) ?_ ?_ (yKC.rfl' _) (yKM_0 _ _).kn (ySn_km Q (yKM_0 _ _))
    · unfold fX0_days
      rw [yc_isFamily O F, yBd, yB2 g]
    · unfold fX6_days wLet
      dsimp only
      rw [ym_isFamily O M1, yBd, yB2 g]
theorem yq_surest {φ : Nat → Nat → Nat} {μ μm : wMem} (W : yBnd) (O : yOk φ) (hl : φ 0 1 ≠ 0 → 0 < φ 0 0) (G : yGo φ) (F : yFC φ μ) (M : yFM φ 0 μm) (Q : ySn μm) {N : Nat} (hN : 200000000000000 ≤ N) : yBt3 (fX0_surest N) (fX6_surest N) μ μm := by
  have M1 := (yKM_0 μm 0).fm M
  by_cases g : φ 0 1 ≠ 0
  · obtain ⟨ν, νm, k1, k2, k3, r⟩ := yq_cost W O (hl g) G F M Q hN (b := 1) (by decide)
    rcases r with ⟨p, s, s1, p1, e1, e2, p0⟩ | ⟨e1, e2⟩
    · refine yBt3.mk' (v := nI p) ?_ ?_ k1 k2 k3
      · unfold fX0_surest fX0_surestNow
        rw [yc_isFamily O F, yBd, yB1 g]
        refine Eq.trans (congrArg (fun z => wBind (wBind z _) _) e1) ?_
        rw [yBd, if_neg (by rw [xI_far _ (by omega)]; exact fun h => h), xI_d1000 s1 p1, yBd]
      · unfold fX6_surest wLet
        dsimp only
        rw [ym_isFamily O M1, yBd, yB1 g]
        refine Eq.trans (congrArg (fun z => wBind z _) e2) ?_
        rw [yBd, if_neg (by rw [xI_far2 _ (by omega)]; exact fun h => h), xI_d10000 s1 p1]
    · refine yBt3.mk' (v := -1) ?_ ?_ k1 k2 k3
      · unfold fX0_surest fX0_surestNow
        rw [yc_isFamily O F, yBd, yB1 g]
        refine Eq.trans (congrArg (fun z => wBind (wBind z _) _) e1) ?_
        rw [yBd, if_pos rfl, yBd]
      · unfold fX6_surest wLet
        dsimp only
        rw [ym_isFamily O M1, yBd, yB1 g]
        refine Eq.trans (congrArg (fun z => wBind z _) e2) ?_
        rw [yBd, if_pos rfl]
  · refine yBt3.mk' (v := -2) (μ1 := μ) (μm1 := wSI μm 0 0 0) ?_ ?_ (yKC.rfl' _) (yKM_0 _ _).kn (ySn_km Q (yKM_0 _ _))
    · unfold fX0_surest
      rw [yc_isFamily O F, yBd, yB2 g]
    · unfold fX6_surest wLet
      dsimp only
      rw [ym_isFamily O M1, yBd, yB2 g]
theorem yq_slowly {φ : Nat → Nat → Nat} {μ μm : wMem} (W : yBnd) (O : yOk φ) (hl : φ 0 1 ≠ 0 → 0 < φ 0 0) (G : yGo φ) (F : yFC φ μ) (M : yFM φ 0 μm) (Q : ySn μm) {N : Nat} (hN : 200000000000000 ≤ N) : yBt3 (fX0_slowly N) (fX6_slowly N) μ μm := by
  have M1 := (yKM_0 μm 0).fm M
  by_cases g : φ 0 1 ≠ 0
  · obtain ⟨ν, νm, k1, k2, k3, r⟩ := yq_cost W O (hl g) G F M Q hN (b := 1) (by decide)
    rcases r with ⟨p, s, s1, p1, e1, e2, p0⟩ | ⟨e1, e2⟩
    · refine yBt3.mk' (v := nI s) ?_ ?_ k1 k2 k3
      · unfold fX0_slowly
        rw [yc_isFamily O F, yBd, yB1 g]
        refine Eq.trans (congrArg (fun z => wBind z _) e1) ?_
        rw [yBd, if_neg (by rw [xI_far _ (by omega)]; exact fun h => h), xI_r1000 s1 p1]
      · unfold fX6_slowly wLet
        dsimp only
        rw [ym_isFamily O M1, yBd, yB1 g]
        refine Eq.trans (congrArg (fun z => wBind z _) e2) ?_
        rw [yBd, if_neg (by rw [xI_far2 _ (by omega)]; exact fun h => h), xI_r10000 s1 p1]
    · refine yBt3.mk' (v := -1) ?_ ?_ k1 k2 k3
      · unfold fX0_slowly
        rw [yc_isFamily O F, yBd, yB1 g]
        refine Eq.trans (congrArg (fun z => wBind z _) e1) ?_
        rw [yBd, if_pos rfl]
      · unfold fX6_slowly wLet
        dsimp only
        rw [ym_isFamily O M1, yBd, yB1 g]
        refine Eq.trans (congrArg (fun z => wBind z _) e2) ?_
        rw [yBd, if_pos rfl]
  · refine yBt3.mk' (v := -2) (μ1 := μ) (μm1 := wSI μm 0 0 0) ?_ ?_ (yKC.rfl' _) (yKM_0 _ _).kn (ySn_km Q (yKM_0 _ _))
    · unfold fX0_slowly
      rw [yc_isFamily O F, yBd, yB2 g]
    · unfold fX6_slowly wLet
      dsimp only
      rw [ym_isFamily O M1, yBd, yB2 g]
theorem yq_crossings {φ : Nat → Nat → Nat} {μ μm : wMem} (W : yBnd) (O : yOk φ) (hl : φ 0 1 ≠ 0 → 0 < φ 0 0) (G : yGo φ) (F : yFC φ μ) (M : yFM φ 0 μm) (Q : ySn μm) {N : Nat} (hN : 200000000000000 ≤ N) : yBt3 (fX0_crossings N) (fX6_crossings N) μ μm := by
  have M1 := (yKM_0 μm 0).fm M
  by_cases g : φ 0 1 ≠ 0
  · obtain ⟨ν, νm, k1, k2, k3, r⟩ := yq_cost W O (hl g) G F M Q hN (b := 2) (by decide)
    rcases r with ⟨p, s, s1, p1, e1, e2, p0⟩ | ⟨e1, e2⟩
    · refine yBt3.mk' (v := nI p) ?_ ?_ k1 k2 k3
      · unfold fX0_crossings
        rw [yc_isFamily O F, yBd, yB1 g]
        refine Eq.trans (congrArg (fun z => wBind z _) e1) ?_
        rw [yBd, if_neg (by rw [xI_far _ (by omega)]; exact fun h => h), xI_d1000 s1 p1]
      · unfold fX6_crossings wLet
        dsimp only
        rw [ym_isFamily O M1, yBd, yB1 g]
        refine Eq.trans (congrArg (fun z => wBind z _) e2) ?_
        rw [yBd, if_neg (by rw [xI_far2 _ (by omega)]; exact fun h => h), xI_d10000 s1 p1]
    · refine yBt3.mk' (v := -1) ?_ ?_ k1 k2 k3
      · unfold fX0_crossings
        rw [yc_isFamily O F, yBd, yB1 g]
        refine Eq.trans (congrArg (fun z => wBind z _) e1) ?_
        rw [yBd, if_pos rfl]
      · unfold fX6_crossings wLet
        dsimp only
        rw [ym_isFamily O M1, yBd, yB1 g]
        refine Eq.trans (congrArg (fun z => wBind z _) e2) ?_
        rw [yBd, if_pos rfl]
  · refine yBt3.mk' (v := -2) (μ1 := μ) (μm1 := wSI μm 0 0 0) ?_ ?_ (yKC.rfl' _) (yKM_0 _ _).kn (ySn_km Q (yKM_0 _ _))
    · unfold fX0_crossings
      rw [yc_isFamily O F, yBd, yB2 g]
    · unfold fX6_crossings wLet
      dsimp only
      rw [ym_isFamily O M1, yBd, yB2 g]
theorem yq_moves {φ : Nat → Nat → Nat} {μ μm : wMem} (W : yBnd) (O : yOk φ) (hl : φ 0 1 ≠ 0 → 0 < φ 0 0) (G : yGo φ) (F : yFC φ μ) (M : yFM φ 0 μm) (Q : ySn μm) {N : Nat} (hN : 200000000000000 ≤ N) : yBt3 (fX0_moves N) (fX6_moves N) μ μm := by
  have M1 := (yKM_0 μm 0).fm M
  by_cases g : φ 0 1 ≠ 0
  · obtain ⟨ν, νm, k1, k2, k3, r⟩ := yq_cost W O (hl g) G F M Q hN (b := 2) (by decide)
    rcases r with ⟨p, s, s1, p1, e1, e2, p0⟩ | ⟨e1, e2⟩
    · refine yBt3.mk' (v := nI s) ?_ ?_ k1 k2 k3
      · unfold fX0_moves
        rw [yc_isFamily O F, yBd, yB1 g]
        refine Eq.trans (congrArg (fun z => wBind z _) e1) ?_
        rw [yBd, if_neg (by rw [xI_far _ (by omega)]; exact fun h => h), xI_r1000 s1 p1]
      · unfold fX6_moves wLet
        dsimp only
        rw [ym_isFamily O M1, yBd, yB1 g]
        refine Eq.trans (congrArg (fun z => wBind z _) e2) ?_
        rw [yBd, if_neg (by rw [xI_far2 _ (by omega)]; exact fun h => h), xI_r10000 s1 p1]
    · refine yBt3.mk' (v := -1) ?_ ?_ k1 k2 k3
      · unfold fX0_moves
        rw [yc_isFamily O F, yBd, yB1 g]
        refine Eq.trans (congrArg (fun z => wBind z _) e1) ?_
        rw [yBd, if_pos rfl]
      · unfold fX6_moves wLet
        dsimp only
        rw [ym_isFamily O M1, yBd, yB1 g]
        refine Eq.trans (congrArg (fun z => wBind z _) e2) ?_
        rw [yBd, if_pos rfl]
  · refine yBt3.mk' (v := -2) (μ1 := μ) (μm1 := wSI μm 0 0 0) ?_ ?_ (yKC.rfl' _) (yKM_0 _ _).kn (ySn_km Q (yKM_0 _ _))
    · unfold fX0_moves
      rw [yc_isFamily O F, yBd, yB2 g]
    · unfold fX6_moves wLet
      dsimp only
      rw [ym_isFamily O M1, yBd, yB2 g]
