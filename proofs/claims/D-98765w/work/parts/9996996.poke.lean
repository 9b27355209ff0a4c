set_option maxRecDepth 100000
/-! part 9996996: a family with one number changed -/
def yPo (φ : Nat → Nat → Nat) (r i v : Nat) : Nat → Nat → Nat := fun c j => if c = r ∧ j = i then v else φ c j
theorem yPo_o (φ : Nat → Nat → Nat) {r i v c j : Nat} (h : c ≠ r) : yPo φ r i v c j = φ c j := if_neg (fun q => h q.1)
theorem yPo_i (φ : Nat → Nat → Nat) {r i v c j : Nat} (h : j ≠ i) : yPo φ r i v c j = φ c j := if_neg (fun q => h q.2)
theorem yPo_s (φ : Nat → Nat → Nat) (r i v : Nat) : yPo φ r i v r i = v := if_pos ⟨rfl, rfl⟩
theorem yPo_le {φ : Nat → Nat → Nat} {r i v c b n : Nat} (hb : c = r → v ≤ b) (h : ∀ j, j < n → φ c j ≤ b) : ∀ j, j < n → yPo φ r i v c j ≤ b := fun j hj => by
  unfold yPo
  split
  · next q => exact hb q.1
  · exact h j hj
theorem yPo_ok {φ : Nat → Nat → Nat} (O : yOk φ) {r i v : Nat} (hr : (r = 1 ∧ v ≤ 100) ∨ (r = 3 ∧ v ≤ 100) ∨ (r = 4 ∧ v ≤ 9) ∨ (r = 5 ∧ v ≤ 3)) : yOk (yPo φ r i v) := by
  have h0 : ∀ j, yPo φ r i v 0 j = φ 0 j := fun j => yPo_o φ (by omega)
  refine ⟨by rw [h0]; exact O.loaf, by rw [h0]; exact O.lines, by rw [h0]; exact O.persons, by rw [h0]; exact O.posts, by rw [h0]; exact O.children, by rw [h0]; exact O.stay, by rw [h0]; exact O.acts, by rw [h0]; exact O.compares, ?_, ?_, ?_, ?_, ?_⟩
  · rw [h0]; exact yPo_le (fun q => by omega) O.like
  · rw [h0]; exact yPo_le (fun q => by omega) O.nose
  · rw [h0]; exact yPo_le (fun q => by omega) O.strict
  · rw [h0]; exact yPo_le (fun q => by omega) O.keen
  · rw [h0]; exact yPo_le (fun q => by omega) O.looks
theorem yPo_do (φ : Nat → Nat → Nat) {r i v : Nat} (hr : r ≠ 0) (σ : ySt) (a : Nat) : yDo (yPo φ r i v) σ a = yDo φ σ a := by
  unfold yDo
  rw [yPo_o φ (c := 0) (by omega)]
theorem yPo_lay (φ : Nat → Nat → Nat) {r i v : Nat} (hr : r ≠ 0) (h6 : r ≠ 6) : ∀ n, yLay (yPo φ r i v) n = yLay φ n
  | 0 => rfl
  | n + 1 => by
    show yDo (yPo φ r i v) (yLay (yPo φ r i v) n) (yPo φ r i v 6 n) = yDo φ (yLay φ n) (φ 6 n)
    rw [yPo_lay φ hr h6 n, yPo_o φ (c := 6) (by omega), yPo_do φ hr]
theorem yPo_act (φ : Nat → Nat → Nat) {r i v : Nat} (hr : r ≠ 0) (a : Nat) : yAct (yPo φ r i v) a = yAct φ a := by
  unfold yAct
  rw [yPo_o φ (c := 0) (by omega), yPo_o φ (c := 0) (by omega)]
theorem yPo_gw {φ : Nat → Nat → Nat} (G : yGw φ) {r i v : Nat} (hr : r ≠ 0) (h6 : r ≠ 6) : yGw (yPo φ r i v) := fun j hj => by
  rw [yPo_o φ (c := 0) (by omega)] at hj
  rw [yPo_o φ (c := 6) (by omega), yPo_act φ hr, yPo_lay φ hr h6]
  exact G j hj
theorem yPo_can (φ : Nat → Nat → Nat) {r i v : Nat} (hr : r = 1 ∨ r = 3) (σ : ySt) (a : Nat) : yCan (yPo φ r i v) σ a = yCan φ σ a := by
  have e : ∀ c j, c ≠ 1 → c ≠ 3 → yPo φ r i v c j = φ c j := fun c j _ _ => yPo_o φ (by omega)
  unfold yCan yWhy yBeh
  simp only [e 0 _ (by decide) (by decide), e 2 _ (by decide) (by decide), e 4 _ (by decide) (by decide), e 5 _ (by decide) (by decide)]
theorem yPo_go {φ : Nat → Nat → Nat} (G : yGo φ) {r i v : Nat} (hr : r = 1 ∨ r = 3) : yGo (yPo φ r i v) := fun j hj => by
  rw [yPo_o φ (c := 0) (by omega)] at hj
  rw [yPo_o φ (c := 6) (by omega), yPo_act φ (by omega), yPo_lay φ (by omega) (by omega), yPo_can φ hr]
  exact G j hj
theorem yPo_get (φ : Nat → Nat → Nat) (r i v : Nat) (μ : wMem) (c : Nat) (hc : c = r + 1) (n : Nat) (h : ∀ j, j < n → μ.1 c j = nI (φ r j)) : ∀ j, j < n → (wSI μ c i (nI v)).1 c j = nI (yPo φ r i v r j) := fun j hj => by
  by_cases q : j = i
  · rw [q, yS_get, if_pos ⟨rfl, rfl⟩, yPo_s]
  · rw [yS_get, if_neg (fun y => q y.2), yPo_i φ q]
    exact h j hj
/-- the component's cells, one number changed -/
theorem yFC_po {φ : Nat → Nat → Nat} {μ : wMem} (F : yFC φ μ) {r i v : Nat} (h1 : 1 ≤ r) (h5 : r ≤ 5) : yFC (yPo φ r i v) (wSI μ (r + 1) i (nI v)) := by
  have h0 : ∀ j, yPo φ r i v 0 j = φ 0 j := fun j => yPo_o φ (by omega)
  have oth : ∀ c n, c ≠ r → 1 ≤ c → (∀ j, j < n → μ.1 (c + 1) j = nI (φ c j)) → ∀ j, j < n → (wSI μ (r + 1) i (nI v)).1 (c + 1) j = nI (yPo φ r i v c j) := fun c n h _ g j hj => by
    rw [yS_get, if_neg (by omega), yPo_o φ h]
    exact g j hj
  have all : ∀ c n, 1 ≤ c → (∀ j, j < n → μ.1 (c + 1) j = nI (φ c j)) → ∀ j, j < n → (wSI μ (r + 1) i (nI v)).1 (c + 1) j = nI (yPo φ r i v c j) := fun c n h g => by
    by_cases q : c = r
    · rw [q] at g ⊢
      exact yPo_get φ r i v μ (r + 1) rfl n g
    · exact oth c n q h g
  refine ⟨fun j hj => ?_, ?_, ?_, ?_, ?_, ?_, ?_⟩
  · rw [yS_get, if_neg (by omega), h0]; exact F.fld j hj
  · rw [h0]; exact all 1 _ (by decide) F.like
  · rw [h0]; exact all 2 _ (by decide) F.nose
  · rw [h0]; exact all 3 _ (by decide) F.strict
  · rw [h0]; exact all 4 _ (by decide) F.keen
  · rw [h0]; exact all 5 _ (by decide) F.looks
  · rw [h0]; exact all 6 _ (by decide) F.act
/-- the twin's cells, one number changed: a person's like -/
theorem yFM_po1 {φ : Nat → Nat → Nat} {μ : wMem} (F : yFM φ 0 μ) {i v : Nat} : yFM (yPo φ 1 i v) 0 (wSI μ 8 i (nI v)) := by
  have o : ∀ c j, c ≠ 8 → (wSI μ 8 i (nI v)).1 c j = μ.1 c j := fun c j h => by rw [yS_get, if_neg (fun q => h q.1)]
  obtain ⟨f0, f1, f2, f3, f4⟩ := F
  refine ⟨?_, fun j hj => ?_, fun j hj => ?_, fun j hj => ?_, fun j hj => ?_⟩
  · simp only [o 7 _ (by decide), o 6 _ (by decide)]
    exact f0
  · have g := f1 j hj
    rw [show 6 * 0 + j = j by omega] at g ⊢
    by_cases q : j = i
    · rw [q, yS_get, if_pos ⟨rfl, rfl⟩, yPo_s]
    · rw [yS_get, if_neg (fun y => q y.2), yPo_i φ q]
      exact g
  · rw [o 9 _ (by decide)]; exact f2 j hj
  · simp only [o 10 _ (by decide)]; exact f3 j hj
  · rw [o 11 _ (by decide)]; exact f4 j hj
/-- a post's numbers: 0 strict, 1 keen, 2 looks -/
theorem yFM_po {φ : Nat → Nat → Nat} {μ : wMem} (F : yFM φ 0 μ) {k i v : Nat} (hk : k < 3) : yFM (yPo φ (3 + k) i v) 0 (wSI μ 10 (3 * i + k) (nI v)) := by
  have o : ∀ c j, c ≠ 10 → (wSI μ 10 (3 * i + k) (nI v)).1 c j = μ.1 c j := fun c j h => by rw [yS_get, if_neg (fun q => h q.1)]
  have h0 : ∀ j, yPo φ (3 + k) i v 0 j = φ 0 j := fun j => yPo_o φ (by omega)
  obtain ⟨f0, f1, f2, f3, f4⟩ := F
  have one : ∀ c j, c < 3 → μ.1 10 (3 * j + c) = nI (φ (3 + c) j) → (wSI μ 10 (3 * i + k) (nI v)).1 10 (3 * j + c) = nI (yPo φ (3 + k) i v (3 + c) j) := fun c j hc g => by
    rw [yS_get]
    unfold yPo
    by_cases q : c = k ∧ j = i
    · rw [if_pos ⟨rfl, by omega⟩, if_pos ⟨by omega, q.2⟩]
    · rw [if_neg (fun y => q (by omega)), if_neg (fun y => q ⟨by omega, y.2⟩)]
      exact g
  refine ⟨?_, fun j hj => ?_, fun j hj => ?_, fun j hj => ?_, fun j hj => ?_⟩
  · simp only [h0, o 7 _ (by decide), o 6 _ (by decide)]
    exact f0
  · rw [o 8 _ (by decide), yPo_o φ (by omega)]; exact f1 j (by rw [h0] at hj; exact hj)
  · rw [o 9 _ (by decide), yPo_o φ (by omega)]; exact f2 j (by rw [h0] at hj; exact hj)
  · obtain ⟨g0, g1, g2⟩ := f3 j (by rw [h0] at hj; exact hj)
    rw [show 6 * 0 + 3 * j = 3 * j by omega] at g0 g1 g2 ⊢
    exact ⟨one 0 j (by decide) g0, one 1 j (by decide) g1, one 2 j (by decide) g2⟩
  · rw [o 11 _ (by decide), yPo_o φ (by omega)]; exact f4 j (by rw [h0] at hj; exact hj)
/-- whether there is a row to the end, on both sides -/
theorem yq_hope {φ : Nat → Nat → Nat} {μ μm : wMem} (O : yOk φ) (hl : 0 < φ 0 0) (G : yGw φ) (F : yFC φ μ) (M : yFM φ 0 μm) (Q : ySn μm) {N : Nat} (hN : 200000000000000 ≤ N) :
    ∃ ν νm, yKC μ ν ∧ yKN μm νm ∧ ySn νm ∧ ((∃ c, c < 1000000000 ∧ fX0_costNow N 19 μ = some (nI c, ν) ∧ fX6_isHope N μm = some (1, νm)) ∨ (fX0_costNow N 19 μ = some (1000000000, ν) ∧ fX6_isHope N μm = some (0, νm))) := by
  have S := yLay_okw O G (φ 0 6) (Nat.le_refl _)
  have no := yNo_lay (φ := φ) (φ 0 6) (fun j hj => (G j hj).1)
  have few : yFew φ 0 (yLay φ (φ 0 6)) := yFew_0 O S (Or.inl rfl)
  obtain ⟨n, f, u, ν, Z, C, kc, rc⟩ := yc_costNow O hl (b := 0) (by decide) (N := N) (by omega) F S few (yc_layw O F G (by omega))
  obtain ⟨n2, u2, v2, ν2, i2, em, hi2, ei2, A2, hn2, X2, H2, L2, k2, Q2, h38⟩ := ym_seeksNow O hl hN (b := 0) (by decide) (w := 0) (s := 0) (by decide) (by decide) (fun q => absurd q (by decide)) (ym_layw O M G (by omega)) (yFM_LM M _) (ySn_km Q (yKM_LM φ _ _)) S no
  have kn : yKN μm (yTut ν2 (yT φ (yLay φ (φ 0 6)))) := ((yKM_LM φ _ _).kn.trans k2.kn).trans (yKM_put _ _).kn
  have sn : ySn (yTut ν2 (yT φ (yLay φ (φ 0 6)))) := ySn_km Q2 (yKM_put _ _)
  refine ⟨ν, _, (yKC_DR μ _ _).trans kc.kc, kn, sn, ?_⟩
  have tl := L2 i2 hi2
  rw [ei2] at tl
  replace tl : yTl φ 0 (yIsE φ) (yLay φ (φ 0 6)) (v2 i2) := tl
  have hv : v2 i2 ≤ 2000000000 := by rcases tl with ⟨h, _⟩ | ⟨h, _⟩ <;> omega
  have ef : (nI (v2 i2) = (2000000000 : Int32)) = (v2 i2 = 2000000000) := xI_eq (b := 2000000000) (by omega) (by decide)
  have same : ∀ l, yCs φ 1000 0 l = yCs φ 10000 0 l := fun l => by
    induction l with
    | nil => rfl
    | cons a l ih =>
      show yCst φ 1000 0 a + yCs φ 1000 0 l = yCst φ 10000 0 a + yCs φ 10000 0 l
      rw [ih]
      rfl
  rcases rc with ⟨c, h1, h2, h3⟩ | ⟨h1, h2⟩
  · refine Or.inl ⟨c, h2, h1, ?_⟩
    have lt : v2 i2 ≠ 2000000000 := fun e => by
      rcases tl with ⟨q, _⟩ | ⟨_, t⟩
      · omega
      · obtain ⟨τ1, p1, l1, r1, c1⟩ := h3.1
        have := t τ1 _ p1 ⟨l1, r1, rfl⟩
        rw [← same] at this
        omega
    unfold fX6_isHope
    refine Eq.trans (congrArg (fun z => wBind z _) em) ?_
    rw [yBd, yIf ef, if_neg lt]
  · refine Or.inr ⟨h1, ?_⟩
    have eq : v2 i2 = 2000000000 := by
      rcases tl with ⟨_, ⟨τ1, q1, w1⟩, _⟩ | ⟨t, _⟩
      · obtain ⟨d, w2⟩ := yW_any (H2 := 1000) (b2 := 0) w1
        exact absurd q1 (h2 τ1 d w2)
      · exact t
    unfold fX6_isHope
    refine Eq.trans (congrArg (fun z => wBind z _) em) ?_
    rw [yBd, yIf ef, if_pos eq]
