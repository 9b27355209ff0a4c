set_option maxRecDepth 100000
/-! part 99964: what settles leaves, told by states; the nearest end; costNow -/
/-- the n states that can be come to from σ, in the order of their least costs f -/
def ySet (φ : Nat → Nat → Nat) (b : Nat) (σ : ySt) (n : Nat) (f : Nat → Nat) (u : Nat → ySt) : Prop :=
  (∀ i, i < n → ySok φ (u i) ∧ yW φ 1000 b σ (u i) (f i) ∧ (∀ c, yW φ 1000 b σ (u i) c → f i ≤ c) ∧ f i ≤ 999000000) ∧
  (∀ τ c, yW φ 1000 b σ τ c → ∃ i, i < n ∧ u i = τ) ∧
  (∀ i j, i < n → j < n → u i = u j → i = j) ∧
  (∀ i j, i ≤ j → j < n → f i ≤ f j)
/-- the memory holds what settles leaves -/
def ySeM (n : Nat) (f : Nat → Nat) (u : Nat → ySt) (ν : wMem) : Prop :=
  n ≤ 100352 ∧ (∀ i, i < n → ν.1 13 i = nI (yNum (u i)) ∧ ν.1 10 (yNum (u i)) = nI (f i)) ∧ ν.1 0 21 = nI n
theorem yc_settled {φ : Nat → Nat → Nat} (O : yOk φ) (hl : 0 < φ 0 0) {b : Nat} (hb : b < 3) {N : Nat} (hN : 200000 ≤ N) {σ : ySt} (S : ySok φ σ) (hB : ∀ τ c, yW φ 1000 b σ τ c → ∃ c', yW φ 1000 b σ τ c' ∧ c' ≤ 999000000) {μ : wMem} (F : yFC φ μ) :
    ∃ n f u ν, fX0_settles N (19 + b) (yPut μ σ) = some ν ∧ yKy μ ν ∧ ySet φ b σ n f u ∧ ySeM n f u ν := by
  obtain ⟨n, f, h, t, ν, a1, a2, a3, D, E, a4, a5⟩ := yc_settles O hl hb hN S hB F
  have low : ∀ τ c, yW φ 1000 b σ τ c → ∃ i, i < n ∧ t i = yNum τ ∧ f (t i) ≤ c := fun τ c w => by
    rcases yDj_low O S D E w with q | ⟨k, hk, _⟩
    · exact q
    · exact absurd hk (by omega)
  have wk : ∀ i, i < n → ∃ τ, ySok φ τ ∧ yNum τ = t i ∧ yUn (t i) = τ ∧ yW φ 1000 b σ τ (f (t i)) := fun i hi => by
    obtain ⟨x1, x2, _⟩ := D.2.2.2.1 i hi
    obtain ⟨τ, T, e, w⟩ := D.1 (t i) x1 (by omega)
    exact ⟨τ, T, e, by rw [← e]; exact yUn_num O T, w⟩
  refine ⟨n, fun i => f (t i), fun i => yUn (t i), ν, a1, a2, ⟨fun i hi => ?_, fun τ c w => ?_, fun i j hi hj e => ?_, D.2.2.2.2.2.1⟩, ?_, fun i hi => ?_, a4⟩
  · obtain ⟨τ, T, e1, e2, w⟩ := wk i hi
    dsimp only
    rw [e2]
    refine ⟨T, w, fun c w' => ?_, (D.2.2.2.1 i hi).2.1⟩
    obtain ⟨j, hj, e3, e4⟩ := low τ c w'
    have : i = j := (D.2.2.2.1 i hi).2.2 j hj (e1.symm.trans e3.symm)
    rw [this]; exact e4
  · obtain ⟨i, hi, e1, _⟩ := low τ c w
    exact ⟨i, hi, by dsimp only; rw [e1]; exact yUn_num O (w.ok O S)⟩
  · obtain ⟨τ, T, e1, e2, _⟩ := wk i hi
    obtain ⟨ρ, R, e3, e4, _⟩ := wk j hj
    dsimp only at e
    rw [e2, e4] at e
    subst e
    exact (D.2.2.2.1 i hi).2.2 j hj (e1.symm.trans e3)
  · have := D.2.2.2.2.2.2.2.2
    have := yCn_le (fun s => decide (f s ≠ 1000000000)) 100352
    omega
  · obtain ⟨τ, T, e1, e2, _⟩ := wk i hi
    dsimp only
    rw [e2, e1]
    exact ⟨a5 i hi, a3 _ (D.2.2.2.1 i hi).1⟩
/-- the least cost to what is sought is c -/
def yMin (φ : Nat → Nat → Nat) (H b : Nat) (σ : ySt) (P : ySt → Prop) (c : Nat) : Prop := (∃ τ, P τ ∧ yW φ H b σ τ c) ∧ ∀ τ d, P τ → yW φ H b σ τ d → c ≤ d
theorem yMin.uniq {φ : Nat → Nat → Nat} {H b c d : Nat} {σ : ySt} {P : ySt → Prop} (h : yMin φ H b σ P c) (g : yMin φ H b σ P d) : c = d := by
  obtain ⟨⟨τ, p, w⟩, h⟩ := h
  obtain ⟨⟨ρ, q, v⟩, g⟩ := g
  have := h ρ d q v
  have := g τ c p w
  omega
theorem ySet_first {φ : Nat → Nat → Nat} {b n : Nat} {σ : ySt} {f : Nat → Nat} {u : Nat → ySt} (Z : ySet φ b σ n f u) {P : ySt → Prop} {i : Nat} (hi : i < n) (hp : P (u i)) (hno : ∀ j, j < i → ¬ P (u j)) : yMin φ 1000 b σ P (f i) := by
  refine ⟨⟨u i, hp, (Z.1 i hi).2.1⟩, fun τ d q w => ?_⟩
  obtain ⟨j, hj, e⟩ := Z.2.1 τ d w
  have hij : i ≤ j := by
    rcases Nat.lt_or_ge j i with g | g
    · exact absurd (by rw [e]; exact q) (hno j g)
    · exact g
  have h1 := Z.2.2.2 i j hij hj
  have h2 := (Z.1 j hj).2.2.1 d (by rw [e]; exact w)
  omega
theorem ySet_none {φ : Nat → Nat → Nat} {b n : Nat} {σ : ySt} {f : Nat → Nat} {u : Nat → ySt} (Z : ySet φ b σ n f u) {P : ySt → Prop} (hno : ∀ j, j < n → ¬ P (u j)) : ∀ τ d, yW φ 1000 b σ τ d → ¬ P τ := fun τ d w q => by
  obtain ⟨j, hj, e⟩ := Z.2.1 τ d w
  exact hno j hj (by rw [e]; exact q)
/-- all but the state is as it was -/
def yKt (μ ν : wMem) : Prop := (∀ c i, c ≠ 9 → (c = 0 → i ≠ 5 ∧ i ≠ 6 ∧ i ≠ 7) → ν.1 c i = μ.1 c i) ∧ ν.2 = μ.2
theorem yKt.rfl' (μ : wMem) : yKt μ μ := ⟨fun _ _ _ _ => rfl, rfl⟩
theorem yKt.trans {μ ν ρ : wMem} (h : yKt μ ν) (g : yKt ν ρ) : yKt μ ρ := ⟨fun c i a b => (g.1 c i a b).trans (h.1 c i a b), g.2.trans h.2⟩
theorem yKt_put (μ : wMem) (σ : ySt) : yKt μ (yPut μ σ) := ⟨fun _ _ a b => yPut_o μ σ b a, rfl⟩
theorem yKt.ky {μ ν : wMem} (h : yKt μ ν) : yKy μ ν := ⟨fun c i a _ _ _ _ x => h.1 c i a fun q => ⟨(x q).1, (x q).2.1, (x q).2.2.1⟩, h.2⟩
theorem yKt.fc {φ : Nat → Nat → Nat} {μ ν : wMem} (h : yKt μ ν) (F : yFC φ μ) : yFC φ ν := h.ky.fc F
theorem yKt.seM {n : Nat} {f : Nat → Nat} {u : Nat → ySt} {μ ν : wMem} (h : yKt μ ν) (Z : ySeM n f u μ) : ySeM n f u ν :=
  ⟨Z.1, fun i hi => by rw [h.1 13 _ (by decide) (fun q => absurd q (by decide)), h.1 10 _ (by decide) (fun q => absurd q (by decide))]; exact Z.2.1 i hi, by rw [h.1 0 21 (by decide) (by decide)]; exact Z.2.2⟩
theorem yc_near_loop {φ : Nat → Nat → Nat} (O : yOk φ) (N : Nat) {b n : Nat} {σ : ySt} {f : Nat → Nat} {u : Nat → ySt} (Z : ySet φ b σ n f u) (K : wMem → Option (Int32 × wMem)) : ∀ (d M i : Nat) (ν : wMem), n - i ≤ d → d < M → i ≤ n → yFC φ ν → ySeM n f u ν → (∀ j, j < i → ¬ (u j).ov = yEnd φ) →
    ∃ ν1, yKt ν ν1 ∧ ((∃ c, gX0_nearestEnd_2 N K M (nI i) ν = some (nI c, ν1) ∧ c < 1000000000 ∧ yMin φ 1000 b σ (fun τ => τ.ov = yEnd φ) c) ∨ (gX0_nearestEnd_2 N K M (nI i) ν = K ν1 ∧ ∀ τ c, yW φ 1000 b σ τ c → ¬ τ.ov = yEnd φ)) := by
  intro d
  induction d with
  | zero =>
    intro M i ν hd hM hi F C no
    obtain ⟨M, rfl⟩ : ∃ q, M = q + 1 := ⟨M - 1, by omega⟩
    have : i = n := by omega
    subst this
    refine ⟨ν, yKt.rfl' _, Or.inr ⟨?_, ySet_none Z no⟩⟩
    show gbX0_nearestEnd_2 N _ _ _ _ = _
    unfold gbX0_nearestEnd_2
    rw [C.2.2, if_pos Int32.le_rfl]
  | succ d ih =>
    intro M i ν hd hM hi F C no
    obtain ⟨M, rfl⟩ : ∃ q, M = q + 1 := ⟨M - 1, by omega⟩
    have hn := C.1
    by_cases z : i = n
    · subst z
      refine ⟨ν, yKt.rfl' _, Or.inr ⟨?_, ySet_none Z no⟩⟩
      show gbX0_nearestEnd_2 N _ _ _ _ = _
      unfold gbX0_nearestEnd_2
      rw [C.2.2, if_pos Int32.le_rfl]
    · have hi' : i < n := by omega
      have e : (nI n ≤ nI i) = (n ≤ i) := xI_le (by omega) (by omega)
      obtain ⟨U, w, wl, wb⟩ := Z.1 i hi'
      have lt := yNum_lt O U
      obtain ⟨c13, c10⟩ := C.2.1 i hi'
      have un : yUn (yNum (u i)) = u i := yUn_num O U
      have add1 : nI i + (1 : Int32) = nI (i + 1) := nI_add i 1
      have step : gX0_nearestEnd_2 N K (M + 1) (nI i) ν = if decide ((u i).ov = yEnd φ) = false then gX0_nearestEnd_2 N K M (nI (i + 1)) (yPut ν (u i)) else some (nI (f i), yPut ν (u i)) := by
        show gbX0_nearestEnd_2 N _ _ _ _ = _
        unfold gbX0_nearestEnd_2
        rw [C.2.2, yIf e, if_neg (by omega), yG (xI_in (by omega) (by decide)), xI_cl (by omega), c13, yc_be ν (s := yNum (u i)) (by omega) N, yBV, un, yc_end O F U N, yBd, yIf (yB_0 _), yPut_c ν _ (by decide) (by decide), c13, yG (xI_in lt (by decide)), xI_cl (by omega), yPut_c ν _ (by decide) (by decide), c10]
        unfold wLet
        rw [yG (xI_in (by omega) (by decide)), add1]
      rw [step]
      by_cases g : (u i).ov = yEnd φ
      · refine ⟨yPut ν (u i), yKt_put _ _, Or.inl ⟨f i, ?_, by omega, ySet_first Z hi' g no⟩⟩
        rw [if_neg (by simp [g])]
      · obtain ⟨ν1, k1, r⟩ := ih M (i + 1) (yPut ν (u i)) (by omega) (by omega) (by omega) (yFC_put F _) ((yKt_put ν (u i)).seM C) (fun j hj => by
          by_cases q : j = i
          · rw [q]; exact g
          · exact no j (by omega))
        refine ⟨ν1, (yKt_put _ _).trans k1, ?_⟩
        rw [if_pos (by simp [g])]
        exact r
/-- what can be come to costs not too much (for the claims that the searches make) -/
def yFew (φ : Nat → Nat → Nat) (b : Nat) (σ : ySt) : Prop := ∀ τ c, yW φ 1000 b σ τ c → ∃ c', yW φ 1000 b σ τ c' ∧ c' ≤ 999000000
def yIsE (φ : Nat → Nat → Nat) (τ : ySt) : Prop := τ.ov = yEnd φ
theorem yc_costNow {φ : Nat → Nat → Nat} (O : yOk φ) (hl : 0 < φ 0 0) {b : Nat} (hb : b < 3) {N : Nat} (hN : 200000 ≤ N) {μ : wMem} (F : yFC φ μ) {σ : ySt} {dd rr : Nat} (S : ySok φ σ) (hB : yFew φ b σ) (hlay : fX0_asItIs N μ = some (yPut (yDR μ dd rr) σ)) :
    ∃ n f u ν, ySet φ b σ n f u ∧ ySeM n f u ν ∧ yKy (yDR μ dd rr) ν ∧ ((∃ c, fX0_costNow N (19 + b) μ = some (nI c, ν) ∧ c < 1000000000 ∧ yMin φ 1000 b σ (yIsE φ) c) ∨ (fX0_costNow N (19 + b) μ = some (1000000000, ν) ∧ ∀ τ c, yW φ 1000 b σ τ c → ¬ yIsE φ τ)) := by
  obtain ⟨n, f, u, ν, a1, a2, Z, C⟩ := yc_settled O hl hb hN S hB (yFC_DR F dd rr)
  obtain ⟨ν1, k1, r⟩ := yc_near_loop O N Z (fun μ12 => some (1000000000, μ12)) n N 0 ν (by omega) (by have := C.1; omega) (by omega) (a2.fc (yFC_DR F dd rr)) C (fun j hj => absurd hj (by omega))
  refine ⟨n, f, u, ν1, Z, k1.seM C, a2.trans k1.ky, ?_⟩
  have e : fX0_costNow N (19 + b) μ = wBind (gX0_nearestEnd_2 N (fun μ12 => some (1000000000, μ12)) N (nI 0) ν) fun v7 μ6 => some (v7, μ6) := by
    unfold fX0_costNow fX0_nearestEnd
    rw [hlay, yBV, a1, yBV]
    rfl
  rcases r with ⟨c, h1, h2, h3⟩ | ⟨h1, h2⟩
  · left
    exact ⟨c, by rw [e, h1, yBd], h2, h3⟩
  · right
    exact ⟨by rw [e, h1, yBd], h2⟩
