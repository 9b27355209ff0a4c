set_option maxRecDepth 100000
/-! part 99967: the twin seeks: one state's betterment -/
/-- what is sought: 0 the end, 1 just those who are in s over, 2 the person s over -/
def yPs (φ : Nat → Nat → Nat) (w s : Nat) (τ : ySt) : Prop := if w = 1 then τ.ov = s else if w = 2 then yBit τ.ov s = 1 else τ.ov = yEnd φ
def yPsD (φ : Nat → Nat → Nat) (w s : Nat) (τ : ySt) : Bool := if w = 1 then decide (τ.ov = s) else if w = 2 then decide (yBit τ.ov s = 1) else decide (τ.ov = yEnd φ)
theorem yPsD_iff (φ : Nat → Nat → Nat) (w s : Nat) (τ : ySt) : yPsD φ w s τ = true ↔ yPs φ w s τ := by
  unfold yPsD yPs
  repeat' split
  all_goals simp
theorem ym_sought {φ : Nat → Nat → Nat} (O : yOk φ) {μ : wMem} (F : yFM φ 0 μ) {τ : ySt} (S : ySok φ τ) (N : Nat) {w s : Nat} (hw : w < 3) (hs : s < 64) (h36 : μ.1 0 36 = nI w) (h37 : μ.1 0 37 = nI s) (hs2 : w = 2 → s < 6) :
    fX6_isSought N (yTut μ (yT φ τ)) = some (yB (yPsD φ w s τ), yTut μ (yT φ τ)) := by
  have h64 := yOv64 O S
  have h6 := O.persons
  have h5 := O.stay
  have F' := yFM_put F (yT φ τ)
  have e36 : (yTut μ (yT φ τ)).1 0 36 = nI w := by rw [yTut_o _ _ (by omega)]; exact h36
  have e37 : (yTut μ (yT φ τ)).1 0 37 = nI s := by rw [yTut_o _ _ (by omega)]; exact h37
  have e23 : (yTut μ (yT φ τ)).1 0 23 = nI τ.ov := yTut_23 μ _
  have q2 : (yTut μ (yT φ τ)).1 7 (Int32.toNatClampNeg (2 : Int32)) = nI (φ 0 2) := F'.persons
  have q5 : (yTut μ (yT φ τ)).1 7 (Int32.toNatClampNeg (5 : Int32)) = nI (φ 0 5) := F'.stay
  have c1 : (nI w = (1 : Int32)) = (w = 1) := xI_eq (b := 1) (by omega) (by decide)
  have c2 : (nI w = (2 : Int32)) = (w = 2) := xI_eq (b := 2) (by omega) (by decide)
  unfold fX6_isSought
  rw [e36, e37, e23, yIf c1, yIf c2]
  have : w = 0 ∨ w = 1 ∨ w = 2 := by omega
  rcases this with g | g | g
  · subst g
    have key : ∀ n, n ≤ 6 → ∀ s, s < 64 → (((1 : Int32) <<< (nI n &&& 31)) - (1 : Int32)) &&& (nI s ^^^ (-1 : Int32)) = nI ((2 ^ n - 1) &&& (63 ^^^ s)) := by decide +kernel
    have lt : yEnd φ < 2 ^ 31 := by
      unfold yEnd
      have : (2 ^ φ 0 2 - 1) &&& (63 ^^^ φ 0 5) ≤ 2 ^ φ 0 2 - 1 := Nat.and_le_left
      have h : 2 ^ φ 0 2 ≤ 2 ^ 6 := Nat.pow_le_pow_right (by decide) h6
      omega
    rw [if_neg (by decide), if_neg (by decide), yG (show ok_in (2 : Int32) 35 = true by decide), yG (show ok_in (5 : Int32) 35 = true by decide), q2, q5, key _ h6 _ h5]
    show (if nI τ.ov = nI (yEnd φ) then _ else _) = _
    rw [yIf (xI_e (by omega) lt)]
    show _ = some (yB (decide (τ.ov = yEnd φ)), _)
    by_cases g : τ.ov = yEnd φ
    · rw [if_pos g]; simp [yB, g]
    · rw [if_neg g]; simp [yB, g]
  · subst g
    rw [if_pos rfl, yIf (xI_e (a := τ.ov) (b := s) (by omega) (by omega))]
    show _ = some (yB (decide (τ.ov = s)), _)
    by_cases g : τ.ov = s
    · rw [if_pos g]; simp [yB, g]
    · rw [if_neg g]; simp [yB, g]
  · subst g
    have := hs2 rfl
    rw [if_neg (by decide), if_pos rfl, ym_bit (a := τ.ov) (p := s) (by omega) (by omega), yBd]
    show _ = some (yB (decide (yBit τ.ov s = 1)), _)
    by_cases g : yBit τ.ov s = 1
    · simp only [g, decide_true]
      rfl
    · simp only [g, decide_false]
      rfl
/-- least costs so far, by the list's places -/
def yLv (φ : Nat → Nat → Nat) (n : Nat) (u : Nat → ySt) (v : Nat → Nat) (μ : wMem) : Prop := ∀ i, i < n → μ.1 16 (yTN φ (u i)) = nI (v i)
def yBf (φ : Nat → Nat → Nat) (b n : Nat) (u : Nat → ySt) (P : ySt → Prop) (v : Nat → Nat) : Prop :=
  ∀ i, i < n → v i ≤ 2000000000 ∧ (v i ≠ 2000000000 → ∃ τ, P τ ∧ yW φ 10000 b (u i) τ (v i)) ∧ (P (u i) → v i = 0)
/-- all but the least costs and the state is as it was -/
def yKw (μ ν : wMem) : Prop := (∀ c i, c ≠ 16 → (c = 0 → i < 23 ∨ 27 < i) → ν.1 c i = μ.1 c i) ∧ ν.2 = μ.2
theorem yKw.rfl' (μ : wMem) : yKw μ μ := ⟨fun _ _ _ _ => rfl, rfl⟩
theorem yKw.trans {μ ν ρ : wMem} (h : yKw μ ν) (g : yKw ν ρ) : yKw μ ρ := ⟨fun c i a d => (g.1 c i a d).trans (h.1 c i a d), g.2.trans h.2⟩
theorem yKw.fm {φ : Nat → Nat → Nat} {f : Nat} {μ ν : wMem} (h : yKw μ ν) (F : yFM φ f μ) : yFM φ f ν := yFM_of F fun c h1 h2 i => h.1 c i (by omega) (by omega)
theorem yKw_16 (μ : wMem) (s : Nat) (v : Int32) : yKw μ (wSI μ 16 s v) := ⟨fun c i a _ => by rw [yS_get, if_neg (fun q => a q.1)], rfl⟩
theorem yKw_put (μ : wMem) (τ : ySt) : yKw μ (yTut μ τ) := ⟨fun c i _ d => by
  by_cases h : c = 0
  · subst h; exact yTut_o μ τ (d rfl)
  · exact yTut_c μ τ h i, rfl⟩
theorem yLv_put {φ : Nat → Nat → Nat} {n : Nat} {u : Nat → ySt} {v : Nat → Nat} {μ : wMem} (H : yLv φ n u v μ) (τ : ySt) : yLv φ n u v (yTut μ τ) := fun i hi => by rw [yTut_c μ τ (by decide)]; exact H i hi
theorem yAll.tn {φ : Nat → Nat → Nat} {σ : ySt} {n : Nat} {u : Nat → ySt} (O : yOk φ) (A : yAll φ σ n u) {i j : Nat} (hi : i < n) (hj : j < n) (e : yTN φ (u i) = yTN φ (u j)) : i = j :=
  A.2.1 i j hi hj (yTN_inj O (A.1 i hi).1 (A.1 j hj).1 (A.1 i hi).2.1 (A.1 j hj).2.1 e)
theorem yLv_set {φ : Nat → Nat → Nat} {σ : ySt} {n : Nat} {u : Nat → ySt} {v : Nat → Nat} {μ : wMem} (O : yOk φ) (A : yAll φ σ n u) (H : yLv φ n u v μ) {i : Nat} (hi : i < n) (x : Nat) : yLv φ n u (yUf v i x) (wSI μ 16 (yTN φ (u i)) (nI x)) := fun j hj => by
  rw [yS_get]
  by_cases q : j = i
  · rw [q, if_pos ⟨rfl, rfl⟩, yUf_s]
  · rw [if_neg (fun h => q (A.tn O hj hi h.2)), yUf_o v x q]; exact H j hj
theorem yAll.next {φ : Nat → Nat → Nat} {σ : ySt} {n : Nat} {u : Nat → ySt} (A : yAll φ σ n u) {i x : Nat} (hi : i < n) (ex : yEb φ (u i) x = true) : ∃ j, j < n ∧ u j = yDo φ (u i) x := by
  obtain ⟨l, r⟩ := (A.1 i hi).2.2
  refine A.2.2 _ (l ++ [x]) ?_
  rw [yRun_snoc, r]
  show (if yEb φ (u i) x = true then some (yDo φ (u i) x) else none) = _
  rw [if_pos ex]
theorem ym_costBy {φ : Nat → Nat → Nat} (O : yOk φ) {N : Nat} {σ : ySt} {n b : Nat} {u : Nat → ySt} {v : Nat → Nat} (A : yAll φ σ n u) (hb : b < 3) {ν : wMem} (F : yFM φ 0 ν) (h38 : ν.1 0 38 = nI b) (H : yLv φ n u v ν) (hv : ∀ j, j < n → v j ≤ 2000000000) {i x j : Nat} (hi : i < n) (ex : yEb φ (u i) x = true) (hj : j < n) (e : u j = yDo φ (u i) x) :
    fX6_costBy N (nI x) (yTut ν (yT φ (u i))) = some (nI (if v j = 2000000000 then 2000000000 else v j + yCst φ 10000 b x), yTut ν (yT φ (u j))) := by
  obtain ⟨hx, hc⟩ := yEb_act ex
  obtain ⟨S, no, _⟩ := A.1 i hi
  have lt := yTN_lt O (A.1 j hj).1
  have dd := ym_does O F S N hx hc
  rw [← e] at dd
  have nm : fX6_numberOf N (yTut ν (yT φ (u j))) = some (nI (yTN φ (u j)), yTut ν (yT φ (u j))) := ym_num ν (yT φ (u j)) N
  have e16 : (yTut ν (yT φ (u j))).1 16 (yTN φ (u j)) = nI (v j) := by rw [yTut_c _ _ (by decide)]; exact H j hj
  have e38 : (yTut ν (yT φ (u j))).1 0 38 = nI b := by rw [yTut_o _ _ (by omega)]; exact h38
  have vj := hv j hj
  have ef : (nI (v j) = (2000000000 : Int32)) = (v j = 2000000000) := xI_eq (b := 2000000000) (by omega) (by decide)
  unfold fX6_costBy
  rw [dd, yBV, nm, yBd, yG (xI_in lt (by decide)), xI_cl (by omega), e16]
  unfold wLet
  dsimp only
  rw [yIf ef]
  by_cases g : v j = 2000000000
  · rw [if_pos g, if_pos g]; rfl
  · rw [if_neg g, if_neg g, ym_cost O (yFM_put F _) N hx hb e38, yBd, nI_add]
/-- no act is better than what is there -/
def yEv (φ : Nat → Nat → Nat) (b n : Nat) (u : Nat → ySt) (v : Nat → Nat) (i a : Nat) : Prop :=
  ∀ x, a ≤ x → yEb φ (u i) x = true → ∀ j, j < n → u j = yDo φ (u i) x → v j = 2000000000 ∨ v i ≤ v j + yCst φ 10000 b x
theorem ym_bet_loop {φ : Nat → Nat → Nat} (O : yOk φ) (hl : 0 < φ 0 0) {N : Nat} (hN : 200000 ≤ N) {σ : ySt} {n b : Nat} {u : Nat → ySt} {P : ySt → Prop} (A : yAll φ σ n u) (hb : b < 3) {i : Nat} (hi : i < n) (K : Int32 → wMem → Option (Int32 × wMem)) : ∀ (d M a : Nat) (x2 : Int32) (v : Nat → Nat) (ν : wMem), 201 - a ≤ d → d < M → a ≤ 201 →
    yFM φ 0 ν → ν.1 0 38 = nI b → yLv φ n u v ν → yBf φ b n u P v → v i ≠ 0 →
    ∃ y2 w ν1, gX6_betters_13 N (nI (yTN φ (u i))) K M x2 (if yNx φ (u i) a = 201 then -1 else nI (yNx φ (u i) a)) (yTut ν (yT φ (u i))) = K y2 (yTut ν1 (yT φ (u i))) ∧ yLv φ n u w ν1 ∧ yBf φ b n u P w ∧ yKw ν ν1 ∧ (∀ k, k ≠ i → w k = v k) ∧
      ((y2 = x2 ∧ w i = v i ∧ yEv φ b n u v i a) ∨ (y2 = 1 ∧ w i < v i)) := by
  intro d
  induction d with
  | zero =>
    intro M a x2 v ν hd hM ha F h38 H B v0
    obtain ⟨M, rfl⟩ : ∃ q, M = q + 1 := ⟨M - 1, by omega⟩
    have : a = 201 := by omega
    subst this
    have e : yNx φ (u i) 201 = 201 := rfl
    refine ⟨x2, v, ν, ?_, H, B, yKw.rfl' _, fun _ _ => rfl, Or.inl ⟨rfl, rfl, fun x h1 ex => by have := yEb_le ex; omega⟩⟩
    rw [e, if_pos rfl]
    show gbX6_betters_13 N _ _ _ _ _ _ = _
    unfold gbX6_betters_13
    rw [if_pos rfl]
  | succ d ih =>
    intro M a x2 v ν hd hM ha F h38 H B v0
    obtain ⟨M, rfl⟩ : ∃ q, M = q + 1 := ⟨M - 1, by omega⟩
    obtain ⟨l1, l2⟩ := yNx_le φ (u i) ha
    have on := yNx_on φ (u i) ha
    have off : ∀ y, a ≤ y → y < yNx φ (u i) a → yEb φ (u i) y = false := fun y h1 h2 => yNx_off φ (u i) ha h1 h2
    generalize yNx φ (u i) a = x at *
    by_cases gx : x = 201
    · subst gx
      refine ⟨x2, v, ν, ?_, H, B, yKw.rfl' _, fun _ _ => rfl, Or.inl ⟨rfl, rfl, fun y h1 ey => ?_⟩⟩
      · rw [if_pos rfl]
        show gbX6_betters_13 N _ _ _ _ _ _ = _
        unfold gbX6_betters_13
        rw [if_pos rfl]
      · have := yEb_le ey
        rw [off y h1 (by omega)] at ey
        cases ey
    · have ex := on gx
      obtain ⟨hx, hcan⟩ := yEb_act ex
      obtain ⟨S, no, _⟩ := A.1 i hi
      have lti := yTN_lt O S
      obtain ⟨j, hj, ej⟩ := A.next hi ex
      have hv : ∀ j, j < n → v j ≤ 2000000000 := fun j hj => (B j hj).1
      have cb := ym_costBy O (N := N) A hb F h38 H hv hi ex hj ej
      have add1 : nI x + (1 : Int32) = nI (x + 1) := nI_add x 1
      have cc := yCst_le O (H := 10000) (b := b) (by decide) hx
      have vi := hv i hi
      have vj := hv j hj
      rw [if_neg gx]
      show ∃ y2 w ν1, gbX6_betters_13 N _ _ _ _ _ _ = _ ∧ _
      unfold gbX6_betters_13 wLet
      dsimp only
      rw [yIf (xI_201 (x := x) (by omega)), if_neg (fun h => h), cb, yBd, yG (xI_in lti (by decide)), xI_cl (by omega), yTut_c _ _ (by decide), H i hi]
      have tail : ∀ (ρ : wMem) (y : Int32), yFM φ 0 ρ → (wBindV (fX6_begin N (nI (yTN φ (u i))) (yTut ρ (yT φ (u j)))) fun μ14 => wBind (fX6_nextAct N (nI x + 1) μ14) fun v17 μ16 => gX6_betters_13 N (nI (yTN φ (u i))) K M y v17 μ16) =
          gX6_betters_13 N (nI (yTN φ (u i))) K M y (if yNx φ (u i) (x + 1) = 201 then -1 else nI (yNx φ (u i) (x + 1))) (yTut ρ (yT φ (u i))) := fun ρ y Fρ => by
        have bg : fX6_begin N (nI (yTN φ (u i))) (yTut ρ (yT φ (u j))) = some (yTut ρ (yT φ (u i))) := by
          rw [ym_begin _ (s := yTN φ (u i)) (by omega) N]
          unfold yTN
          rw [yTu_num O S, yTut_put]
        rw [bg, yBV, add1, ym_nx O Fρ S (N := N) (by omega) (a := x + 1) (by omega), yBd]
      have val : (if v j = 2000000000 then 2000000000 else v j + yCst φ 10000 b x) < 2 ^ 31 := by split <;> omega
      generalize hr : (if v j = 2000000000 then 2000000000 else v j + yCst φ 10000 b x) = r at *
      rw [yIf (xI_le (a := v i) (b := r) (by omega) (by omega))]
      by_cases g : v i ≤ r
      · rw [if_pos g, tail ν x2 F]
        obtain ⟨y2, w, ν1, i1, i2, i3, i4, i5, i6⟩ := ih M (x + 1) x2 v ν (by omega) (by omega) (by omega) F h38 H B v0
        refine ⟨y2, w, ν1, i1, i2, i3, i4, i5, ?_⟩
        rcases i6 with ⟨p1, p2, p3⟩ | p
        · refine Or.inl ⟨p1, p2, fun y h1 ey k hk ek => ?_⟩
          by_cases q : y < x
          · rw [off y h1 q] at ey; cases ey
          · by_cases q2 : y = x
            · subst q2
              have : k = j := A.2.1 k j hk hj (ek.trans ej.symm)
              subst this
              by_cases q3 : v k = 2000000000
              · exact Or.inl q3
              · rw [if_neg q3] at hr
                right
                omega
            · exact p3 y (by omega) ey k hk ek
        · exact Or.inr p
      · rw [if_neg g, yG (xI_in lti (by decide)), yTut_com _ _ (by omega), tail _ 1 ((yKw_16 ν _ _).fm F)]
        have nf : v j ≠ 2000000000 := fun q => by
          rw [if_pos q] at hr
          omega
        rw [if_neg nf] at hr
        have B2 : yBf φ b n u P (yUf v i r) := fun k hk => by
          by_cases q : k = i
          · subst q
            rw [yUf_s]
            refine ⟨by omega, fun _ => ?_, fun p => absurd ((B k hk).2.2 p) v0⟩
            obtain ⟨τ, p, w⟩ := (B j hj).2.1 nf
            rw [ej] at w
            have w2 := yW.cons ex w
            exact ⟨τ, p, by rw [← hr, Nat.add_comm]; exact w2⟩
          · rw [yUf_o v r q]; exact B k hk
        have r0 : r ≠ 0 := by have := yCst_pos hl 10000 b x; omega
        obtain ⟨y2, w, ν1, i1, i2, i3, i4, i5, i6⟩ := ih M (x + 1) 1 (yUf v i r) (wSI ν 16 (yTN φ (u i)) (nI r)) (by omega) (by omega) (by omega) ((yKw_16 ν _ _).fm F) (by rw [yS_get, if_neg (by omega)]; exact h38) (yLv_set O A H hi r) B2 (by rw [yUf_s]; exact r0)
        refine ⟨y2, w, ν1, i1, i2, i3, (yKw_16 ν _ _).trans i4, fun k hk => by rw [i5 k hk, yUf_o v r hk], Or.inr ?_⟩
        rw [yUf_s] at i6
        rcases i6 with ⟨p1, p2, _⟩ | ⟨p1, p2⟩
        · exact ⟨p1, by omega⟩
        · exact ⟨p1, by omega⟩
