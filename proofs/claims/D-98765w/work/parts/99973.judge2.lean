set_option maxRecDepth 100000
/-! part 99973: judge, there, takes, dares, lied -/
theorem yPut_com (ν : wMem) (τ : ySt) {j : Nat} (h : j ≠ 5 ∧ j ≠ 6 ∧ j ≠ 7) (v : Int32) : wSI (yPut ν τ) 0 j v = yPut (wSI ν 0 j v) τ := by
  refine yM_ext (fun c i => ?_) rfl
  rw [yS_get]
  by_cases hc : c = 0
  · subst hc
    by_cases h5 : i = 5
    · subst h5; rw [if_neg (by omega), yPut_5, yPut_5]
    · by_cases h6 : i = 6
      · subst h6; rw [if_neg (by omega), yPut_6, yPut_6]
      · by_cases h7 : i = 7
        · subst h7; rw [if_neg (by omega), yPut_7, yPut_7]
        · rw [yPut_o _ _ (fun _ => ⟨h5, h6, h7⟩) (by decide), yPut_o _ _ (fun _ => ⟨h5, h6, h7⟩) (by decide), yS_get]
  · by_cases h9 : c = 9
    · subst h9
      rw [if_neg (by omega)]
      simp only [yPut, yS_get]
      simp
    · rw [if_neg (by omega), yPut_o _ _ (fun q => absurd q hc) h9, yPut_o _ _ (fun q => absurd q hc) h9, yS_get, if_neg (by omega)]
def yLf (s : Nat → Nat) : Nat → Nat
  | 0 => 0
  | c + 1 => yLf s c + (if c ≠ 0 ∧ s c % 10 = s (c - 1) % 10 then 1 else 0)
theorem yLf_le (s : Nat → Nat) : ∀ c, yLf s c ≤ c
  | 0 => Nat.le_refl _
  | c + 1 => by
    have := yLf_le s c
    show yLf s c + _ ≤ c + 1
    split <;> omega
theorem yLf_ext {s s2 : Nat → Nat} : ∀ c, (∀ j, j < c → s2 j = s j) → yLf s2 c = yLf s c
  | 0, _ => rfl
  | c + 1, h => by
    show yLf s2 c + (if c ≠ 0 ∧ s2 c % 10 = s2 (c - 1) % 10 then 1 else 0) = yLf s c + (if c ≠ 0 ∧ s c % 10 = s (c - 1) % 10 then 1 else 0)
    rw [yLf_ext c (fun j hj => h j (by omega)), h c (by omega), h (c - 1) (by omega)]
def yLa (s : Nat → Nat) (c : Nat) : Int32 := if c = 0 then -1 else nI (s (c - 1) % 10)
def yCi (ν : wMem) (d r m : Nat) (l : Int32) : Prop := ν.1 0 9 = nI d ∧ ν.1 0 10 = nI r ∧ ν.1 0 11 = nI m ∧ ν.1 0 12 = l
def yMi (ν : wMem) (d r c : Nat) (s : Nat → Nat) : Prop := ν.1 0 28 = nI d ∧ ν.1 0 29 = nI r ∧ ν.1 0 30 = nI c ∧ (∀ j, j < c → ν.1 13 j = nI (s j) ∧ s j ≤ 11)
def yUp (s : Nat → Nat) (c v : Nat) : Nat → Nat := fun j => if j = c then v else s j
theorem yUp_at (s : Nat → Nat) (c v : Nat) : yUp s c v c = v := if_pos rfl
theorem yUp_lt (s : Nat → Nat) {c v j : Nat} (h : j < c) : yUp s c v j = s j := if_neg (by omega)
theorem yc_goes1 {φ : Nat → Nat → Nat} {ν : wMem} {σ : ySt} (O : yOk φ) (F : yFC φ ν) (S : ySok φ σ) (N : Nat) {a d r c : Nat} {s : Nat → Nat} (ha : yAct φ a) (hs : ∀ j, j < c → s j ≤ 11) (I : yCi ν d r (yLf s c) (yLa s c)) :
    ∃ ν1 ν2, fX0_liesBy N (nI a) (yPut ν σ) = some (yPut ν1 σ) ∧ fX0_does0 N (nI a) (yPut ν1 σ) = some (yPut ν2 (yDo φ σ a)) ∧ yKC ν ν1 ∧ yKC ν1 ν2 ∧
      yCi ν2 (d + (if a = 200 then φ 0 0 else 1)) (r + (if a = 200 then 0 else yRisk φ (a % 10) (a / 100))) (yLf (yUp s c (10 * (a / 100) + σ.sd)) (if a = 200 then c else c + 1)) (yLa (yUp s c (10 * (a / 100) + σ.sd)) (if a = 200 then c else c + 1)) := by
  obtain ⟨i9, i10, i11, i12⟩ := I
  have hl := ha.le
  have hsd := S.sd
  have e200 : (nI a = (200 : Int32)) = (a = 200) := xI_e200 (by omega)
  have step : ∀ ν1, yFC φ ν1 → ν1.1 0 9 = nI d → ν1.1 0 10 = nI r → fX0_does0 N (nI a) (yPut ν1 σ) = some (yPut (yDR ν1 (d + (if a = 200 then φ 0 0 else 1)) (r + (if a = 200 then 0 else yRisk φ (a % 10) (a / 100)))) (yDo φ σ a)) := fun ν1 F1 h9 h10 => by
    have same : yDR ν1 d r = ν1 := by
      unfold yDR
      rw [← h9, yS_same, ← h10, yS_same]
    have := yc_does0 O F1 S N (d := d) (r := r) ha
    rw [same] at this
    rw [this]
  have g9 : ∀ (ν1 : wMem) (x y : Nat), (yDR ν1 x y).1 0 9 = nI x := fun ν1 x y => by unfold yDR; rw [yS_get, if_neg (by omega), yS_get, if_pos ⟨rfl, rfl⟩]
  have g10 : ∀ (ν1 : wMem) (x y : Nat), (yDR ν1 x y).1 0 10 = nI y := fun ν1 x y => by unfold yDR; rw [yS_get, if_pos ⟨rfl, rfl⟩]
  by_cases h : a = 200
  · refine ⟨ν, _, ?_, step ν F i9 i10, yKC.rfl' _, yKC_DR _ _ _, g9 _ _ _, g10 _ _ _, ?_, ?_⟩
    · unfold fX0_liesBy
      rw [yIf e200, if_pos h]
    · rw [yDR_o _ _ _ (by omega), i11, if_pos h, yLf_ext c (fun j hj => yUp_lt s hj)]
    · rw [yDR_o _ _ _ (by omega), i12, if_pos h]
      unfold yLa
      by_cases z : c = 0
      · rw [if_pos z, if_pos z]
      · rw [if_neg z, if_neg z, yUp_lt s (by omega)]
  · have m10 : (10 * (a / 100) + σ.sd) % 10 = σ.sd := by omega
    have cond : (yLa s c = nI σ.sd) = (c ≠ 0 ∧ (10 * (a / 100) + σ.sd) % 10 = s (c - 1) % 10) := by
      rw [m10]
      unfold yLa
      by_cases z : c = 0
      · rw [if_pos z]
        apply propext
        constructor
        · intro q; exact absurd q.symm (xI_ne_m1 (by omega))
        · intro q; exact absurd z q.1
      · rw [if_neg z, xI_eq (by omega) (by omega)]
        apply propext
        constructor
        · intro q; exact ⟨z, q.symm⟩
        · intro q; exact q.2.symm
    have mn : yLf (yUp s c (10 * (a / 100) + σ.sd)) (c + 1) = yLf s c + (if c ≠ 0 ∧ (10 * (a / 100) + σ.sd) % 10 = s (c - 1) % 10 then 1 else 0) := by
      show yLf (yUp s c (10 * (a / 100) + σ.sd)) c + (if c ≠ 0 ∧ yUp s c (10 * (a / 100) + σ.sd) c % 10 = yUp s c (10 * (a / 100) + σ.sd) (c - 1) % 10 then 1 else 0) = _
      rw [yLf_ext c (fun j hj => yUp_lt s hj), yUp_at]
      by_cases z : c = 0
      · rw [if_neg (fun q => q.1 z), if_neg (fun q => q.1 z)]
      · rw [yUp_lt s (by omega)]
    have lies : fX0_liesBy N (nI a) (yPut ν σ) = some (yPut (wSI (wSI ν 0 11 (nI (yLf (yUp s c (10 * (a / 100) + σ.sd)) (c + 1)))) 0 12 (nI σ.sd)) σ) := by
      have p11 : (yPut ν σ).1 0 11 = nI (yLf s c) := by rw [yPut_o _ _ (by omega) (by decide)]; exact i11
      have p12 : (yPut ν σ).1 0 12 = yLa s c := by rw [yPut_o _ _ (by omega) (by decide)]; exact i12
      have fin : ∀ x, wSI (wSI (yPut ν σ) 0 11 x) 0 12 ((wSI (yPut ν σ) 0 11 x).1 0 6) = yPut (wSI (wSI ν 0 11 x) 0 12 (nI σ.sd)) σ := fun x => by
        rw [yPut_com _ _ (by omega), yPut_6, yPut_com _ _ (by omega)]
      unfold fX0_liesBy
      rw [yIf e200, if_neg h, yWL, p11, p12, yPut_6, yIf cond, mn]
      by_cases q : c ≠ 0 ∧ (10 * (a / 100) + σ.sd) % 10 = s (c - 1) % 10
      · rw [if_pos q, if_pos q]
        show some (wSI (wSI (yPut ν σ) 0 11 (nI (yLf s c) + nI 1)) 0 12 ((wSI (yPut ν σ) 0 11 (nI (yLf s c) + nI 1)).1 0 6)) = _
        rw [fin, nI_add]
      · rw [if_neg q, if_neg q]
        show some (wSI (wSI (yPut ν σ) 0 11 (nI (yLf s c) + nI 0)) 0 12 ((wSI (yPut ν σ) 0 11 (nI (yLf s c) + nI 0)).1 0 6)) = _
        rw [fin, nI_add]
    have k1 : yKC ν (wSI (wSI ν 0 11 (nI (yLf (yUp s c (10 * (a / 100) + σ.sd)) (c + 1)))) 0 12 (nI σ.sd)) := fun c2 i2 x y => ⟨by rw [yS_get, if_neg (fun q => by have := x q.1; omega), yS_get, if_neg (fun q => by have := x q.1; omega)], rfl⟩
    refine ⟨_, _, lies, step _ (k1.fc F) ?_ ?_, k1, yKC_DR _ _ _, g9 _ _ _, g10 _ _ _, ?_, ?_⟩
    · rw [yS_get, if_neg (by omega), yS_get, if_neg (by omega)]; exact i9
    · rw [yS_get, if_neg (by omega), yS_get, if_neg (by omega)]; exact i10
    · rw [yDR_o _ _ _ (by omega), yS_get, if_neg (by omega), yS_get, if_pos ⟨rfl, rfl⟩, if_neg h]
    · rw [yDR_o _ _ _ (by omega), yS_get, if_pos ⟨rfl, rfl⟩, if_neg h]
      unfold yLa
      rw [if_neg (by omega), Nat.add_sub_cancel, yUp_at, m10]
theorem ym_goes1 {φ : Nat → Nat → Nat} {ν : wMem} {σ : ySt} (O : yOk φ) (F : yFM φ 0 ν) (S : ySok φ σ) (N : Nat) {a d r c : Nat} {s : Nat → Nat} (ha : yAct φ a) (hc : yCan φ σ a = true) (c60 : c < 60) (I : yMi ν d r c s) :
    ∃ ν2, fX6_goes N (nI a) (yTut ν (yT φ σ)) = some (yTut ν2 (yT φ (yDo φ σ a))) ∧ yKM ν ν2 ∧ yMi ν2 (d + (if a = 200 then φ 0 0 else 1)) (r + (if a = 200 then 0 else yRisk φ (a % 10) (a / 100))) (if a = 200 then c else c + 1) (yUp s c (10 * (a / 100) + σ.sd)) := by
  obtain ⟨i28, i29, i30, i13⟩ := I
  have hl := ha.le
  have hsd := S.sd
  have e200 : (nI a = (200 : Int32)) = (a = 200) := xI_e200 (by omega)
  have p28 : (yTut ν (yT φ σ)).1 0 28 = nI d := by rw [yTut_o _ _ (by omega)]; exact i28
  have p30 : (yTut ν (yT φ σ)).1 0 30 = nI c := by rw [yTut_o _ _ (by omega)]; exact i30
  unfold fX6_goes
  rw [yWL, yIf e200]
  by_cases h : a = 200
  · have q7 : (yTut ν (yT φ σ)).1 7 (Int32.toNatClampNeg (0 : Int32)) = nI (φ 0 0) := by rw [yTut_c _ _ (by decide)]; exact F.loaf
    have F2 : yFM φ 0 (wSI ν 0 28 (nI (d + φ 0 0))) := yFM_of F fun c2 h1 h2 j => by rw [yS_get, if_neg (by omega)]
    refine ⟨wSI ν 0 28 (nI (d + φ 0 0)), ?_, fun c2 i2 x y z => ⟨by rw [yS_get, if_neg (fun q => by have := x q.1; omega)], rfl⟩, ?_, ?_, ?_, fun j hj => ?_⟩
    · rw [if_pos h, yG (show ok_in (0 : Int32) 35 = true by decide), yWL, p28, q7, nI_add, yTut_com _ _ (by omega)]
      show wBindV (fX6_does N (nI a) (yTut (wSI ν 0 28 (nI (d + φ 0 0))) (yT φ σ))) _ = _
      rw [ym_does O F2 S N ha hc, yBV]
    · rw [if_pos h, yS_get, if_pos ⟨rfl, rfl⟩]
    · rw [if_pos h, yS_get, if_neg (by omega)]; exact i29
    · rw [if_pos h, yS_get, if_neg (by omega)]; exact i30
    · rw [if_pos h] at hj
      rw [yS_get, if_neg (by omega), yUp_lt s hj]
      exact i13 j hj
  · obtain ⟨h1, h2, h3, h4⟩ := ha.resolve_left h
    have h22 := O.posts
    have q24 : (yTut ν (yT φ σ)).1 0 24 = nI σ.sd := yTut_24 _ _
    have e10 : (10 : Int32) * nI (a / 100) = nI (10 * (a / 100)) := xI_mul 10 _
    have t1 : nI c + (1 : Int32) = nI (c + 1) := nI_add c 1
    have t2 : nI d + (1 : Int32) = nI (d + 1) := nI_add d 1
    have wF : ∀ v u w, yFM φ 0 (wSI (wSI (wSI ν 13 c v) 0 30 u) 0 28 w) := fun v u w => yFM_of F fun c2 g1 g2 j => by
      rw [yS_get, if_neg (by omega), yS_get, if_neg (by omega), yS_get, if_neg (by omega)]
    have wF2 : ∀ v u w x, yFM φ 0 (wSI (wSI (wSI (wSI ν 13 c v) 0 30 u) 0 28 w) 0 29 x) := fun v u w x => yFM_of (wF v u w) fun c2 g1 g2 j => by
      rw [yS_get, if_neg (by omega)]
    have w30 : ∀ v τ, (yTut (wSI ν 13 c v) τ).1 0 30 = nI c := fun v τ => by rw [yTut_o _ _ (by omega), yS_get, if_neg (by omega)]; exact i30
    have w28 : ∀ v u τ, (yTut (wSI (wSI ν 13 c v) 0 30 u) τ).1 0 28 = nI d := fun v u τ => by rw [yTut_o _ _ (by omega), yS_get, if_neg (by omega), yS_get, if_neg (by omega)]; exact i28
    have w29 : ∀ v u w τ, (yTut (wSI (wSI (wSI ν 13 c v) 0 30 u) 0 28 w) τ).1 0 29 = nI r := fun v u w τ => by rw [yTut_o _ _ (by omega), yS_get, if_neg (by omega), yS_get, if_neg (by omega), yS_get, if_neg (by omega)]; exact i29
    refine ⟨wSI (wSI (wSI (wSI ν 13 c (nI (10 * (a / 100) + σ.sd))) 0 30 (nI (c + 1))) 0 28 (nI (d + 1))) 0 29 (nI (r + yRisk φ (a % 10) (a / 100))), ?_, fun c2 i2 x y z => ⟨?_, rfl⟩, ?_, ?_, ?_, fun j hj => ?_⟩
    · rw [if_neg h, p30, yG (xI_in (by omega) (by omega)), xI_cl (by omega), xI_d100 (by omega), e10, q24, nI_add, xI_r10 (by omega), yWL, yTut_com _ _ (by omega), w30, t1, yWL, yTut_com _ _ (by omega), w28, t2, yWL, yTut_com _ _ (by omega), ym_risk O (yFM_put (wF _ _ _) _) N h4 h2, yBd, w29, nI_add, yWL, yTut_com _ _ (by omega)]
      show wBindV (fX6_does N (nI a) (yTut (wSI (wSI (wSI (wSI ν 13 c (nI (10 * (a / 100) + σ.sd))) 0 30 (nI (c + 1))) 0 28 (nI (d + 1))) 0 29 (nI (r + yRisk φ (a % 10) (a / 100)))) (yT φ σ))) _ = _
      rw [ym_does O (wF2 _ _ _ _) S N ha hc, yBV]
    · rw [yS_get, if_neg (fun q => by have := x q.1; omega), yS_get, if_neg (fun q => by have := x q.1; omega), yS_get, if_neg (fun q => by have := x q.1; omega), yS_get, if_neg (by omega)]
    · rw [if_neg h, yS_get, if_neg (by omega), yS_get, if_pos ⟨rfl, rfl⟩]
    · rw [if_neg h, yS_get, if_pos ⟨rfl, rfl⟩]
    · rw [if_neg h, yS_get, if_neg (by omega), yS_get, if_neg (by omega), yS_get, if_pos ⟨rfl, rfl⟩]
    · rw [if_neg h] at hj
      rw [yS_get, if_neg (by omega), yS_get, if_neg (by omega), yS_get, if_neg (by omega), yS_get]
      by_cases q : j = c
      · rw [if_pos ⟨rfl, q⟩, q, yUp_at]
        exact ⟨rfl, by omega⟩
      · rw [if_neg (fun y => q y.2), yUp_lt s (by omega)]
        exact i13 j (by omega)
theorem yq_goes_loop {φ : Nat → Nat → Nat} {μ μm : wMem} (O : yOk φ) (F : yFC φ μ) (M0 : yFM φ 0 μm) {N : Nat} (hN : 100 ≤ N) {c0 t n i : Nat} (X : ySl c0 t n i μ μm) (ok : ∀ j, j < n → yVd φ (wAt μ c0 t j) = true) (K K2 : Int32 → wMem → Option (Int32 × wMem)) : ∀ (k M M2 e : Nat) (σ : ySt) (d r c : Nat) (s : Nat → Nat) (ν νm : wMem), k < M → k < M2 → e + k = n → ySok φ σ → c ≤ e → yKC μ ν → yKM μm νm → yCi ν d r (yLf s c) (yLa s c) → yMi νm d r c s →
    ∃ e1 σ1 d1 r1 c1 s1 ν1 νm1, gX0_goesBy_26 N c0 t n (nI i) K M (nI e) (yPut ν σ) = K (nI e1) (yPut ν1 σ1) ∧ gX6_judges_6 N (nI i) K2 M2 (nI e) (yTut νm (yT φ σ)) = K2 (nI e1) (yTut νm1 (yT φ σ1)) ∧ yKC μ ν1 ∧ yKM μm νm1 ∧ yCi ν1 d1 r1 (yLf s1 c1) (yLa s1 c1) ∧ yMi νm1 d1 r1 c1 s1 ∧ c1 ≤ 60 := by
  obtain ⟨h1, h2, h3, h4, h5, h6⟩ := id X
  intro k
  induction k with
  | zero =>
    intro M M2 e σ d r c s ν νm hM hM2 he S hc kc km I J
    obtain ⟨M, rfl⟩ : ∃ q, M = q + 1 := ⟨M - 1, by omega⟩
    obtain ⟨M2, rfl⟩ : ∃ q, M2 = q + 1 := ⟨M2 - 1, by omega⟩
    have le : (nI n ≤ nI e) = (n ≤ e) := xI_le (by omega) (by omega)
    have m2 : (yTut νm (yT φ σ)).1 2 i = nI n := by rw [yTut_c _ _ (by decide), (km 2 i (by omega) (by omega) (by omega)).1]; exact h5
    refine ⟨e, σ, d, r, c, s, ν, νm, ?_, ?_, kc, km, I, J, by omega⟩
    · show gbX0_goesBy_26 N _ _ _ _ _ _ _ _ = _
      unfold gbX0_goesBy_26
      exact if_pos (by show nI n ≤ nI e; rw [le]; omega)
    · show gbX6_judges_6 N _ _ _ _ _ = _
      unfold gbX6_judges_6
      rw [yG (xI_in (by omega) (by decide)), xI_cl (by omega), m2, yIf le, if_pos (by omega)]
  | succ k ih =>
    intro M M2 e σ d r c s ν νm hM hM2 he S hc kc km I J
    obtain ⟨M, rfl⟩ : ∃ q, M = q + 1 := ⟨M - 1, by omega⟩
    obtain ⟨M2, rfl⟩ : ∃ q, M2 = q + 1 := ⟨M2 - 1, by omega⟩
    have le : (nI n ≤ nI e) = (n ≤ e) := xI_le (by omega) (by omega)
    have nle : ¬ Int32.ofNat n ≤ nI e := by show ¬ nI n ≤ nI e; rw [le]; omega
    have m2 : (yTut νm (yT φ σ)).1 2 i = nI n := by rw [yTut_c _ _ (by decide), (km 2 i (by omega) (by omega) (by omega)).1]; exact h5
    have add1 : nI e + (1 : Int32) = nI (e + 1) := nI_add e 1
    obtain ⟨a, ha, ea⟩ := yVd_act (ok e (by omega))
    have at0 : ∀ ν2 τ, yKC μ ν2 → (wAt (yPut ν2 τ) c0 t e).toInt32 = nI a := fun ν2 τ q => by
      rw [wAt_of (μ := μ) (fun i => (q.trans (yKC_put ν2 τ)) c0 i (by omega) (by omega))]
      exact ea
    have X2 : ySl c0 t n i (yPut ν σ) (yTut νm (yT φ σ)) := X.keep (kc.trans (yKC_put _ _)) (km.trans (yKM_put _ _)).kn
    have cell : fX6_cellOf N (nI i) (nI e) (yTut νm (yT φ σ)) = some (wAt (yPut ν σ) c0 t e, yTut νm (yT φ σ)) := ym_cell X2 N (by omega)
    have Fν := kc.fc F
    have Mν := km.fm M0
    by_cases g : yCan φ σ a = true
    · obtain ⟨ν1, ν2, l1, l2, k1, k2, I2⟩ := yc_goes1 O Fν S N ha (fun j hj => (J.2.2.2 j hj).2) I
      obtain ⟨νm2, g1, g2, J2⟩ := ym_goes1 O Mν S N ha g (by omega) J
      obtain ⟨e1, σ1, d1, r1, c1, s1, ν3, νm3, j1, j2, j3⟩ := ih M M2 (e + 1) (yDo φ σ a) _ _ (if a = 200 then c else c + 1) _ ν2 νm2 (by omega) (by omega) (by omega) (yDo_ok O S ha) (by split <;> omega) ((kc.trans k1).trans k2) (km.trans g2) I2 J2
      refine ⟨e1, σ1, d1, r1, c1, s1, ν3, νm3, ?_, ?_, j3⟩
      · refine Eq.trans ?_ j1
        show gbX0_goesBy_26 N _ _ _ _ _ _ _ _ = _
        unfold gbX0_goesBy_26
        rw [if_neg nle, yG (xI_in (by omega) (by omega)), xI_cl (by omega), at0 ν σ kc, yc_can O Fν S (by omega) ha, yBd, yIf (yB_0 _), g, if_neg (by decide), yG (xI_in (by omega) (by omega)), at0 ν σ kc, l1, yBV, yG (xI_in (by omega) (by omega)), at0 ν1 σ (kc.trans k1), l2, yBV, yWL, add1]
      · refine Eq.trans ?_ j2
        show gbX6_judges_6 N _ _ _ _ _ = _
        unfold gbX6_judges_6
        rw [yG (xI_in (by omega) (by decide)), xI_cl (by omega), m2, yIf le, if_neg (by omega), cell, yBd, at0 ν σ kc, ym_mayAct O Mν S (by omega) ha, yBd, yIf (yB_0 _), g, if_neg (by decide), cell, yBd, at0 ν σ kc, g1, yBV, yWL, add1]
    · rw [Bool.not_eq_true] at g
      refine ⟨e, σ, d, r, c, s, ν, νm, ?_, ?_, kc, km, I, J, by omega⟩
      · show gbX0_goesBy_26 N _ _ _ _ _ _ _ _ = _
        unfold gbX0_goesBy_26
        rw [if_neg nle, yG (xI_in (by omega) (by omega)), xI_cl (by omega), at0 ν σ kc, yc_can O Fν S (by omega) ha, yBd, yIf (yB_0 _), if_pos g]
      · show gbX6_judges_6 N _ _ _ _ _ = _
        unfold gbX6_judges_6
        rw [yG (xI_in (by omega) (by decide)), xI_cl (by omega), m2, yIf le, if_neg (by omega), cell, yBd, at0 ν σ kc, ym_mayAct O Mν S (by omega) ha, yBd, yIf (yB_0 _), if_pos g]
theorem ym_liesNow {ν : wMem} {d r c : Nat} {s : Nat → Nat} (I : yMi ν d r c s) (hc : c ≤ 60) (N : Nat) (hN : 100 ≤ N) : fX6_liesNow N ν = some (nI (yLf s c), ν) := by
  obtain ⟨_, _, i30, i13⟩ := I
  have lp : ∀ (n M i : Nat), n < M → 1 ≤ i → i + n = c → gX6_liesNow_4 N (fun (x11 : Int32) (μ10 : wMem) => some (x11, μ10)) M (nI (yLf s i)) (nI i) ν = some (nI (yLf s c), ν) := by
    intro n
    induction n with
    | zero =>
      intro M i hM h1 hi
      obtain ⟨M, rfl⟩ : ∃ q, M = q + 1 := ⟨M - 1, by omega⟩
      show gbX6_liesNow_4 N _ _ _ _ ν = _
      unfold gbX6_liesNow_4
      rw [i30, yIf (xI_le (by omega) (by omega)), if_pos (by omega)]
      rw [show i = c by omega]
    | succ n ih =>
      intro M i hM h1 hi
      obtain ⟨M, rfl⟩ : ∃ q, M = q + 1 := ⟨M - 1, by omega⟩
      have ei : nI i + (1 : Int32) = nI (i + 1) := nI_add i 1
      have nx := ih M (i + 1) (by omega) (by omega) (by omega)
      have b1 := (i13 i (by omega)).2
      have b2 := (i13 (i - 1) (by omega)).2
      have s1 : yLf s (i + 1) = yLf s i + (if i ≠ 0 ∧ s i % 10 = s (i - 1) % 10 then 1 else 0) := rfl
      have t1 : nI (yLf s i) + (1 : Int32) = nI (yLf s i + 1) := nI_add _ 1
      have t0 : nI (yLf s i) + (0 : Int32) = nI (yLf s i + 0) := nI_add _ 0
      show gbX6_liesNow_4 N _ _ _ _ ν = _
      unfold gbX6_liesNow_4 wLet
      dsimp only
      rw [i30, yIf (xI_le (by omega) (by omega)), if_neg (by omega), yG (xI_in (by omega) (by omega)), xI_pred (by omega), yG (xI_in (by omega) (by omega)), xI_cl (by omega), xI_cl (by omega), (i13 i (by omega)).1, (i13 (i - 1) (by omega)).1,
        xI_r10 (by omega), xI_r10 (by omega), yIf (xI_e (by omega) (by omega)), ei, t1, t0]
      by_cases q : s i % 10 = s (i - 1) % 10
      · rw [if_pos ⟨by omega, q⟩] at s1
        rw [if_pos q, ← s1]
        exact nx
      · rw [if_neg (fun z => q z.2)] at s1
        rw [if_neg q, ← s1]
        exact nx
  unfold fX6_liesNow
  by_cases z : c = 0
  · subst z
    obtain ⟨M, rfl⟩ : ∃ q, N = q + 1 := ⟨N - 1, by omega⟩
    show gbX6_liesNow_4 _ _ _ _ _ ν = _
    unfold gbX6_liesNow_4
    rw [i30, if_pos (by decide)]
    rfl
  · exact lp (c - 1) N 1 (by omega) (by omega) (by omega)
/-- going by a row of acts, on both sides -/
theorem yq_goesBy {φ : Nat → Nat → Nat} {μ μm : wMem} (O : yOk φ) (F : yFC φ μ) (M : yFM φ 0 μm) {N : Nat} (hN : 100 ≤ N) {c0 t n i : Nat} (X : ySl c0 t n i μ μm) (ok : ∀ j, j < n → yVd φ (wAt μ c0 t j) = true) :
    ∃ e σ d r c s ν νm, fX0_goesBy N c0 t n (nI i) μ = some (nI e, yPut ν σ) ∧ fX6_judges N (nI i) μm = some (nI e, yTut νm (yT φ σ)) ∧ yKC μ ν ∧ yKM μm νm ∧ yCi ν d r (yLf s c) (yLa s c) ∧ yMi νm d r c s ∧ c ≤ 60 := by
  have kc : yKC μ (wSI (wSI (wSI (wSI μ 0 9 0) 0 10 0) 0 11 0) 0 12 (-1)) := fun c2 i2 x y => ⟨by rw [yS_get, if_neg (fun q => by have := x q.1; omega), yS_get, if_neg (fun q => by have := x q.1; omega), yS_get, if_neg (fun q => by have := x q.1; omega), yS_get, if_neg (fun q => by have := x q.1; omega)], rfl⟩
  have km : yKM μm (wSI (wSI (wSI μm 0 28 0) 0 29 0) 0 30 0) := fun c2 i2 x y z => ⟨by rw [yS_get, if_neg (fun q => by have := x q.1; omega), yS_get, if_neg (fun q => by have := x q.1; omega), yS_get, if_neg (fun q => by have := x q.1; omega)], rfl⟩
  obtain ⟨e1, σ1, d1, r1, c1, s1, ν1, νm1, j1, j2, j3, j4, j5, j6, j7⟩ := yq_goes_loop O F M hN X ok (fun (x21 : Int32) (μ20 : wMem) => some (x21, μ20)) (fun (x19 : Int32) (μ18 : wMem) => some (x19, μ18)) n N N 0 yFirst 0 0 0 (fun _ => 0) _ _ (by have := X.2.2.1; omega) (by have := X.2.2.1; omega) (by omega) (yFirst_ok φ) (Nat.le_refl _) kc km
    ⟨by rw [yS_get, if_neg (by omega), yS_get, if_neg (by omega), yS_get, if_neg (by omega), yS_get, if_pos ⟨rfl, rfl⟩]; rfl, by rw [yS_get, if_neg (by omega), yS_get, if_neg (by omega), yS_get, if_pos ⟨rfl, rfl⟩]; rfl, by rw [yS_get, if_neg (by omega), yS_get, if_pos ⟨rfl, rfl⟩]; rfl, by rw [yS_get, if_pos ⟨rfl, rfl⟩]; rfl⟩
    ⟨by rw [yS_get, if_neg (by omega), yS_get, if_neg (by omega), yS_get, if_pos ⟨rfl, rfl⟩]; rfl, by rw [yS_get, if_neg (by omega), yS_get, if_pos ⟨rfl, rfl⟩]; rfl, by rw [yS_get, if_pos ⟨rfl, rfl⟩]; rfl, fun j hj => absurd hj (Nat.not_lt_zero j)⟩
  have hb : fX6_begin N (0 : Int32) μm = some (yTut μm (yTu 0)) := ym_begin μm (s := 0) (by decide) N
  refine ⟨e1, σ1, d1, r1, c1, s1, ν1, νm1, ?_, ?_, j3, j4, j5, j6, j7⟩
  · unfold fX0_goesBy
    rw [yc_first, yBV, yWL, yWL, yWL, yWL, yPut_com _ _ (by omega), yPut_com _ _ (by omega), yPut_com _ _ (by omega), yPut_com _ _ (by omega)]
    exact j1
  · unfold fX6_judges fX6_start
    rw [hb, yBV, yT_first φ, yWL, yWL, yWL, yTut_com _ _ (by omega), yTut_com _ _ (by omega), yTut_com _ _ (by omega), yBV]
    exact j2
