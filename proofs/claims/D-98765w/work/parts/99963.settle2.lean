set_option maxRecDepth 100000
/-! part 99963: settles: all states -/
/-- all but the state, the costs, the heap and the settled is as it was -/
def yKy (μ ν : wMem) : Prop := (∀ c i, c ≠ 9 → c ≠ 10 → c ≠ 11 → c ≠ 12 → c ≠ 13 → (c = 0 → i ≠ 5 ∧ i ≠ 6 ∧ i ≠ 7 ∧ i ≠ 20 ∧ i ≠ 21) → ν.1 c i = μ.1 c i) ∧ ν.2 = μ.2
theorem yKy.rfl' (μ : wMem) : yKy μ μ := ⟨fun _ _ _ _ _ _ _ _ => rfl, rfl⟩
theorem yKy.trans {μ ν ρ : wMem} (h : yKy μ ν) (g : yKy ν ρ) : yKy μ ρ := ⟨fun c i a b d e f x => (g.1 c i a b d e f x).trans (h.1 c i a b d e f x), g.2.trans h.2⟩
theorem yKz.ky {μ ν : wMem} (h : yKz μ ν) : yKy μ ν := ⟨fun c i a b d e _ x => h.1 c i a b d e fun q => ⟨(x q).1, (x q).2.1, (x q).2.2.1, (x q).2.2.2.1⟩, h.2⟩
theorem yKy.fc {φ : Nat → Nat → Nat} {μ ν : wMem} (h : yKy μ ν) (F : yFC φ μ) : yFC φ ν := yFC_of F fun c h1 h2 i => h.1 c i (by omega) (by omega) (by omega) (by omega) (by omega) (by omega)
theorem yHeap_of {m : Nat} {f h : Nat → Nat} {μ ν : wMem} (H : yHeap m f h μ) (e : ∀ c i, (c = 10 ∨ c = 11 ∨ c = 12 ∨ (c = 0 ∧ i = 20)) → ν.1 c i = μ.1 c i) : yHeap m f h ν :=
  ⟨⟨H.1.1, fun i hi => by rw [e 11 i (by omega), e 12 _ (by omega)]; exact H.1.2 i hi⟩, by rw [e 0 20 (by omega)]; exact H.2.1, fun s hs => by rw [e 10 s (by omega)]; exact H.2.2.1 s hs, H.2.2.2⟩
theorem yc_set_out {φ : Nat → Nat → Nat} (O : yOk φ) (hl : 0 < φ 0 0) {b : Nat} (hb : b < 3) {N : Nat} (hN : 200000 ≤ N) {σ : ySt} (S : ySok φ σ) (hB : ∀ τ c, yW φ 1000 b σ τ c → ∃ c', yW φ 1000 b σ τ c' ∧ c' ≤ 999000000) (K : wMem → Option wMem) : ∀ (d M n m : Nat) (f h t : Nat → Nat) (ν : wMem), 100353 - n ≤ d → d < M →
    yFC φ ν → yHeap m f h ν → yDj φ b σ n m f h t → yEg φ b n 201 f t → ν.1 0 21 = nI n → (∀ i, i < n → ν.1 13 i = nI (t i)) →
    ∃ n1 f1 h1 t1 ν1, gX0_settles_42 N (19 + b) K M ν = K ν1 ∧ yKy ν ν1 ∧ yHeap 0 f1 h1 ν1 ∧ yDj φ b σ n1 0 f1 h1 t1 ∧ yEg φ b n1 201 f1 t1 ∧ ν1.1 0 21 = nI n1 ∧ (∀ i, i < n1 → ν1.1 13 i = nI (t1 i)) := by
  intro d
  induction d with
  | zero =>
    intro M n m f h t ν hd hM F H D E h21 h13
    have := D.2.2.2.2.2.2.2.2
    have := yCn_le (fun s => decide (f s ≠ 1000000000)) 100352
    omega
  | succ d ih =>
    intro M n m f h t ν hd hM F H D E h21 h13
    obtain ⟨M, rfl⟩ : ∃ q, M = q + 1 := ⟨M - 1, by omega⟩
    show ∃ n1 f1 h1 t1 ν1, gbX0_settles_42 N _ _ _ _ = _ ∧ _
    unfold gbX0_settles_42
    have e0 : (nI m ≤ (0 : Int32)) = (m ≤ 0) := xI_le (b := 0) (by have := H.1.1; omega) (by decide)
    have hm := H.1.1
    by_cases z : m = 0
    · subst z
      refine ⟨n, f, h, t, ν, ?_, yKy.rfl' _, H, D, E, h21, h13⟩
      rw [H.2.1, yIf e0, if_pos (Nat.le_refl _)]
    · obtain ⟨m, rfl⟩ : ∃ q, m = q + 1 := ⟨m - 1, by omega⟩
      have d2 := D.2.1
      have hf : ∀ s, s < 100352 → f s < 2 ^ 31 := fun s hs => by have := d2 s hs; omega
      have hh : ∀ k, k < m + 1 → h k < 100352 := fun k hk => (H.1.2 k hk).2.1
      have hleast := yFull_least H.2.2.2
      have sub1 : nI (m + 1) - (1 : Int32) = nI m := xI_sub (b := 1) (by omega)
      have h0 : ν.1 11 (Int32.toNatClampNeg (0 : Int32)) = nI (h 0) := (H.1.2 0 (by omega)).1
      have lt0 := hh 0 (by omega)
      obtain ⟨τ, T, eτ, w⟩ := D.1 (h 0) lt0 ((D.2.2.1 _ lt0).mpr (Or.inr ⟨0, by omega, rfl⟩))
      obtain ⟨ν1, g, p1, p2, p3, p4, p5⟩ := yc_pops (N := N) (by omega) hf H (fun μ20 => wG (ok_in (μ20.1 0 21) 100352) (wLet (wSI μ20 13 (Int32.toNatClampNeg (μ20.1 0 21)) (nI (h 0))) fun μ22 => wLet (wSI μ22 0 21 ((μ22.1 0 21) + (1 : Int32))) fun μ23 => wBindV (fX0_be N (nI (h 0)) μ23) fun μ25 => wBind (fX0_nextAct N 0 μ25) fun v28 μ27 => gX0_settles_110 N (19 + b) (nI (h 0)) (fun (μ46 : wMem) => gX0_settles_42 N (19 + b) K M μ46) N v28 μ27))
      obtain ⟨D1, E1, hn⟩ := yDj_pop O S D E hB hh hleast p5
      have tn : yUf t n (h 0) n = h 0 := yUf_s t n _
      have z21 : ν1.1 0 21 = nI n := (p3 0 21 (by decide) (by decide) (by decide) (by decide)).trans h21
      have Fν : yFC φ (wSI (wSI ν1 13 n (nI (h 0))) 0 21 (nI (n + 1))) := yFC_of F fun c h1 h2 i => by
        rw [yS_get, if_neg (by omega), yS_get, if_neg (by omega)]
        exact p3 c i (by omega) (by omega) (by omega) (by omega)
      have un : yUn (h 0) = τ := by rw [← eτ]; exact yUn_num O T
      have Hν : yHeap m f g (yPut (wSI (wSI ν1 13 n (nI (h 0))) 0 21 (nI (n + 1))) τ) := yHeap_put (yHeap_of p2 fun c i q => by
        rw [yS_get, if_neg (by omega), yS_get, if_neg (by omega)]) τ
      have nx := yc_nx O Fν T (N := N) (by omega) (a := 0) (by omega)
      have add1 : nI n + (1 : Int32) = nI (n + 1) := nI_add n 1
      have w21 : ∀ v, (wSI ν1 13 n v).1 0 21 = nI n := fun v => by rw [yS_get, if_neg (by omega)]; exact z21
      obtain ⟨m2, f2, h2, ν2, i1, i2, i3, i4, i5⟩ := yc_set_in O hl hb hN (σ := σ) T (n := n) (t := yUf t n (h 0)) (eτ.trans tn.symm) (fun (μ46 : wMem) => gX0_settles_42 N (19 + b) K M μ46) 201 N 0 m f g _ (by omega) (by omega) (by omega) (yFC_put Fν τ) (yAt_put _ τ) Hν D1 E1
      have k2 : yKz (wSI (wSI ν1 13 n (nI (h 0))) 0 21 (nI (n + 1))) ν2 := (yKz_put _ τ).trans i2
      have x21 : ν2.1 0 21 = nI (n + 1) := by
        rw [k2.1 0 21 (by decide) (by decide) (by decide) (by decide) (by decide), yS_get, if_pos ⟨rfl, rfl⟩]
      have x13 : ∀ i, i < n + 1 → ν2.1 13 i = nI (yUf t n (h 0) i) := fun i hi => by
        rw [k2.1 13 i (by decide) (by decide) (by decide) (by decide) (by omega), yS_get, if_neg (by omega), yS_get]
        by_cases q : i = n
        · rw [if_pos ⟨rfl, q⟩, q, tn]
        · rw [if_neg (fun y => q y.2), yUf_o t _ q, p3 13 i (by decide) (by decide) (by decide) (by omega)]
          exact h13 i (by omega)
      obtain ⟨n3, f3, h3, t3, ν3, j1, j2, j3, j4, j5, j6, j7⟩ := ih M (n + 1) m2 f2 h2 (yUf t n (h 0)) ν2 (by omega) (by omega) (k2.fc Fν) i3 i4 i5 x21 x13
      refine ⟨n3, f3, h3, t3, ν3, ?_, ?_, j3, j4, j5, j6, j7⟩
      · rw [H.2.1, yIf e0, if_neg (by omega), yG (show ok_in (0 : Int32) 100352 = true by decide), h0, sub1]
        unfold wLet at p1 ⊢
        dsimp only at p1 ⊢
        refine Eq.trans p1 ?_
        rw [z21, yG (xI_in hn (by decide)), xI_cl (by omega), w21, add1, yc_be _ (s := h 0) (by omega) N, yBV, un]
        refine Eq.trans (congrArg (fun z => wBind z _) nx) ?_
        rw [yBd]
        rw [tn] at i1
        exact i1.trans j1
      · refine yKy.trans ?_ (yKy.trans k2.ky j2)
        refine ⟨fun c i a1 a2 a3 a4 a5 a6 => ?_, p4⟩
        rw [yS_get, if_neg (fun q => by have := a6 q.1; omega), yS_get, if_neg (fun q => a5 q.1)]
        exact p3 c i a2 a3 a4 (fun q => (a6 q).2.2.2.1)
/-- all costs are far at first -/
theorem yc_set_far (N b1 : Nat) (K : wMem → Option wMem) : ∀ (d M k : Nat) (μ : wMem), d < M → k + d = 100352 →
    ∃ ν, gX0_settles_2 N b1 K M (nI k) μ = K ν ∧ (∀ c i, c ≠ 10 → ν.1 c i = μ.1 c i) ∧ ν.2 = μ.2 ∧ (∀ i, i < k → ν.1 10 i = μ.1 10 i) ∧ ∀ i, k ≤ i → i < 100352 → ν.1 10 i = nI 1000000000 := by
  intro d
  induction d with
  | zero =>
    intro M k μ hM hk
    obtain ⟨M, rfl⟩ : ∃ q, M = q + 1 := ⟨M - 1, by omega⟩
    show ∃ ν, gbX0_settles_2 N _ _ _ _ _ = _ ∧ _
    unfold gbX0_settles_2
    have e : ((100352 : Int32) ≤ nI k) = (100352 ≤ k) := xI_le (a := 100352) (by decide) (by omega)
    refine ⟨μ, ?_, fun _ _ _ => rfl, rfl, fun _ _ => rfl, fun i h1 h2 => by omega⟩
    rw [yIf e, if_pos (by omega)]
  | succ d ih =>
    intro M k μ hM hk
    obtain ⟨M, rfl⟩ : ∃ q, M = q + 1 := ⟨M - 1, by omega⟩
    show ∃ ν, gbX0_settles_2 N _ _ _ _ _ = _ ∧ _
    unfold gbX0_settles_2
    have e : ((100352 : Int32) ≤ nI k) = (100352 ≤ k) := xI_le (a := 100352) (by decide) (by omega)
    have add1 : nI k + (1 : Int32) = nI (k + 1) := nI_add k 1
    obtain ⟨ν, i1, i2, i3, i4, i5⟩ := ih M (k + 1) (wSI μ 10 k (nI 1000000000)) (by omega) (by omega)
    refine ⟨ν, ?_, fun c i hc => by rw [i2 c i hc, yS_get, if_neg (fun q => hc q.1)], i3, fun i hi => by rw [i4 i (by omega), yS_get, if_neg (by omega)], fun i h1 h2 => ?_⟩
    · rw [yIf e, if_neg (by omega), yG (xI_in (by omega) (by decide))]
      unfold wLet
      dsimp only
      rw [xI_cl (by omega), add1]
      exact i1
    · by_cases q : i = k
      · subst q
        rw [i4 i (by omega), yS_get, if_pos ⟨rfl, rfl⟩]
      · exact i5 i (by omega) h2
/-- SETTLES: the least costs of all states that can be come to, the nearest first -/
theorem yc_settles {φ : Nat → Nat → Nat} (O : yOk φ) (hl : 0 < φ 0 0) {b : Nat} (hb : b < 3) {N : Nat} (hN : 200000 ≤ N) {σ : ySt} (S : ySok φ σ) (hB : ∀ τ c, yW φ 1000 b σ τ c → ∃ c', yW φ 1000 b σ τ c' ∧ c' ≤ 999000000) {μ : wMem} (F : yFC φ μ) :
    ∃ n f h t ν, fX0_settles N (19 + b) (yPut μ σ) = some ν ∧ yKy μ ν ∧ (∀ s, s < 100352 → ν.1 10 s = nI (f s)) ∧ yDj φ b σ n 0 f h t ∧ yEg φ b n 201 f t ∧ ν.1 0 21 = nI n ∧ (∀ i, i < n → ν.1 13 i = nI (t i)) := by
  obtain ⟨ν0, a1, a2, a3, a4, a5⟩ := yc_set_far N (19 + b) (fun (μ5 : wMem) => wLet (wSI μ5 0 20 (0 : Int32)) fun μ6 => wLet (wSI μ6 0 21 (0 : Int32)) fun μ7 => wBind (fX0_state N μ7) fun v10 μ9 => wBindV (fX0_comes N v10 0 μ9) fun μ12 => gX0_settles_42 N (19 + b) (fun (μ47 : wMem) => some μ47) N μ12) 100352 N 0 (yPut μ σ) (by omega) (by omega)
  have A0 : yAt (wSI (wSI ν0 0 20 (0 : Int32)) 0 21 (0 : Int32)) σ := by
    obtain ⟨x1, x2, x3, x4, x5⟩ := (yAt_put μ σ).cells
    refine yAt.of ?_ ?_ ?_ ?_ ?_
    · rw [yS_get, if_neg (by decide), yS_get, if_neg (by decide), a2 0 5 (by decide)]; exact x1
    · rw [yS_get, if_neg (by decide), yS_get, if_neg (by decide), a2 0 6 (by decide)]; exact x2
    · rw [yS_get, if_neg (by decide), yS_get, if_neg (by decide), a2 0 7 (by decide)]; exact x3
    · rw [yS_get, if_neg (by decide), yS_get, if_neg (by decide), a2 9 0 (by decide)]; exact x4
    · rw [yS_get, if_neg (by decide), yS_get, if_neg (by decide), a2 9 1 (by decide)]; exact x5
  have H0 : yHeap 0 (fun _ => 1000000000) (fun _ => 0) (wSI (wSI ν0 0 20 (0 : Int32)) 0 21 (0 : Int32)) :=
    ⟨⟨Nat.zero_le _, fun i hi => absurd hi (by omega)⟩, by rw [yS_get, if_neg (by decide), yS_get, if_pos ⟨rfl, rfl⟩]; rfl, fun s hs => by rw [yS_get, if_neg (by omega), yS_get, if_neg (by omega)]; exact a5 s (by omega) hs, fun k h1 h2 => absurd h2 (by omega)⟩
  have lt := yNum_lt O S
  obtain ⟨ν1, g, c1, c2, c3, c4, c5⟩ := yc_comes_new (N := N) (m := 0) (v := 0) (by omega) (by decide) (fun s _ => by decide) H0 lt rfl (by decide) (fun k hk => absurd hk (by omega))
  have K1 : yKy μ ν1 := by
    refine ⟨fun c i b1 b2 b3 b4 b5 b6 => ?_, by rw [c4]; show ν0.2 = _; rw [a3]; rfl⟩
    rw [c3 c i b2 b3 b4 (fun q => (b6 q).2.2.2.1), yS_get, if_neg (fun q => (b6 q.1).2.2.2.2 q.2), yS_get, if_neg (fun q => (b6 q.1).2.2.2.1 q.2), a2 c i b2]
    exact yPut_o μ σ (fun q => ⟨(b6 q).1, (b6 q).2.1, (b6 q).2.2.1⟩) b1
  have fo : ∀ s, s ≠ yNum σ → yUf (fun _ => 1000000000) (yNum σ) 0 s = 1000000000 := fun s hs => yUf_o _ _ hs
  have fs : yUf (fun _ => 1000000000) (yNum σ) 0 (yNum σ) = 0 := yUf_s _ _ _
  have g0 : ∀ s, (∃ k, k < 1 ∧ g k = s) ↔ s = yNum σ := fun s => by
    have c5s : (∃ k, k < 0 + 1 ∧ (if k = 0 then yNum σ else 0) = s) ↔ ∃ k, k < 0 + 1 ∧ g k = s := c5 s
    refine Iff.trans c5s.symm ?_
    constructor
    · rintro ⟨k, hk, e⟩
      rw [if_pos (by omega)] at e
      exact e.symm
    · intro e
      exact ⟨0, by decide, by rw [if_pos rfl]; exact e.symm⟩
  have D0 : yDj φ b σ 0 1 (yUf (fun _ => 1000000000) (yNum σ) 0) g (fun _ => 0) := by
    refine ⟨fun s hs ne => ?_, fun s hs => ?_, fun s hs => ?_, fun i hi => absurd hi (by omega), fun i k hi => absurd hi (by omega), fun i j hij hj => absurd hj (by omega), fun i k hi => absurd hi (by omega), fs, ?_⟩
    · by_cases q : s = yNum σ
      · subst q
        rw [fs]
        exact ⟨σ, S, rfl, yW.nil φ 1000 b σ⟩
      · exact absurd (fo s q) ne
    · by_cases q : s = yNum σ
      · rw [q, fs]; decide
      · rw [fo s q]; exact Nat.le_refl _
    · rw [g0 s]
      constructor
      · intro ne
        right
        exact Classical.byContradiction fun q => ne (fo s q)
      · rintro (⟨i, hi, _⟩ | e)
        · exact absurd hi (by omega)
        · rw [e, fs]; decide
    · have z : ∀ n, yCn (fun s => decide ((fun _ => 1000000000 : Nat → Nat) s ≠ 1000000000)) n = 0 := by
        intro n
        induction n with
        | zero => rfl
        | succ n ih =>
          show yCn _ n + _ = 0
          rw [ih]; rfl
      have := yCn_one (p := fun s => decide ((fun _ => 1000000000 : Nat → Nat) s ≠ 1000000000)) (q := fun s => decide (yUf (fun _ => 1000000000) (yNum σ) 0 s ≠ 1000000000)) (i := yNum σ) (by simp) (by simp [fs]) (fun j hj => by simp [fo j hj]) 100352 lt
      rw [z] at this
      omega
  obtain ⟨n1, f1, h1, t1, ν2, j1, j2, j3, j4, j5, j6, j7⟩ := yc_set_out O hl hb hN S hB (fun (μ47 : wMem) => some μ47) 100353 N 0 1 _ g (fun _ => 0) ν1 (by omega) (by omega) (K1.fc F) c2 D0 (fun i hi => absurd hi (by omega)) (by
    rw [c3 0 21 (by decide) (by decide) (by decide) (by decide), yS_get, if_pos ⟨rfl, rfl⟩]; rfl) (fun i hi => absurd hi (by omega))
  refine ⟨n1, f1, h1, t1, ν2, ?_, K1.trans j2, j3.2.2.1, j4, j5, j6, j7⟩
  unfold fX0_settles
  refine Eq.trans a1 ?_
  unfold wLet
  dsimp only
  have st := yc_state (wSI (wSI ν0 0 20 (0 : Int32)) 0 21 (0 : Int32)) σ N
  rw [A0] at st
  rw [st, yBd]
  refine Eq.trans (congrArg (fun z => wBindV z _) c1) ?_
  rw [yBV]
  exact j1
