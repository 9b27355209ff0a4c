set_option maxRecDepth 100000
/-! part 99966: the twin explores: the whole -/
/-- between the calls: nothing is seen but what the list holds -/
def ySn (μ : wMem) : Prop := ∃ (n : Nat) (L : Nat → Nat), n ≤ 94080 ∧ μ.1 0 34 = nI n ∧ (∀ i, i < n → μ.1 15 i = nI (L i) ∧ L i < 94080) ∧ ∀ s, s < 94080 → (∀ i, i < n → L i ≠ s) → μ.1 14 s = 0
theorem yXm.sn {φ : Nat → Nat → Nat} {σ : ySt} {n cur a : Nat} {u : Nat → ySt} {μ : wMem} (O : yOk φ) (X : yXp φ σ n u cur a) (H : yXm φ n u μ) : ySn μ :=
  ⟨n, fun i => yTN φ (u i), X.le O, H.1, fun i hi => ⟨(H.2.1 i hi).1, yTN_lt O (X.1 i hi).1⟩, H.2.2⟩
theorem ySn_of {μ ν : wMem} (h : ySn μ) (e : ∀ c i, c = 14 ∨ c = 15 ∨ (c = 0 ∧ i = 34) → ν.1 c i = μ.1 c i) : ySn ν := by
  obtain ⟨n, L, h1, h2, h3, h4⟩ := h
  exact ⟨n, L, h1, by rw [e 0 34 (by omega)]; exact h2, fun i hi => by rw [e 15 i (by omega)]; exact h3 i hi, fun s hs q => by rw [e 14 s (by omega)]; exact h4 s hs q⟩
theorem ySn_km {μ ν : wMem} (h : ySn μ) (k : yKM μ ν) : ySn ν := ySn_of h fun c i q => (k c i (by omega) (by omega) (by omega)).1
theorem ym_exp_clear (N : Nat) (a1 : Int32) (K : wMem → Option wMem) {n : Nat} {L : Nat → Nat} (hn : n ≤ 94080) : ∀ (d M k : Nat) (μ : wMem), d < M → k + d = n → μ.1 0 34 = nI n → (∀ i, i < n → μ.1 15 i = nI (L i) ∧ L i < 94080) → (∀ s, s < 94080 → (∀ i, k ≤ i → i < n → L i ≠ s) → μ.1 14 s = 0) →
    ∃ ν, gX6_explores_2 N a1 K M (nI k) μ = K ν ∧ (∀ c i, c ≠ 14 → ν.1 c i = μ.1 c i) ∧ ν.2 = μ.2 ∧ ∀ s, s < 94080 → ν.1 14 s = 0 := by
  intro d
  induction d with
  | zero =>
    intro M k μ hM hk h34 h15 h14
    obtain ⟨M, rfl⟩ : ∃ q, M = q + 1 := ⟨M - 1, by omega⟩
    refine ⟨μ, ?_, fun _ _ _ => rfl, rfl, fun s hs => h14 s hs fun i h1 h2 => by omega⟩
    show gbX6_explores_2 N _ _ _ _ _ = _
    unfold gbX6_explores_2
    have : k = n := by omega
    subst this
    rw [h34, if_pos Int32.le_rfl]
  | succ d ih =>
    intro M k μ hM hk h34 h15 h14
    obtain ⟨M, rfl⟩ : ∃ q, M = q + 1 := ⟨M - 1, by omega⟩
    obtain ⟨x1, x2⟩ := h15 k (by omega)
    have e : (nI n ≤ nI k) = (n ≤ k) := xI_le (by omega) (by omega)
    have add1 : nI k + (1 : Int32) = nI (k + 1) := nI_add k 1
    obtain ⟨ν, i1, i2, i3, i4⟩ := ih M (k + 1) (wSI μ 14 (L k) 0) (by omega) (by omega) (by rw [yS_get, if_neg (by omega)]; exact h34) (fun i hi => by rw [yS_get, if_neg (by omega)]; exact h15 i hi) (fun s hs q => by
      rw [yS_get]
      by_cases g : s = L k
      · rw [if_pos ⟨rfl, g⟩]
      · rw [if_neg (fun y => g y.2)]
        refine h14 s hs fun i h1 h2 => ?_
        by_cases g2 : i = k
        · rw [g2]; exact fun y => g y.symm
        · exact q i (by omega) h2)
    refine ⟨ν, ?_, fun c i hc => by rw [i2 c i hc, yS_get, if_neg (fun q => hc q.1)], i3, i4⟩
    show gbX6_explores_2 N _ _ _ _ _ = _
    unfold gbX6_explores_2 wLet
    dsimp only
    rw [h34, yIf e, if_neg (by omega), yG (xI_in (by omega) (by decide)), xI_cl (by omega), x1, yG (xI_in x2 (by decide)), xI_cl (by omega), add1]
    exact i1
theorem ym_exp_out {φ : Nat → Nat → Nat} (O : yOk φ) {N : Nat} (hN : 200000 ≤ N) {σ : ySt} (K : wMem → Option wMem) : ∀ (d M cur n : Nat) (u : Nat → ySt) (ν : wMem) (τ : ySt), 94081 - cur ≤ d → d < M → cur ≤ n →
    yFM φ 0 ν → yXp φ σ n u cur 0 → yXm φ n u ν →
    ∃ n1 u1 ν1 τ1, gX6_explores_49 N K M (nI cur) (yTut ν τ) = K (yTut ν1 τ1) ∧ yXp φ σ n1 u1 n1 0 ∧ yXm φ n1 u1 ν1 ∧ yKx ν ν1 := by
  intro d
  induction d with
  | zero =>
    intro M cur n u ν τ hd hM hc F X H
    have := X.le O
    omega
  | succ d ih =>
    intro M cur n u ν τ hd hM hc F X H
    obtain ⟨M, rfl⟩ : ∃ q, M = q + 1 := ⟨M - 1, by omega⟩
    have nle := X.le O
    have e34 : (yTut ν τ).1 0 34 = nI n := by rw [yTut_o _ _ (by omega)]; exact H.1
    have e : (nI n ≤ nI cur) = (n ≤ cur) := xI_le (by omega) (by omega)
    show ∃ n1 u1 ν1 τ1, gbX6_explores_49 N _ _ _ _ = _ ∧ _
    unfold gbX6_explores_49
    by_cases z : cur = n
    · subst z
      refine ⟨cur, u, ν, τ, ?_, X, H, yKx.rfl' _⟩
      rw [e34, yIf e, if_pos (Nat.le_refl _)]
    · have hc' : cur < n := by omega
      obtain ⟨S, no, _⟩ := X.1 cur hc'
      have ltc := yTN_lt O S
      obtain ⟨n1, u1, ν1, i1, i2, i3, i4, i5, i6⟩ := ym_exp_in O hN (σ := σ) (cur := cur) (fun (μ39 : wMem) => wLet (nI cur + 1 : Int32) fun x40 => gX6_explores_49 N K M x40 μ39) 201 N 0 n u ν (by omega) (by omega) (by omega) hc' F X H
      have uc := i3 cur hc'
      have X5 : yXp φ σ n1 u1 (cur + 1) 0 := by
        refine ⟨i4.1, i4.2.1, i4.2.2.1, fun i hi x ex c => ?_⟩
        refine i4.2.2.2 i hi x ex ?_
        have := yEb_le ex
        omega
      obtain ⟨n2, u2, ν2, τ2, j1, j2, j3, j4⟩ := ih M (cur + 1) n1 u1 ν1 (yT φ (u cur)) (by omega) (by omega) (by omega) (i6.fm F) X5 i5
      refine ⟨n2, u2, ν2, τ2, ?_, j2, j3, i6.trans j4⟩
      have bg : fX6_begin N (nI (yTN φ (u cur))) (yTut ν τ) = some (yTut ν (yT φ (u cur))) := by
        rw [ym_begin _ (s := yTN φ (u cur)) (by omega) N]
        unfold yTN
        rw [yTu_num O S, yTut_put]
      have add1 : nI cur + (1 : Int32) = nI (cur + 1) := nI_add cur 1
      have nx := ym_nx O F S (N := N) (by omega) (a := 0) (by omega)
      rw [e34, yIf e, if_neg (by omega), yG (xI_in (by omega) (by decide)), xI_cl (by omega), yTut_c _ _ (by decide), (H.2.1 cur hc').1, bg, yBV]
      refine Eq.trans (congrArg (fun z => wBind z _) nx) ?_
      rw [yBd, i1]
      unfold wLet
      dsimp only
      rw [add1]
      exact j1
/-- all states that can be come to from σ, each once -/
def yAll (φ : Nat → Nat → Nat) (σ : ySt) (n : Nat) (u : Nat → ySt) : Prop :=
  (∀ i, i < n → ySok φ (u i) ∧ yNo φ (u i) ∧ ∃ l, yRun φ σ l = some (u i)) ∧
  (∀ i j, i < n → j < n → u i = u j → i = j) ∧
  (∀ τ l, yRun φ σ l = some τ → ∃ i, i < n ∧ u i = τ)
theorem yXp.all {φ : Nat → Nat → Nat} {σ : ySt} {n : Nat} {u : Nat → ySt} (X : yXp φ σ n u n 0) : yAll φ σ n u := by
  refine ⟨X.1, X.2.1, fun τ l r => ?_⟩
  refine yRun_ind (φ := φ) (P := fun τ _ => ∃ i, i < n ∧ u i = τ) X.2.2.1 (fun τ l a _ p e => ?_) l.length l rfl τ r
  obtain ⟨i, hi, q⟩ := p
  subst q
  exact X.2.2.2 i hi a e (Or.inl hi)
theorem ym_explores {φ : Nat → Nat → Nat} (O : yOk φ) {N : Nat} (hN : 200000 ≤ N) {σ τ0 : ySt} (S : ySok φ σ) (no : yNo φ σ) {μ : wMem} (F : yFM φ 0 μ) (Q : ySn μ) :
    ∃ n u ν τ, fX6_explores N (nI (yTN φ σ)) (yTut μ τ0) = some (yTut ν τ) ∧ yAll φ σ n u ∧ n ≤ 94080 ∧ yXm φ n u ν ∧ yKx μ ν ∧ ySn ν := by
  obtain ⟨n0, L, q1, q2, q3, q4⟩ := Q
  have lt := yTN_lt O S
  obtain ⟨ν0, a1, a2, a3, a4⟩ := ym_exp_clear N (nI (yTN φ σ)) (fun (μ6 : wMem) => wLet (wSI μ6 0 34 (1 : Int32)) fun μ7 => wG (ok_in (0 : Int32) 94080) (wLet (wSI μ7 15 (Int32.toNatClampNeg (0 : Int32)) (nI (yTN φ σ))) fun μ9 => wG (ok_in (nI (yTN φ σ)) 94080) (wLet (wSI μ9 14 (Int32.toNatClampNeg (nI (yTN φ σ))) (1 : Int32)) fun μ11 => gX6_explores_49 N (fun (μ41 : wMem) => some μ41) N 0 μ11))) q1 n0 N 0 (yTut μ τ0) (by omega) (by omega)
    (by rw [yTut_o _ _ (by omega)]; exact q2) (fun i hi => by rw [yTut_c _ _ (by decide)]; exact q3 i hi) (fun s hs y => by rw [yTut_c _ _ (by decide)]; exact q4 s hs fun i hi => y i (by omega) hi)
  have eν : ν0 = yTut (fun c i => if c = 14 then ν0.1 14 i else μ.1 c i, μ.2) τ0 := by
    apply yM_ext
    · intro c i
      by_cases h : c = 14
      · subst h
        rw [yTut_c _ _ (by decide)]
        show _ = if 14 = 14 then ν0.1 14 i else μ.1 14 i
        rw [if_pos rfl]
      · rw [a2 c i h]
        by_cases h0 : c = 0
        · subst h0
          by_cases hi : i < 23 ∨ 27 < i
          · rw [yTut_o _ _ hi, yTut_o _ _ hi]
            rfl
          · have : i = 23 ∨ i = 24 ∨ i = 25 ∨ i = 26 ∨ i = 27 := by omega
            rcases this with e | e | e | e | e <;> subst e
            · rw [yTut_23, yTut_23]
            · rw [yTut_24, yTut_24]
            · rw [yTut_25, yTut_25]
            · rw [yTut_26, yTut_26]
            · rw [yTut_27, yTut_27]
        · rw [yTut_c _ _ h0, yTut_c _ _ h0]
          show _ = if c = 14 then ν0.1 14 i else μ.1 c i
          rw [if_neg h]
    · exact a3
  have k0 : yKx μ (fun c i => if c = 14 then ν0.1 14 i else μ.1 c i, μ.2) := ⟨fun c i h _ _ => by show (if c = 14 then ν0.1 14 i else μ.1 c i) = _; rw [if_neg h], rfl⟩
  have z14 : ∀ s, s < 94080 → (fun c i => if c = 14 then ν0.1 14 i else μ.1 c i : Nat → Nat → Int32) 14 s = 0 := fun s hs => by
    show (if 14 = 14 then ν0.1 14 s else μ.1 14 s) = _
    rw [if_pos rfl]; exact a4 s hs
  generalize hρ : ((fun c i => if c = 14 then ν0.1 14 i else μ.1 c i, μ.2) : wMem) = ρ at eν k0
  have z14' : ∀ s, s < 94080 → ρ.1 14 s = 0 := by rw [← hρ]; exact z14
  have X0 : yXp φ σ 1 (fun _ => σ) 0 0 := ⟨fun i hi => ⟨S, no, [], rfl⟩, fun i j hi hj _ => by omega, ⟨0, by decide, rfl⟩, fun i hi x ex c => by omega⟩
  have H0 : yXm φ 1 (fun _ => σ) (wSI (wSI (wSI ρ 0 34 (1 : Int32)) 15 0 (nI (yTN φ σ))) 14 (yTN φ σ) (1 : Int32)) := by
    refine ⟨?_, fun i hi => ⟨?_, ?_⟩, fun s hs y => ?_⟩
    · rw [yS_get, if_neg (by omega), yS_get, if_neg (by omega), yS_get, if_pos ⟨rfl, rfl⟩]; rfl
    · have : i = 0 := by omega
      rw [yS_get, if_neg (by omega), yS_get, if_pos ⟨rfl, this⟩]
    · rw [yS_get, if_pos ⟨rfl, rfl⟩]
    · rw [yS_get, if_neg (fun q => y 0 (by decide) q.2.symm), yS_get, if_neg (by omega), yS_get, if_neg (by omega)]
      exact z14' s hs
  have k1 : yKx μ (wSI (wSI (wSI ρ 0 34 (1 : Int32)) 15 0 (nI (yTN φ σ))) 14 (yTN φ σ) (1 : Int32)) := k0.trans ⟨fun c i c1 c2 c3 => by
    rw [yS_get, if_neg (fun q => c1 q.1), yS_get, if_neg (fun q => c2 q.1), yS_get, if_neg (fun q => (c3 q.1).1 q.2)], rfl⟩
  obtain ⟨n, u, ν, τ, j1, j2, j3, j4⟩ := ym_exp_out O hN (σ := σ) (fun (μ41 : wMem) => some μ41) 94081 N 0 1 (fun _ => σ) _ τ0 (by omega) (by omega) (by omega) (k1.fm F) X0 H0
  refine ⟨n, u, ν, τ, ?_, j2.all, j2.le O, j3, k1.trans j4, j3.sn O j2⟩
  unfold fX6_explores
  refine Eq.trans a1 ?_
  unfold wLet
  dsimp only
  rw [yG (show ok_in (0 : Int32) 94080 = true by decide), yG (xI_in lt (by decide)), xI_cl (by omega), eν, yTut_com _ _ (by omega)]
  show gX6_explores_49 N _ N 0 (wSI (wSI (yTut (wSI ρ 0 34 1) τ0) 15 0 _) 14 _ 1) = _
  rw [yTut_com _ _ (by omega), yTut_com _ _ (by omega)]
  exact j1
theorem nI_sur (v : Int32) : nI v.toBitVec.toNat = v := by
  apply Int32.toBitVec_inj.mp
  rw [xI_bv]
  simp
/-- every memory holds some numbers in the state's cells -/
theorem yTut_raw (μ : wMem) : ∃ ρ, yTut μ ρ = μ := by
  refine ⟨ySt.of (μ.1 0 23).toBitVec.toNat (μ.1 0 24).toBitVec.toNat (μ.1 0 25).toBitVec.toNat (μ.1 0 26).toBitVec.toNat (μ.1 0 27).toBitVec.toNat, ?_⟩
  apply yM_ext
  · intro c i
    simp only [yTut, yS_get, ySt.of_ov, ySt.of_sd, ySt.of_z0, ySt.of_z1, ySt.of_mk, nI_sur]
    repeat' split
    all_goals first | rfl | simp_all
  · rfl
