set_option maxRecDepth 100000
/-! part 99968: the twin seeks: the whole -/
theorem ym_betters {φ : Nat → Nat → Nat} (O : yOk φ) (hl : 0 < φ 0 0) {N : Nat} (hN : 200000 ≤ N) {σ τ : ySt} {n b : Nat} {u : Nat → ySt} {P : ySt → Prop} (A : yAll φ σ n u) (hb : b < 3) {i : Nat} (hi : i < n) {v : Nat → Nat} {ν : wMem}
    (F : yFM φ 0 ν) (h38 : ν.1 0 38 = nI b) (H : yLv φ n u v ν) (B : yBf φ b n u P v) (v0 : v i ≠ 0) :
    ∃ g w ν1, fX6_betters N (nI (yTN φ (u i))) (yTut ν τ) = some (yB g, yTut ν1 (yT φ (u i))) ∧ yLv φ n u w ν1 ∧ yBf φ b n u P w ∧ yKw ν ν1 ∧ (∀ k, k ≠ i → w k = v k) ∧
      ((g = false ∧ w i = v i ∧ yEv φ b n u v i 0) ∨ (g = true ∧ w i < v i)) := by
  obtain ⟨S, no, _⟩ := A.1 i hi
  have lt := yTN_lt O S
  obtain ⟨y2, w, ν1, i1, i2, i3, i4, i5, i6⟩ := ym_bet_loop O hl hN A hb hi (fun (x22 : Int32) (μ21 : wMem) => wG (ok_b x22) (some (x22, μ21))) 201 N 0 0 v ν (by omega) (by omega) (by omega) F h38 H B v0
  have bg : fX6_begin N (nI (yTN φ (u i))) (yTut ν τ) = some (yTut ν (yT φ (u i))) := by
    rw [ym_begin _ (s := yTN φ (u i)) (by omega) N]
    unfold yTN
    rw [yTu_num O S, yTut_put]
  have nx := ym_nx O F S (N := N) (by omega) (a := 0) (by omega)
  have e : fX6_betters N (nI (yTN φ (u i))) (yTut ν τ) = wG (ok_b y2) (some (y2, yTut ν1 (yT φ (u i)))) := by
    unfold fX6_betters
    rw [bg, yBV]
    refine Eq.trans (congrArg (fun z => wBind z _) nx) ?_
    rw [yBd]
    exact i1
  rcases i6 with ⟨p1, p2, p3⟩ | ⟨p1, p2⟩
  · refine ⟨false, w, ν1, ?_, i2, i3, i4, i5, Or.inl ⟨rfl, p2, p3⟩⟩
    rw [e, p1]
    rfl
  · refine ⟨true, w, ν1, ?_, i2, i3, i4, i5, Or.inr ⟨rfl, p2⟩⟩
    rw [e, p1]
    rfl
theorem ym_seek_init {φ : Nat → Nat → Nat} (O : yOk φ) {N : Nat} {σ : ySt} {n w s : Nat} {u : Nat → ySt} (A : yAll φ σ n u) (hn : n ≤ 94080) (hw : w < 3) (hs : s < 64) (hs2 : w = 2 → s < 6) (K : wMem → Option wMem) : ∀ (d M k : Nat) (ν : wMem) (τ : ySt), d < M → k + d = n → yFM φ 0 ν → yXm φ n u ν → ν.1 0 36 = nI w → ν.1 0 37 = nI s →
    (∀ i, i < k → ν.1 16 (yTN φ (u i)) = nI (if yPsD φ w s (u i) = true then 0 else 2000000000)) →
    ∃ ν1 τ1, gX6_seeks_18 N K M (nI k) (yTut ν τ) = K (yTut ν1 τ1) ∧ yKw ν ν1 ∧ yLv φ n u (fun i => if yPsD φ w s (u i) = true then 0 else 2000000000) ν1 := by
  intro d
  induction d with
  | zero =>
    intro M k ν τ hM hk F X h36 h37 H
    obtain ⟨M, rfl⟩ : ∃ q, M = q + 1 := ⟨M - 1, by omega⟩
    have : k = n := by omega
    subst this
    refine ⟨ν, τ, ?_, yKw.rfl' _, H⟩
    show gbX6_seeks_18 N _ _ _ _ = _
    unfold gbX6_seeks_18
    rw [yTut_o _ _ (by omega), X.1, if_pos Int32.le_rfl]
  | succ d ih =>
    intro M k ν τ hM hk F X h36 h37 H
    obtain ⟨M, rfl⟩ : ∃ q, M = q + 1 := ⟨M - 1, by omega⟩
    have hk' : k < n := by omega
    obtain ⟨S, no, _⟩ := A.1 k hk'
    have lt := yTN_lt O S
    have e : (nI n ≤ nI k) = (n ≤ k) := xI_le (by omega) (by omega)
    have add1 : nI k + (1 : Int32) = nI (k + 1) := nI_add k 1
    have bg : fX6_begin N (nI (yTN φ (u k))) (yTut ν τ) = some (yTut ν (yT φ (u k))) := by
      rw [ym_begin _ (s := yTN φ (u k)) (by omega) N]
      unfold yTN
      rw [yTu_num O S, yTut_put]
    have so := ym_sought O F S N hw hs h36 h37 hs2
    have e15 : ∀ τ, (yTut ν τ).1 15 k = nI (yTN φ (u k)) := fun τ => by rw [yTut_c _ _ (by decide)]; exact (X.2.1 k hk').1
    have step : gX6_seeks_18 N K (M + 1) (nI k) (yTut ν τ) = gX6_seeks_18 N K M (nI (k + 1)) (yTut (wSI ν 16 (yTN φ (u k)) (nI (if yPsD φ w s (u k) = true then 0 else 2000000000))) (yT φ (u k))) := by
      show gbX6_seeks_18 N _ _ _ _ = _
      unfold gbX6_seeks_18 wLet
      dsimp only
      rw [yTut_o ν _ (by omega), X.1, yIf e, if_neg (by omega), yG (xI_in (by omega) (by decide)), xI_cl (by omega), e15, bg, yBV, yG (xI_in (by omega) (by decide)), so, yBd, yIf (yB_0 _), e15]
      by_cases g : yPsD φ w s (u k) = false
      · rw [if_pos g, yG (xI_in lt (by decide)), xI_cl (by omega), add1, yTut_com _ _ (by omega)]
        have : (if yPsD φ w s (u k) = true then 0 else 2000000000) = 2000000000 := if_neg (by simp [g])
        rw [this]
        rfl
      · rw [if_neg g, yG (xI_in lt (by decide)), xI_cl (by omega), add1, yTut_com _ _ (by omega)]
        have : (if yPsD φ w s (u k) = true then 0 else 2000000000) = 0 := if_pos (by simpa using g)
        rw [this]
        rfl
    obtain ⟨ν1, τ1, i1, i2, i3⟩ := ih M (k + 1) (wSI ν 16 (yTN φ (u k)) (nI (if yPsD φ w s (u k) = true then 0 else 2000000000))) (yT φ (u k)) (by omega) (by omega) ((yKw_16 ν _ _).fm F)
      ⟨by rw [yS_get, if_neg (by omega)]; exact X.1, fun i hi => by rw [yS_get, if_neg (by omega), yS_get, if_neg (by omega)]; exact X.2.1 i hi, fun t ht q => by rw [yS_get, if_neg (by omega)]; exact X.2.2 t ht q⟩
      (by rw [yS_get, if_neg (by omega)]; exact h36) (by rw [yS_get, if_neg (by omega)]; exact h37)
      (fun i hi => by
        rw [yS_get]
        by_cases q : i = k
        · subst q
          rw [if_pos ⟨rfl, rfl⟩]
        · rw [if_neg (fun y => q (A.tn O (by omega) hk' y.2))]
          exact H i (by omega))
    exact ⟨ν1, τ1, by rw [step]; exact i1, (yKw_16 ν _ _).trans i2, i3⟩
def ySm (v : Nat → Nat) : Nat → Nat
  | 0 => 0
  | n + 1 => ySm v n + v n
theorem ySm_eq {v w : Nat → Nat} : ∀ n, (∀ i, i < n → w i = v i) → ySm w n = ySm v n
  | 0, _ => rfl
  | n + 1, h => by
    show ySm w n + w n = ySm v n + v n
    rw [ySm_eq n fun i hi => h i (by omega), h n (by omega)]
theorem ySm_lt {v w : Nat → Nat} {i : Nat} (h1 : w i < v i) (h2 : ∀ k, k ≠ i → w k = v k) : ∀ n, i < n → ySm w n < ySm v n
  | 0, h => absurd h (by omega)
  | n + 1, h => by
    show ySm w n + w n < ySm v n + v n
    by_cases q : i = n
    · subst q
      rw [ySm_eq i fun k hk => h2 k (by omega)]
      omega
    · have := ySm_lt h1 h2 n (by omega)
      rw [h2 n (by omega)]
      omega
theorem ySm_le {v : Nat → Nat} {B : Nat} : ∀ n, (∀ i, i < n → v i ≤ B) → ySm v n ≤ n * B
  | 0, _ => by show 0 ≤ _; omega
  | n + 1, h => by
    have := ySm_le n fun i hi => h i (by omega)
    have := h n (by omega)
    show ySm v n + v n ≤ (n + 1) * B
    rw [Nat.add_mul]
    omega
theorem xI_neg1 {k : Nat} (hk : k < 2 ^ 30) : (nI k - (1 : Int32) < 0) = (k = 0) := by
  apply propext
  by_cases h : k = 0
  · subst h
    exact ⟨fun _ => rfl, fun _ => by decide⟩
  · rw [xI_pred (by omega)]
    have : (nI (k - 1) < (0 : Int32)) = (k - 1 < 0) := xI_lt (b := 0) (by omega) (by decide)
    rw [this]
    omega
theorem xI_m2 (k : Nat) : nI (k + 1) - (1 : Int32) + (-1) = nI k - 1 := by
  have : nI (k + 1) = nI k + 1 := (nI_add k 1).symm
  rw [this, Int32.add_sub_cancel, Int32.sub_eq_add_neg]
theorem ym_seek_pass {φ : Nat → Nat → Nat} (O : yOk φ) (hl : 0 < φ 0 0) {N : Nat} (hN : 200000 ≤ N) {σ : ySt} {n b : Nat} {u : Nat → ySt} {P : ySt → Prop} (A : yAll φ σ n u) (hn : n ≤ 94080) (hb : b < 3) (K : Int32 → wMem → Option wMem) : ∀ (k M : Nat) (g : Bool) (v : Nat → Nat) (ν : wMem) (τ : ySt), k < M → k ≤ n →
    yFM φ 0 ν → ν.1 0 38 = nI b → yXm φ n u ν → yLv φ n u v ν → yBf φ b n u P v →
    ∃ g1 w ν1 τ1, gX6_seeks_89 N K M (yB g) (nI k - 1) (yTut ν τ) = K (yB g1) (yTut ν1 τ1) ∧ yLv φ n u w ν1 ∧ yBf φ b n u P w ∧ yKw ν ν1 ∧
      ((g1 = g ∧ (∀ i, i < n → w i = v i) ∧ ∀ i, i < k → v i = 0 ∨ yEv φ b n u v i 0) ∨ (g1 = true ∧ ySm w n < ySm v n)) := by
  intro k
  induction k with
  | zero =>
    intro M g v ν τ hM hk F h38 X H B
    obtain ⟨M, rfl⟩ : ∃ q, M = q + 1 := ⟨M - 1, by omega⟩
    refine ⟨g, v, ν, τ, ?_, H, B, yKw.rfl' _, Or.inl ⟨rfl, fun _ _ => rfl, fun i hi => absurd hi (by omega)⟩⟩
    show gbX6_seeks_89 N _ _ _ _ _ = _
    unfold gbX6_seeks_89
    rw [if_pos (by decide)]
  | succ k ih =>
    intro M g v ν τ hM hk F h38 X H B
    obtain ⟨M, rfl⟩ : ∃ q, M = q + 1 := ⟨M - 1, by omega⟩
    have hk' : k < n := by omega
    obtain ⟨S, no, _⟩ := A.1 k hk'
    have lt := yTN_lt O S
    have e15 : (yTut ν τ).1 15 k = nI (yTN φ (u k)) := by rw [yTut_c _ _ (by decide)]; exact (X.2.1 k hk').1
    have e16 : (yTut ν τ).1 16 (yTN φ (u k)) = nI (v k) := by rw [yTut_c _ _ (by decide)]; exact H k hk'
    have pk : nI (k + 1) - (1 : Int32) = nI k := xI_pred (z := k + 1) (by omega)
    have vk := (B k hk').1
    have m2 := xI_m2 k
    rw [pk] at m2
    have step0 : gX6_seeks_89 N K (M + 1) (yB g) (nI (k + 1) - 1) (yTut ν τ) = if v k = 0 then gX6_seeks_89 N K M (yB g) (nI k - 1) (yTut ν τ) else wBind (fX6_betters N (nI (yTN φ (u k))) (yTut ν τ)) fun v32 μ31 => gX6_seeks_89 N K M (yB g ||| v32) (nI k - 1) μ31 := by
      show gbX6_seeks_89 N _ _ _ _ _ = _
      unfold gbX6_seeks_89 wLet
      dsimp only
      rw [yIf (xI_neg1 (k := k + 1) (by omega)), if_neg (by omega), pk, yG (xI_in (by omega) (by decide)), xI_cl (by omega), e15, yG (xI_in lt (by decide)), xI_cl (by omega), e16, yIf (xI_e0 (a := v k) (by omega)), m2, yG (xI_in (by omega) (by decide))]
    rw [step0]
    by_cases z : v k = 0
    · rw [if_pos z]
      obtain ⟨g1, w, ν1, τ1, i1, i2, i3, i4, i5⟩ := ih M g v ν τ (by omega) (by omega) F h38 X H B
      refine ⟨g1, w, ν1, τ1, i1, i2, i3, i4, ?_⟩
      rcases i5 with ⟨p1, p2, p3⟩ | p
      · refine Or.inl ⟨p1, p2, fun i hi => ?_⟩
        by_cases q : i = k
        · rw [q]; exact Or.inl z
        · exact p3 i (by omega)
      · exact Or.inr p
    · rw [if_neg z]
      obtain ⟨g2, w2, ν2, b1, b2, b3, b4, b5, b6⟩ := ym_betters O hl hN (τ := τ) A hb hk' F h38 H B z
      have X2 : yXm φ n u ν2 := ⟨by rw [b4.1 0 34 (by decide) (by omega)]; exact X.1, fun i hi => by rw [b4.1 15 _ (by decide) (by omega), b4.1 14 _ (by decide) (by omega)]; exact X.2.1 i hi, fun t ht q => by rw [b4.1 14 _ (by decide) (by omega)]; exact X.2.2 t ht q⟩
      have h38' : ν2.1 0 38 = nI b := by rw [b4.1 0 38 (by decide) (by omega)]; exact h38
      have orb : yB g ||| yB g2 = yB (g || g2) := by cases g <;> cases g2 <;> decide
      obtain ⟨g1, w, ν1, τ1, i1, i2, i3, i4, i5⟩ := ih M (g || g2) w2 ν2 (yT φ (u k)) (by omega) (by omega) (b4.fm F) h38' X2 b2 b3
      refine ⟨g1, w, ν1, τ1, by rw [b1, yBd, orb]; exact i1, i2, i3, b4.trans i4, ?_⟩
      rcases b6 with ⟨c1, c2, c3⟩ | ⟨c1, c2⟩
      · have eqv : ∀ i, i < n → w2 i = v i := fun i _ => by
          by_cases q : i = k
          · rw [q]; exact c2
          · exact b5 i q
        rcases i5 with ⟨p1, p2, p3⟩ | ⟨p1, p2⟩
        · refine Or.inl ⟨by rw [p1, c1]; cases g <;> rfl, fun i hi => (p2 i hi).trans (eqv i hi), fun i hi => ?_⟩
          by_cases q : i = k
          · rw [q]; exact Or.inr c3
          · rcases p3 i (by omega) with y | y
            · left; rw [← eqv i (by omega)]; exact y
            · right
              intro x hx ex j hj ej
              have := y x hx ex j hj ej
              rw [eqv j hj, eqv i (by omega)] at this
              exact this
        · exact Or.inr ⟨p1, by rw [ySm_eq n eqv] at p2; exact p2⟩
      · have l2 := ySm_lt c2 b5 n hk'
        rcases i5 with ⟨p1, p2, p3⟩ | ⟨p1, p2⟩
        · refine Or.inr ⟨by rw [p1, c1]; cases g <;> rfl, by rw [ySm_eq n p2]; exact l2⟩
        · exact Or.inr ⟨p1, by omega⟩
theorem ym_seek_main {φ : Nat → Nat → Nat} (O : yOk φ) (hl : 0 < φ 0 0) {N : Nat} (hN : 200000 ≤ N) {σ : ySt} {n b : Nat} {u : Nat → ySt} {P : ySt → Prop} (A : yAll φ σ n u) (hn : n ≤ 94080) (hb : b < 3) (K : wMem → Option wMem) : ∀ (D M : Nat) (v : Nat → Nat) (ν : wMem) (τ : ySt), ySm v n ≤ D → D + 1 < M →
    yFM φ 0 ν → ν.1 0 38 = nI b → yXm φ n u ν → yLv φ n u v ν → yBf φ b n u P v →
    ∃ w ν1 τ1, gX6_seeks_73 N K M 1 (yTut ν τ) = K (yTut ν1 τ1) ∧ yLv φ n u w ν1 ∧ yBf φ b n u P w ∧ yKw ν ν1 ∧ ∀ i, i < n → w i = 0 ∨ yEv φ b n u w i 0 := by
  intro D
  induction D with
  | zero =>
    intro M v ν τ hD hM F h38 X H B
    obtain ⟨M, rfl⟩ : ∃ q, M = q + 1 := ⟨M - 1, by omega⟩
    obtain ⟨M, rfl⟩ : ∃ q, M = q + 1 := ⟨M - 1, by omega⟩
    have e34 : (yTut ν τ).1 0 34 = nI n := by rw [yTut_o _ _ (by omega)]; exact X.1
    obtain ⟨g1, w, ν1, τ1, i1, i2, i3, i4, i5⟩ := ym_seek_pass O hl hN A hn hb (fun (x35 : Int32) (μ34 : wMem) => gX6_seeks_73 N K (M + 1) x35 μ34) n N false v ν τ (by omega) (Nat.le_refl _) F h38 X H B
    have st : gX6_seeks_73 N K (M + 1 + 1) 1 (yTut ν τ) = gX6_seeks_73 N K (M + 1) (yB g1) (yTut ν1 τ1) := by
      show gbX6_seeks_73 N _ _ _ _ = _
      unfold gbX6_seeks_73 wLet
      dsimp only
      rw [if_neg (by decide), e34]
      exact i1
    rcases i5 with ⟨p1, p2, p3⟩ | ⟨p1, p2⟩
    · subst p1
      refine ⟨w, ν1, τ1, ?_, i2, i3, i4, fun i hi => ?_⟩
      · rw [st]
        show gbX6_seeks_73 N _ _ _ _ = _
        unfold gbX6_seeks_73
        rw [if_pos (show yB false = 0 from rfl)]
      · rcases p3 i hi with y | y
        · left; rw [p2 i hi]; exact y
        · right
          intro x hx ex j hj ej
          have := y x hx ex j hj ej
          rw [p2 j hj, p2 i hi]
          exact this
    · omega
  | succ D ih =>
    intro M v ν τ hD hM F h38 X H B
    obtain ⟨M, rfl⟩ : ∃ q, M = q + 1 := ⟨M - 1, by omega⟩
    have e34 : (yTut ν τ).1 0 34 = nI n := by rw [yTut_o _ _ (by omega)]; exact X.1
    obtain ⟨g1, w, ν1, τ1, i1, i2, i3, i4, i5⟩ := ym_seek_pass O hl hN A hn hb (fun (x35 : Int32) (μ34 : wMem) => gX6_seeks_73 N K M x35 μ34) n N false v ν τ (by omega) (Nat.le_refl _) F h38 X H B
    have st : gX6_seeks_73 N K (M + 1) 1 (yTut ν τ) = gX6_seeks_73 N K M (yB g1) (yTut ν1 τ1) := by
      show gbX6_seeks_73 N _ _ _ _ = _
      unfold gbX6_seeks_73 wLet
      dsimp only
      rw [if_neg (by decide), e34]
      exact i1
    rcases i5 with ⟨p1, p2, p3⟩ | ⟨p1, p2⟩
    · subst p1
      obtain ⟨M, rfl⟩ : ∃ q, M = q + 1 := ⟨M - 1, by omega⟩
      refine ⟨w, ν1, τ1, ?_, i2, i3, i4, fun i hi => ?_⟩
      · rw [st]
        show gbX6_seeks_73 N _ _ _ _ = _
        unfold gbX6_seeks_73
        rw [if_pos (show yB false = 0 from rfl)]
      · rcases p3 i hi with y | y
        · left; rw [p2 i hi]; exact y
        · right
          intro x hx ex j hj ej
          have := y x hx ex j hj ej
          rw [p2 j hj, p2 i hi]
          exact this
    · subst p1
      have X2 : yXm φ n u ν1 := ⟨by rw [i4.1 0 34 (by decide) (by omega)]; exact X.1, fun i hi => by rw [i4.1 15 _ (by decide) (by omega), i4.1 14 _ (by decide) (by omega)]; exact X.2.1 i hi, fun t ht q => by rw [i4.1 14 _ (by decide) (by omega)]; exact X.2.2 t ht q⟩
      have h38' : ν1.1 0 38 = nI b := by rw [i4.1 0 38 (by decide) (by omega)]; exact h38
      obtain ⟨w2, ν2, τ2, j1, j2, j3, j4, j5⟩ := ih M w ν1 τ1 (by omega) (by omega) (i4.fm F) h38' X2 i2 i3
      exact ⟨w2, ν2, τ2, by rw [st]; exact j1, j2, j3, i4.trans j4, j5⟩
/-- what the twin's least costs are: least to what is sought, or too far -/
def yTl (φ : Nat → Nat → Nat) (b : Nat) (P : ySt → Prop) (τ : ySt) (v : Nat) : Prop :=
  (v < 2000000000 ∧ yMin φ 10000 b τ P v) ∨ (v = 2000000000 ∧ ∀ ρ c, P ρ → yW φ 10000 b τ ρ c → 2000000000 ≤ c)
theorem yEv_least {φ : Nat → Nat → Nat} {σ : ySt} {n b : Nat} {u : Nat → ySt} {P : ySt → Prop} {v : Nat → Nat} (A : yAll φ σ n u) (B : yBf φ b n u P v) (E : ∀ i, i < n → v i = 0 ∨ yEv φ b n u v i 0) : ∀ i, i < n → yTl φ b P (u i) (v i) := by
  have low : ∀ (l : List Nat) (i : Nat), i < n → ∀ ρ, yRun φ (u i) l = some ρ → P ρ → yCs φ 10000 b l < 2000000000 → v i ≤ yCs φ 10000 b l := by
    intro l
    induction l with
    | nil =>
      intro i hi ρ r p _
      have e : u i = ρ := Option.some.inj r
      rw [(B i hi).2.2 (by rw [e]; exact p)]
      exact Nat.zero_le _
    | cons x l ih =>
      intro i hi ρ r p lt
      replace r : (if yEb φ (u i) x = true then yRun φ (yDo φ (u i) x) l else none) = some ρ := r
      replace lt : yCst φ 10000 b x + yCs φ 10000 b l < 2000000000 := lt
      show v i ≤ yCst φ 10000 b x + yCs φ 10000 b l
      by_cases g : yEb φ (u i) x = true
      · rw [if_pos g] at r
        obtain ⟨j, hj, e⟩ := A.next hi g
        rw [← e] at r
        have := ih j hj ρ r p (by omega)
        rcases E i hi with y | y
        · omega
        · rcases y x (Nat.zero_le _) g j hj e with q | q <;> omega
      · rw [if_neg g] at r; cases r
  intro i hi
  obtain ⟨b1, b2, b3⟩ := B i hi
  by_cases g : v i = 2000000000
  · right
    refine ⟨g, fun ρ c p w => ?_⟩
    obtain ⟨l, r, e⟩ := w
    rcases Nat.lt_or_ge c 2000000000 with q | q
    · have := low l i hi ρ r p (by omega)
      omega
    · exact q
  · left
    refine ⟨by omega, b2 g, fun ρ c p w => ?_⟩
    obtain ⟨l, r, e⟩ := w
    rcases Nat.lt_or_ge c 2000000000 with q | q
    · have := low l i hi ρ r p (by omega)
      omega
    · omega
theorem ym_seeks {φ : Nat → Nat → Nat} (O : yOk φ) (hl : 0 < φ 0 0) {N : Nat} (hN : 200000000000000 ≤ N) {σ τ : ySt} {n b w s : Nat} {u : Nat → ySt} (A : yAll φ σ n u) (hn : n ≤ 94080) (hb : b < 3) (hw : w < 3) (hs : s < 64) (hs2 : w = 2 → s < 6) {μ : wMem} (F : yFM φ 0 μ) (X : yXm φ n u μ) :
    ∃ v ν τ1, fX6_seeks N (nI w) (nI s) (nI b) (yTut μ τ) = some (yTut ν τ1) ∧ yLv φ n u v ν ∧ (∀ i, i < n → yTl φ b (yPs φ w s) (u i) (v i)) ∧ (∀ c i, c ≠ 16 → (c = 0 → (i < 23 ∨ 27 < i) ∧ (i < 36 ∨ 38 < i)) → ν.1 c i = μ.1 c i) ∧ ν.2 = μ.2 ∧ ν.1 0 38 = nI b := by
  have F3 : yFM φ 0 (wSI (wSI (wSI μ 0 36 (nI w)) 0 37 (nI s)) 0 38 (nI b)) := yFM_of F fun c h1 h2 i => by rw [yS_get, if_neg (by omega), yS_get, if_neg (by omega), yS_get, if_neg (by omega)]
  have X3 : yXm φ n u (wSI (wSI (wSI μ 0 36 (nI w)) 0 37 (nI s)) 0 38 (nI b)) :=
    ⟨by rw [yS_get, if_neg (by omega), yS_get, if_neg (by omega), yS_get, if_neg (by omega)]; exact X.1,
     fun i hi => by rw [yS_get, if_neg (by omega), yS_get, if_neg (by omega), yS_get, if_neg (by omega), yS_get, if_neg (by omega), yS_get, if_neg (by omega), yS_get, if_neg (by omega)]; exact X.2.1 i hi,
     fun t ht q => by rw [yS_get, if_neg (by omega), yS_get, if_neg (by omega), yS_get, if_neg (by omega)]; exact X.2.2 t ht q⟩
  have a36 : (wSI (wSI (wSI μ 0 36 (nI w)) 0 37 (nI s)) 0 38 (nI b)).1 0 36 = nI w := by rw [yS_get, if_neg (by omega), yS_get, if_neg (by omega), yS_get, if_pos ⟨rfl, rfl⟩]
  have a37 : (wSI (wSI (wSI μ 0 36 (nI w)) 0 37 (nI s)) 0 38 (nI b)).1 0 37 = nI s := by rw [yS_get, if_neg (by omega), yS_get, if_pos ⟨rfl, rfl⟩]
  have a38 : (wSI (wSI (wSI μ 0 36 (nI w)) 0 37 (nI s)) 0 38 (nI b)).1 0 38 = nI b := by rw [yS_get, if_pos ⟨rfl, rfl⟩]
  have kμ : ∀ c i, (c = 0 → i < 36 ∨ 38 < i) → (wSI (wSI (wSI μ 0 36 (nI w)) 0 37 (nI s)) 0 38 (nI b)).1 c i = μ.1 c i := fun c i h => by
    rw [yS_get, if_neg (fun q => by have := h q.1; omega), yS_get, if_neg (fun q => by have := h q.1; omega), yS_get, if_neg (fun q => by have := h q.1; omega)]
  have eμ : wSI (wSI (wSI (yTut μ τ) 0 36 (nI w)) 0 37 (nI s)) 0 38 (nI b) = yTut (wSI (wSI (wSI μ 0 36 (nI w)) 0 37 (nI s)) 0 38 (nI b)) τ := by
    rw [yTut_com _ _ (by omega), yTut_com _ _ (by omega), yTut_com _ _ (by omega)]
  have k2 : (wSI (wSI (wSI μ 0 36 (nI w)) 0 37 (nI s)) 0 38 (nI b)).2 = μ.2 := rfl
  generalize wSI (wSI (wSI μ 0 36 (nI w)) 0 37 (nI s)) 0 38 (nI b) = ρ at *
  obtain ⟨ν1, τ1, i1, i2, i3⟩ := ym_seek_init O (N := N) A hn hw hs hs2 (fun (μ19 : wMem) => gX6_seeks_73 N (fun (μ36 : wMem) => some μ36) N 1 μ19) n N 0 ρ τ (by omega) (by omega) F3 X3 a36 a37 (fun i hi => absurd hi (by omega))
  have B1 : yBf φ b n u (yPs φ w s) (fun i => if yPsD φ w s (u i) = true then 0 else 2000000000) := fun i hi => by
    dsimp only
    by_cases g : yPsD φ w s (u i) = true
    · rw [if_pos g]
      exact ⟨by decide, fun _ => ⟨u i, (yPsD_iff φ w s _).mp g, yW.nil φ 10000 b _⟩, fun _ => rfl⟩
    · rw [if_neg g]
      exact ⟨Nat.le_refl _, fun h => absurd rfl h, fun p => absurd ((yPsD_iff φ w s _).mpr p) g⟩
  have X1 : yXm φ n u ν1 := ⟨by rw [i2.1 0 34 (by decide) (by omega)]; exact X3.1, fun i hi => by rw [i2.1 15 _ (by decide) (by omega), i2.1 14 _ (by decide) (by omega)]; exact X3.2.1 i hi, fun t ht q => by rw [i2.1 14 _ (by decide) (by omega)]; exact X3.2.2 t ht q⟩
  have b38 : ν1.1 0 38 = nI b := by rw [i2.1 0 38 (by decide) (by omega)]; exact a38
  have sm : ySm (fun i => if yPsD φ w s (u i) = true then 0 else 2000000000) n ≤ 188160000000000 := by
    have := ySm_le (v := fun i => if yPsD φ w s (u i) = true then 0 else 2000000000) n fun i hi => (B1 i hi).1
    have : n * 2000000000 ≤ 94080 * 2000000000 := Nat.mul_le_mul_right _ hn
    omega
  obtain ⟨v, ν2, τ2, j1, j2, j3, j4, j5⟩ := ym_seek_main O hl (N := N) (by omega) A hn hb (fun (μ36 : wMem) => some μ36) 188160000000000 N _ ν1 τ1 sm (by omega) (i2.fm F3) b38 X1 i3 B1
  refine ⟨v, ν2, τ2, ?_, j2, yEv_least A j3 j5, fun c i hc h => ?_, (j4.2.trans i2.2).trans k2, by rw [j4.1 0 38 (by decide) (by omega)]; exact b38⟩
  · unfold fX6_seeks wLet
    dsimp only
    rw [eμ]
    exact i1.trans j1
  · rw [j4.1 c i hc (fun q => (h q).1), i2.1 c i hc (fun q => (h q).1)]
    exact kμ c i (fun q => (h q).2)
