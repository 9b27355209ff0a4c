set_option maxRecDepth 100000
/-! part 9996993: trips drawn: drawn, luck -/
def yLcg (x : Int64) : Int64 := (((1103515245 : Int64) * x) + (12345 : Int64)) - (((1103515245 : Int64) * x) + (12345 : Int64)) / (2147483648 : Int64) * (2147483648 : Int64)
def yHun (x : Int64) : Int64 := (x / (65536 : Int64)) - (x / (65536 : Int64)) / (100 : Int64) * (100 : Int64)
/-- where one is caught, or none; the state then -/
def yTr (φ : Nat → Nat → Nat) : List Nat → Int64 → Nat → ySt → Int32 × ySt
  | [], _, _, τ => (-1, τ)
  | a :: l, x, n, τ => if a = 200 then yTr φ l x (n + 1) (yDo φ τ a) else if (nI (yRisk φ (a % 10) (a / 100))).toInt64 ≤ yHun (yLcg x) then yTr φ l (yLcg x) (n + 1) (yDo φ τ a) else (nI n, τ)
theorem yTr_cons (φ : Nat → Nat → Nat) (a : Nat) (l : List Nat) (x : Int64) (n : Nat) (τ : ySt) : yTr φ (a :: l) x n τ = if a = 200 then yTr φ l x (n + 1) (yDo φ τ a) else if (nI (yRisk φ (a % 10) (a / 100))).toInt64 ≤ yHun (yLcg x) then yTr φ l (yLcg x) (n + 1) (yDo φ τ a) else (nI n, τ) := rfl
theorem yc_trip_one {φ : Nat → Nat → Nat} (O : yOk φ) {N : Nat} {ρ : wMem} (F : yFC φ ρ) (K : wMem → Option wMem) (rec : Int64 → Int32 → Int32 → wMem → Option wMem) (s : Int64) (n x : Nat) (l : List Nat) (τ : ySt) (h : yRd φ N 1 ρ τ (x :: l)) :
    gbX0_goesTrip_24 N K rec s (nI n) (nI x) (yPut ρ τ) = if x = 200 then rec s (nI (n + 1)) (yHd l) (yPut ρ (yDo φ τ x)) else if (nI (yRisk φ (x % 10) (x / 100))).toInt64 ≤ yHun (yLcg s) then rec (yLcg s) (nI (n + 1)) (yHd l) (yPut ρ (yDo φ τ x)) else some (wSI (yPut ρ τ) 0 31 (nI n)) := by
  obtain ⟨S, ex, st, h2⟩ := h
  have hx := (yEb_act ex).1
  have hxl := hx.le
  have st2 : fX0_step N 20 (yPut ρ (yDo φ τ x)) = some (yHd l, yPut ρ (yDo φ τ x)) := h2.hd
  have dd := yc_does O F S N hx
  have e200 : (nI x = (200 : Int32)) = (x = 200) := xI_e200 (by omega)
  have add1 : nI n + (1 : Int32) = nI (n + 1) := nI_add n 1
  unfold gbX0_goesTrip_24
  rw [yIf (xI_201 (x := x) hxl), if_neg (fun h => h), yWL, yIf e200]
  by_cases q : x = 200
  · rw [if_pos q, if_pos q]
    show wBindV (fX0_does N (nI x) (yPut ρ τ)) _ = _
    rw [dd, yBV, yWL, add1, st2, yBd]
  · obtain ⟨h1, h2', h3, h4⟩ := hx.resolve_left q
    rw [if_neg q, if_neg q, yWL, yc_personIn (by omega), yBd, yc_postIn (by omega), yBd, yc_risk O (yFC_put F τ) N h4 h2', yBd]
    show (if (nI (yRisk φ (x % 10) (x / 100))).toInt64 ≤ yHun (yLcg s) then wBindV (fX0_does N (nI x) (yPut ρ τ)) _ else some (wSI (yPut ρ τ) 0 31 (nI n))) = _
    by_cases g : (nI (yRisk φ (x % 10) (x / 100))).toInt64 ≤ yHun (yLcg s)
    · rw [if_pos g, if_pos g, dd, yBV, yWL, add1, st2, yBd]
      rfl
    · rw [if_neg g, if_neg g]
theorem yc_trip_loop {φ : Nat → Nat → Nat} (O : yOk φ) {N : Nat} {ρ : wMem} (F : yFC φ ρ) (h31 : ρ.1 0 31 = -1) : ∀ (l : List Nat) (M n : Nat) (s : Int64) (τ : ySt), l.length < M → yRd φ N 1 ρ τ l →
    ∃ ν, gX0_goesTrip_24 N (fun (μ29 : wMem) => some μ29) M s (nI n) (yHd l) (yPut ρ τ) = some ν ∧ ν.1 0 31 = (yTr φ l s n τ).1 ∧ ν.1 0 5 = nI (yTr φ l s n τ).2.ov ∧ yKv ρ ν ∧ yKC ρ ν := by
  intro l
  induction l with
  | nil =>
    intro M n s τ hM h
    obtain ⟨M, rfl⟩ : ∃ q, M = q + 1 := ⟨M - 1, by omega⟩
    refine ⟨yPut ρ τ, ?_, by rw [yPut_o ρ τ (by omega) (by decide)]; exact h31, yPut_5 ρ τ, yKv_put ρ τ, yKC_put ρ τ⟩
    show gbX0_goesTrip_24 N _ _ _ _ _ _ = _
    unfold gbX0_goesTrip_24
    rw [if_pos (show yHd [] = -1 from rfl)]
  | cons x l ih =>
    intro M n s τ hM h
    obtain ⟨M, rfl⟩ : ∃ q, M = q + 1 := ⟨M - 1, by omega⟩
    have s1 : gX0_goesTrip_24 N (fun (μ29 : wMem) => some μ29) (M + 1) s (nI n) (nI x) (yPut ρ τ) = _ := yc_trip_one O F (fun (μ29 : wMem) => some μ29) (gX0_goesTrip_24 N (fun (μ29 : wMem) => some μ29) M) s n x l τ h
    have h2 := h.2.2.2
    have hM2 : l.length < M := by simp at hM; omega
    have hd : yHd (x :: l) = nI x := rfl
    rw [hd, s1, yTr_cons]
    by_cases q : x = 200
    · rw [if_pos q, if_pos q]
      exact ih M (n + 1) s _ hM2 h2
    · rw [if_neg q, if_neg q]
      by_cases g : (nI (yRisk φ (x % 10) (x / 100))).toInt64 ≤ yHun (yLcg s)
      · rw [if_pos g, if_pos g]
        exact ih M (n + 1) (yLcg s) _ hM2 h2
      · rw [if_neg g, if_neg g]
        refine ⟨_, rfl, by rw [yS_get, if_pos ⟨rfl, rfl⟩], by rw [yS_get, if_neg (by omega)]; exact yPut_5 ρ τ, (yKv_put ρ τ).trans fun c i a => by rw [yS_get, if_neg (by omega)], (yKC_put ρ τ).trans fun c i a b => ⟨by rw [yS_get, if_neg (fun q => by have := a q.1; omega)], rfl⟩⟩
theorem yc_trip {φ : Nat → Nat → Nat} (O : yOk φ) (G : yGo φ) {N : Nat} (hN : 1000 ≤ N) {ρ ν : wMem} (F : yFC φ ρ) {l : List Nat} (hL : l.length < 1000) (rd : ∀ ν, yKv ρ ν → yRd φ N 1 ν (yLay φ (φ 0 6)) l) (k : yKv ρ ν) (s : Int64) :
    ∃ ν1, fX0_goesTrip N s ν = some ν1 ∧ ν1.1 0 31 = (yTr φ l s 0 (yLay φ (φ 0 6))).1 ∧ ν1.1 0 5 = nI (yTr φ l s 0 (yLay φ (φ 0 6))).2.ov ∧ yKv ρ ν1 ∧ yKC ν ν1 := by
  have k31 : yKv ν (wSI ν 0 31 (-1)) := fun c i a => by rw [yS_get, if_neg (by omega)]
  have kk31 : yKC ν (wSI ν 0 31 (-1)) := fun c i a b => ⟨by rw [yS_get, if_neg (fun q => by have := a q.1; omega)], rfl⟩
  have k2 := (k.trans k31).trans (yKv_DR (wSI ν 0 31 (-1)) (yDays φ (φ 0 6)) (yRisks φ (φ 0 6)))
  have r0 := rd _ k2
  have F1 := (k.trans k31).fc F
  have h31 : (yDR (wSI ν 0 31 (-1)) (yDays φ (φ 0 6)) (yRisks φ (φ 0 6))).1 0 31 = -1 := by rw [yDR_o _ _ _ (by omega), yS_get, if_pos ⟨rfl, rfl⟩]
  obtain ⟨ν1, j1, j2, j3, j4, j5⟩ := yc_trip_loop O (k2.fc F) h31 l N 0 s _ (by omega) r0
  have st : fX0_step N 20 _ = _ := r0.hd
  refine ⟨ν1, ?_, j2, j3, k2.trans j4, (kk31.trans (yKC_DR _ _ _)).trans j5⟩
  unfold fX0_goesTrip
  rw [yWL, yc_lay O F1 G (by omega), yBV, st, yBd]
  exact j1
theorem ym_trip_loop {φ : Nat → Nat → Nat} (O : yOk φ) {N : Nat} {L : List Nat} (hL : L.length ≤ 400) : ∀ (d M k : Nat) (s : Int64) (τ ρ : ySt) (ν : wMem), d < M → k + d = L.length → ySok φ τ → yRun φ τ (L.drop k) = some ρ → yFM φ 0 ν → yRl L ν →
    ∃ ν1, gX6_draws_9 N (fun (μ20 : wMem) => wLet (wSI μ20 0 47 (μ20.1 0 23)) fun μ21 => some ((-1), μ21)) M s (nI k) (yTut ν (yT φ τ)) = some ((yTr φ (L.drop k) s k τ).1, ν1) ∧ ν1.1 0 47 = nI (yTr φ (L.drop k) s k τ).2.ov ∧ yKM ν ν1 ∧ yRl L ν1 := by
  have k47 : ∀ (ν : wMem) (v : Int32), yKM ν (wSI ν 0 47 v) := fun ν v c i a b d => ⟨by rw [yS_get, if_neg (fun q => by have := a q.1; omega)], rfl⟩
  have r47 : ∀ (ν : wMem) (v : Int32), yRl L ν → yRl L (wSI ν 0 47 v) := fun ν v Q => ⟨by rw [yS_get, if_neg (by omega)]; exact Q.1, fun m hm => by rw [yS_get, if_neg (by omega)]; exact Q.2 m hm⟩
  intro d
  induction d with
  | zero =>
    intro M k s τ ρ ν hM hk S r F Q
    obtain ⟨M, rfl⟩ : ∃ q, M = q + 1 := ⟨M - 1, by omega⟩
    rw [List.drop_eq_nil_of_le (by omega)]
    refine ⟨wSI (yTut ν (yT φ τ)) 0 47 (nI τ.ov), ?_, by rw [yS_get, if_pos ⟨rfl, rfl⟩]; rfl, (yKM_put _ _).trans (k47 _ _), r47 _ _ (yRl_put Q _)⟩
    show gbX6_draws_9 N _ _ _ _ _ = _
    unfold gbX6_draws_9
    rw [(yRl_put Q (yT φ τ)).1, yIf (xI_le (a := L.length) (b := k) (by omega) (by omega)), if_pos (by omega)]
    show some ((-1 : Int32), wSI (yTut ν (yT φ τ)) 0 47 ((yTut ν (yT φ τ)).1 0 23)) = _
    rw [yTut_23]
    rfl
  | succ d ih =>
    intro M k s τ ρ ν hM hk S r F Q
    obtain ⟨M, rfl⟩ : ∃ q, M = q + 1 := ⟨M - 1, by omega⟩
    have hk2 : k < L.length := by omega
    have ed : L.drop k = L[k] :: L.drop (k + 1) := List.drop_eq_getElem_cons hk2
    have ev := yVal_get hk2
    rw [ed] at r ⊢
    generalize L[k] = x at *
    replace r : (if yEb φ τ x = true then yRun φ (yDo φ τ x) (L.drop (k + 1)) else none) = some ρ := r
    by_cases qe : yEb φ τ x = true
    · rw [if_pos qe] at r
      have add1 : nI k + (1 : Int32) = nI (k + 1) := nI_add k 1
      have hx := yEb_act qe
      have S2 := yDo_ok O S hx.1
      have hxl := hx.1.le
      have Q1 := yRl_put (r47 ν (nI τ.ov) Q) (yT φ τ)
      have F1 := (k47 ν (nI τ.ov)).fm F
      have e17 : (yTut (wSI ν 0 47 (nI τ.ov)) (yT φ τ)).1 17 k = nI x := (Q1.2 k hk2).trans ev
      have dd := ym_does O F1 S N hx.1 hx.2
      have e200 : (nI x = (200 : Int32)) = (x = 200) := xI_e200 (by omega)
      rw [yTr_cons]
      show ∃ ν1, gbX6_draws_9 N _ _ _ _ _ = _ ∧ _
      have body : gbX6_draws_9 N (fun (μ20 : wMem) => wLet (wSI μ20 0 47 (μ20.1 0 23)) fun μ21 => some ((-1), μ21)) (gX6_draws_9 N (fun (μ20 : wMem) => wLet (wSI μ20 0 47 (μ20.1 0 23)) fun μ21 => some ((-1), μ21)) M) s (nI k) (yTut ν (yT φ τ)) = if x = 200 then gX6_draws_9 N (fun (μ20 : wMem) => wLet (wSI μ20 0 47 (μ20.1 0 23)) fun μ21 => some ((-1), μ21)) M s (nI (k + 1)) (yTut (wSI ν 0 47 (nI τ.ov)) (yT φ (yDo φ τ x))) else if (nI (yRisk φ (x % 10) (x / 100))).toInt64 ≤ yHun (yLcg s) then gX6_draws_9 N (fun (μ20 : wMem) => wLet (wSI μ20 0 47 (μ20.1 0 23)) fun μ21 => some ((-1), μ21)) M (yLcg s) (nI (k + 1)) (yTut (wSI ν 0 47 (nI τ.ov)) (yT φ (yDo φ τ x))) else some (nI k, yTut (wSI ν 0 47 (nI τ.ov)) (yT φ τ)) := by
        unfold gbX6_draws_9
        rw [(yRl_put Q (yT φ τ)).1, yIf (xI_le (a := L.length) (b := k) (by omega) (by omega)), if_neg (by omega), yWL, yTut_23]
        have c47 : wSI (yTut ν (yT φ τ)) 0 47 (nI (yT φ τ).ov) = yTut (wSI ν 0 47 (nI τ.ov)) (yT φ τ) := yTut_com ν (yT φ τ) (by omega) _
        rw [c47, yG (xI_in (by omega) (by decide)), yWL, xI_cl (by omega), e17, yIf e200]
        by_cases q : x = 200
        · rw [if_pos q, if_pos q]
          show wG (ok_in (nI k) 400) (wBindV (fX6_does N ((yTut (wSI ν 0 47 (nI τ.ov)) (yT φ τ)).1 17 k) (yTut (wSI ν 0 47 (nI τ.ov)) (yT φ τ))) _) = _
          rw [yG (xI_in (by omega) (by decide)), e17, dd, yBV, yWL, add1]
        · obtain ⟨h1, h2', h3, h4⟩ := hx.1.resolve_left q
          rw [if_neg q, if_neg q, yWL, yG (xI_in (by omega) (by decide)), yG (xI_in (by omega) (by decide)), xI_r10 (by omega), xI_d100 (by omega), ym_risk O (yFM_put F1 _) N h4 h2', yBd]
          show (if (nI (yRisk φ (x % 10) (x / 100))).toInt64 ≤ yHun (yLcg s) then wG (ok_in (nI k) 400) (wBindV (fX6_does N ((yTut (wSI ν 0 47 (nI τ.ov)) (yT φ τ)).1 17 k) (yTut (wSI ν 0 47 (nI τ.ov)) (yT φ τ))) _) else some (nI k, _)) = _
          by_cases g : (nI (yRisk φ (x % 10) (x / 100))).toInt64 ≤ yHun (yLcg s)
          · rw [if_pos g, if_pos g, yG (xI_in (by omega) (by decide)), e17, dd, yBV, yWL, add1]
            rfl
          · rw [if_neg g, if_neg g]
      refine (fun (h : ∃ ν1, _ = _ ∧ _) => h) ?_
      rw [body]
      by_cases q : x = 200
      · rw [if_pos q, if_pos q]
        obtain ⟨ν1, j1, j2, j3, j4⟩ := ih M (k + 1) s _ ρ (wSI ν 0 47 (nI τ.ov)) (by omega) (by omega) S2 r F1 (r47 _ _ Q)
        exact ⟨ν1, j1, j2, (k47 _ _).trans j3, j4⟩
      · rw [if_neg q, if_neg q]
        by_cases g : (nI (yRisk φ (x % 10) (x / 100))).toInt64 ≤ yHun (yLcg s)
        · rw [if_pos g, if_pos g]
          obtain ⟨ν1, j1, j2, j3, j4⟩ := ih M (k + 1) (yLcg s) _ ρ (wSI ν 0 47 (nI τ.ov)) (by omega) (by omega) S2 r F1 (r47 _ _ Q)
          exact ⟨ν1, j1, j2, (k47 _ _).trans j3, j4⟩
        · rw [if_neg g, if_neg g]
          exact ⟨_, rfl, by rw [yTut_o _ _ (by omega), yS_get, if_pos ⟨rfl, rfl⟩], (k47 _ _).trans (yKM_put _ _), Q1⟩
    · rw [if_neg qe] at r; cases r
theorem ym_trip {φ : Nat → Nat → Nat} (O : yOk φ) (G : yGo φ) {N : Nat} (hN : 1000 ≤ N) {ν : wMem} (F : yFM φ 0 ν) {L : List Nat} (Q : yRl L ν) (hL : L.length ≤ 400) {ρ : ySt} (r : yRun φ (yLay φ (φ 0 6)) L = some ρ) (s : Int64) :
    ∃ ν1, fX6_draws N s ν = some ((yTr φ L s 0 (yLay φ (φ 0 6))).1, ν1) ∧ ν1.1 0 47 = nI (yTr φ L s 0 (yLay φ (φ 0 6))).2.ov ∧ yKM ν ν1 ∧ yRl L ν1 := by
  have S := yLay_ok O G (φ 0 6) (Nat.le_refl _)
  obtain ⟨ν1, j1, j2, j3, j4⟩ := ym_trip_loop O (N := N) hL L.length N 0 s (yLay φ (φ 0 6)) ρ (yLM φ ν (φ 0 6)) (by omega) (by omega) S r (yFM_LM F _) (yRl_LM Q _)
  refine ⟨ν1, ?_, j2, (yKM_LM φ ν (φ 0 6)).trans j3, j4⟩
  unfold fX6_draws
  rw [ym_lay O F G (by omega), yBV]
  exact j1
