set_option maxRecDepth 100000
/-! part 999698: the twin lays the first cheapest row; plan, surely -/
/-- the twin's row is L -/
def yRl (L : List Nat) (ν : wMem) : Prop := ν.1 0 40 = nI L.length ∧ ∀ m, m < L.length → ν.1 17 m = yVal L m
theorem yVal_l {L l : List Nat} {m : Nat} (h : m < L.length) : yVal (L ++ l) m = yVal L m := by
  unfold yVal
  rw [List.getElem?_append_left h]
theorem yVal_r (L : List Nat) (x : Nat) : yVal (L ++ [x]) L.length = nI x := by
  unfold yVal
  rw [List.getElem?_append_right (Nat.le_refl _), Nat.sub_self]
  rfl
theorem yVal_no {L : List Nat} {m : Nat} (h : L.length ≤ m) : yVal L m = -1 := by
  unfold yVal
  rw [List.getElem?_eq_none h]
theorem yTl.dx {φ : Nat → Nat → Nat} {b v p s : Nat} {τ : ySt} (T : yTl φ b (yIsE φ) τ v) (D : yDx φ b τ p s) : v = 10000 * p + s ∧ v < 2000000000 := by
  have := D.1
  have := D.2.1
  rcases T with ⟨h, t⟩ | ⟨h, t⟩
  · exact ⟨t.uniq (D.2.2 10000 (by decide)), h⟩
  · obtain ⟨ρ, e, w⟩ := (D.2.2 10000 (by decide)).1
    have := t ρ _ e w
    omega
theorem yTl.ho {φ : Nat → Nat → Nat} {b v : Nat} {τ : ySt} (T : yTl φ b (yIsE φ) τ v) (h : v ≠ 2000000000) : yHo φ τ := by
  rcases T with ⟨_, ⟨ρ, e, l, r, _⟩, _⟩ | ⟨h2, _⟩
  · exact ⟨l, ρ, r, e⟩
  · exact absurd h2 h
/-- all but the row and the state is as it was -/
def yKr (μ ν : wMem) : Prop := (∀ c i, c ≠ 17 → (c = 0 → i ≠ 40 ∧ (i < 23 ∨ 27 < i)) → ν.1 c i = μ.1 c i) ∧ ν.2 = μ.2
theorem yKr.rfl' (μ : wMem) : yKr μ μ := ⟨fun _ _ _ _ => rfl, rfl⟩
theorem yKr.trans {μ ν ρ : wMem} (h : yKr μ ν) (g : yKr ν ρ) : yKr μ ρ := ⟨fun c i a d => (g.1 c i a d).trans (h.1 c i a d), g.2.trans h.2⟩
theorem yKr.fm {φ : Nat → Nat → Nat} {f : Nat} {μ ν : wMem} (h : yKr μ ν) (F : yFM φ f μ) : yFM φ f ν := yFM_of F fun c h1 h2 i => h.1 c i (by omega) (by omega)
theorem yKr.kn {μ ν : wMem} (h : yKr μ ν) : yKN μ ν := fun c i a _ d => ⟨h.1 c i (by omega) (by omega), by rw [h.2]⟩
theorem ym_row_find {φ : Nat → Nat → Nat} (W : yBnd) (O : yOk φ) (hl : 0 < φ 0 0) {N : Nat} (hN : 200000 ≤ N) {σ : ySt} (R : yRe φ σ) {n b : Nat} (hb : b < 3) {u : Nat → ySt} {v : Nat → Nat} (A : yAll φ σ n u) (L : ∀ i, i < n → yTl φ b (yIsE φ) (u i) (v i)) {ν : wMem} (F : yFM φ 0 ν) (h38 : ν.1 0 38 = nI b) (H : yLv φ n u v ν) {i x0 j0 : Nat} (hi : i < n) (fs : yFs φ b (u i) x0) (hj0 : j0 < n) (ej0 : u j0 = yDo φ (u i) x0) (K : Int32 → wMem → Option wMem) : ∀ (d M a : Nat), x0 - a ≤ d → d < M → a ≤ x0 →
    gX6_laysRow_30 N (nI (yTN φ (u i))) K M (if yNx φ (u i) a = 201 then -1 else nI (yNx φ (u i) a)) (yTut ν (yT φ (u i))) = K (nI x0) (yTut ν (yT φ (u j0))) := by
  have S := (A.1 i hi).1
  have lti := yTN_lt O S
  have ex0 := fs.1.1
  have hx0 := yEb_le ex0
  have hv : ∀ j, j < n → v j ≤ 2000000000 := fun j hj => by rcases L j hj with ⟨h, _⟩ | ⟨h, _⟩ <;> omega
  obtain ⟨_, p, s, p3, s3, D, _, _⟩ := id fs.1
  have Di := (L i hi).dx D
  have e16 : ∀ τ, (yTut ν τ).1 16 (yTN φ (u i)) = nI (v i) := fun τ => by rw [yTut_c _ _ (by decide)]; exact H i hi
  have same : ∀ x j, yEb φ (u i) x = true → j < n → u j = yDo φ (u i) x → ((if v j = 2000000000 then 2000000000 else v j + yCst φ 10000 b x) = v i ↔ yTg φ b (u i) x) := fun x j ex hj ej => by
    constructor
    · intro h
      by_cases g : v j = 2000000000
      · rw [if_pos g] at h; omega
      · rw [if_neg g] at h
        obtain ⟨lr, rr⟩ := (A.1 i hi).2.2
        have Ri : yRe φ (u i) := by
          obtain ⟨l, r⟩ := R
          exact ⟨l ++ lr, by rw [yRun_append, r]; exact rr⟩
        have ho := (L j hj).ho g
        rw [ej] at ho
        obtain ⟨p2, s2, D2⟩ := yDx_ex W O hl hb (Ri.next ex) ho
        have Tj := L j hj
        rw [ej] at Tj
        have dj := Tj.dx D2
        exact ⟨ex, p, s, p2, s2, D, D2, (D.tight O hb ex D2).2.mp (by omega)⟩
    · rintro ⟨_, p1, s1, p2, s2, D1, D2, ti⟩
      obtain ⟨rfl, rfl⟩ := D.uniq D1
      have Tj := L j hj
      rw [ej] at Tj
      have dj := Tj.dx D2
      have := (D.tight O hb ex D2).2.mpr ti
      rw [if_neg (by omega)]
      omega
  have one : ∀ x M, yEb φ (u i) x = true → (x ≠ x0 → ¬ yTg φ b (u i) x) → gX6_laysRow_30 N (nI (yTN φ (u i))) K (M + 1) (nI x) (yTut ν (yT φ (u i))) = if x = x0 then K (nI x0) (yTut ν (yT φ (u j0))) else gX6_laysRow_30 N (nI (yTN φ (u i))) K M (if yNx φ (u i) (x + 1) = 201 then -1 else nI (yNx φ (u i) (x + 1))) (yTut ν (yT φ (u i))) := fun x M ex nt => by
    by_cases q : x = x0
    · subst q
      rw [if_pos rfl]
      have cb := ym_costBy O (N := N) A hb F h38 H hv hi ex hj0 ej0
      have eq := (same x j0 ex hj0 ej0).mpr fs.1
      show gbX6_laysRow_30 N _ _ _ _ _ = _
      unfold gbX6_laysRow_30
      rw [cb, yBd, yG (xI_in lti (by decide)), xI_cl (by omega), e16, eq, if_pos rfl]
    · rw [if_neg q]
      have t := nt q
      · obtain ⟨j, hj, ej⟩ := A.next hi ex
        have cb := ym_costBy O (N := N) A hb F h38 H hv hi ex hj ej
        have ne : ¬ (if v j = 2000000000 then 2000000000 else v j + yCst φ 10000 b x) = v i := fun h => t ((same x j ex hj ej).mp h)
        have hxl := yEb_le ex
        have cc := yCst_le O (H := 10000) (b := b) (by decide) (yEb_act ex).1
        have vj := hv j hj
        have vi := hv i hi
        have rl : (if v j = 2000000000 then 2000000000 else v j + yCst φ 10000 b x) < 2 ^ 31 := by split <;> omega
        generalize (if v j = 2000000000 then 2000000000 else v j + yCst φ 10000 b x) = r at *
        have ce : (nI r = nI (v i)) = (r = v i) := xI_eq rl (by omega)
        have add1 : nI x + (1 : Int32) = nI (x + 1) := nI_add x 1
        show gbX6_laysRow_30 N _ _ _ _ _ = _
        unfold gbX6_laysRow_30
        rw [cb, yBd, yG (xI_in lti (by decide)), xI_cl (by omega), e16, yIf ce, if_neg ne, ym_begins O S, yBV, add1, ym_nx O F S (N := N) (by omega) (a := x + 1) (by omega), yBd]
  intro d
  induction d with
  | zero =>
    intro M a hd hM ha
    obtain ⟨M, rfl⟩ : ∃ q, M = q + 1 := ⟨M - 1, by omega⟩
    have : a = x0 := by omega
    subst this
    have l := yNx_le φ (u i) (a := a) (by omega)
    have e : yNx φ (u i) a = a := by
      rcases Nat.lt_or_ge a (yNx φ (u i) a) with q | q
      · have := yNx_off φ (u i) (a := a) (by omega) (Nat.le_refl a) q
        rw [this] at ex0; cases ex0
      · omega
    rw [e, if_neg (by omega), one a M ex0 (fun q => absurd rfl q), if_pos rfl]
  | succ d ih =>
    intro M a hd hM ha
    obtain ⟨M, rfl⟩ : ∃ q, M = q + 1 := ⟨M - 1, by omega⟩
    have l := yNx_le φ (u i) (a := a) (by omega)
    have le : yNx φ (u i) a ≤ x0 := by
      rcases Nat.lt_or_ge x0 (yNx φ (u i) a) with q | q
      · have := yNx_off φ (u i) (a := a) (by omega) ha q
        rw [this] at ex0; cases ex0
      · exact q
    have onx := yNx_on φ (u i) (a := a) (by omega) (by omega)
    generalize yNx φ (u i) a = x at *
    rw [if_neg (by omega), one x M onx (fun q => fs.2 x (by omega))]
    by_cases q : x = x0
    · rw [if_pos q]
    · rw [if_neg q]
      exact ih M (x + 1) (by omega) (by omega) (by omega)
theorem ym_row_loop {φ : Nat → Nat → Nat} (W : yBnd) (O : yOk φ) (hl : 0 < φ 0 0) {N : Nat} (hN : 200000 ≤ N) {σ : ySt} (R : yRe φ σ) {n b : Nat} (hb : b < 3) {u : Nat → ySt} {v : Nat → Nat} (A : yAll φ σ n u) (T : ∀ i, i < n → yTl φ b (yIsE φ) (u i) (v i)) (K : wMem → Option wMem) : ∀ (l L : List Nat) (M i : Nat) (ν : wMem), l.length < M → (L ++ l).length ≤ 400 → i < n → yRow φ b (u i) l → yHo φ (u i) →
    yFM φ 0 ν → ν.1 0 38 = nI b → yLv φ n u v ν → yRl L ν →
    ∃ ν1 τ1, gX6_laysRow_10 N K M (nI (yTN φ (u i))) (yTut ν (yT φ (u i))) = K (yTut ν1 τ1) ∧ yRl (L ++ l) ν1 ∧ yKr ν ν1 := by
  intro l
  induction l with
  | nil =>
    intro L M i ν hM hL hi rw0 ho F h38 H Q
    obtain ⟨M, rfl⟩ : ∃ q, M = q + 1 := ⟨M - 1, by omega⟩
    have S := (A.1 i hi).1
    have lti := yTN_lt O S
    obtain ⟨lr, rr⟩ := (A.1 i hi).2.2
    have Ri : yRe φ (u i) := by
      obtain ⟨l, r⟩ := R
      exact ⟨l ++ lr, by rw [yRun_append, r]; exact rr⟩
    obtain ⟨p, s, D⟩ := yDx_ex W O hl hb Ri ho
    obtain ⟨rfl, rfl⟩ := yDx_end D rw0
    have vi := ((T i hi).dx D).1
    refine ⟨ν, yT φ (u i), ?_, by rw [List.append_nil]; exact Q, yKr.rfl' _⟩
    show gbX6_laysRow_10 N _ _ _ _ = _
    unfold gbX6_laysRow_10
    rw [yG (xI_in lti (by decide)), xI_cl (by omega), yTut_c _ _ (by decide), H i hi, vi, if_pos (by decide)]
  | cons x l ih =>
    intro L M i ν hM hL hi rw0 ho F h38 H Q
    obtain ⟨M, rfl⟩ : ∃ q, M = q + 1 := ⟨M - 1, by omega⟩
    have S := (A.1 i hi).1
    have lti := yTN_lt O S
    obtain ⟨ne, fs, rw1⟩ := rw0
    have ex := fs.1.1
    obtain ⟨j, hj, ej⟩ := A.next hi ex
    obtain ⟨_, p, s, p2, s2, D, D2, ti⟩ := id fs.1
    have sp := ySc1_pos hl b x
    have vi := (T i hi).dx D
    have v0 : v i ≠ 0 := by have := ti.2; omega
    have hv : ∀ j, j < n → v j ≤ 2000000000 := fun j hj => by rcases T j hj with ⟨h, _⟩ | ⟨h, _⟩ <;> omega
    have lenL : L.length < 400 := by simp at hL; omega
    have nx := ym_nx O F S (N := N) (by omega) (a := 0) (by omega)
    have fd := ym_row_find W O hl hN R hb A T F h38 H hi fs hj ej (fun (x23 : Int32) (μ22 : wMem) => wG (ok_in (μ22.1 0 40) 400) (wLet (wSI μ22 17 (Int32.toNatClampNeg (μ22.1 0 40)) x23) fun μ25 => wLet (wSI μ25 0 40 ((μ25.1 0 40) + (1 : Int32))) fun μ26 => wBind (fX6_numberOf N μ26) fun v29 μ28 => gX6_laysRow_10 N K M v29 μ28)) 200 N 0 (by have := yEb_le ex; omega) (by omega) (Nat.zero_le _)
    have Q2 : yRl (L ++ [x]) (wSI (wSI ν 17 L.length (nI x)) 0 40 (nI (L.length + 1))) := by
      refine ⟨?_, fun m hm => ?_⟩
      · rw [yS_get, if_pos ⟨rfl, rfl⟩, List.length_append]; rfl
      · rw [List.length_append] at hm
        rw [yS_get, if_neg (by omega), yS_get]
        by_cases q : m = L.length
        · rw [if_pos ⟨rfl, q⟩, q, yVal_r]
        · have hm' : m < L.length := by simp at hm; omega
          rw [if_neg (fun y => q y.2), yVal_l hm']
          exact Q.2 m hm'
    have k2 : yKr ν (wSI (wSI ν 17 L.length (nI x)) 0 40 (nI (L.length + 1))) := ⟨fun c i a d => by rw [yS_get, if_neg (fun q => (d q.1).1 q.2), yS_get, if_neg (fun q => a q.1)], rfl⟩
    have H2 : yLv φ n u v (wSI (wSI ν 17 L.length (nI x)) 0 40 (nI (L.length + 1))) := fun i hi => by rw [k2.1 16 _ (by decide) (by omega)]; exact H i hi
    have ho2 : yHo φ (u j) := by rw [ej]; exact D2.ho
    obtain ⟨ν1, τ1, j1, j2, j3⟩ := ih (L ++ [x]) M j _ (by simp at hM; omega) (by rw [List.append_assoc]; exact hL) hj (by rw [ej]; exact rw1) ho2 (k2.fm F) (by rw [k2.1 0 38 (by decide) (by omega)]; exact h38) H2 Q2
    refine ⟨ν1, τ1, ?_, by rw [List.append_assoc] at j2; exact j2, k2.trans j3⟩
    have e40 : (yTut ν (yT φ (u j))).1 0 40 = nI L.length := by rw [yTut_o _ _ (by omega)]; exact Q.1
    have e40' : ∀ w, (wSI (yTut ν (yT φ (u j))) 17 L.length w).1 0 40 = nI L.length := fun w => by rw [yS_get, if_neg (by omega)]; exact e40
    have add1 : nI L.length + (1 : Int32) = nI (L.length + 1) := nI_add _ 1
    have nm : fX6_numberOf N (yTut (wSI (wSI ν 17 L.length (nI x)) 0 40 (nI (L.length + 1))) (yT φ (u j))) = some (nI (yTN φ (u j)), yTut (wSI (wSI ν 17 L.length (nI x)) 0 40 (nI (L.length + 1))) (yT φ (u j))) := ym_num _ _ N
    show gbX6_laysRow_10 N _ _ _ _ = _
    unfold gbX6_laysRow_10
    rw [yG (xI_in lti (by decide)), xI_cl (by omega), yTut_c _ _ (by decide), H i hi, if_neg (by rw [xI_e0 (a := v i) (by omega)]; exact v0), ym_begins O S, yBV]
    refine Eq.trans (congrArg (fun z => wBind z _) nx) ?_
    rw [yBd]
    refine fd.trans ?_
    rw [e40, yG (xI_in lenL (by decide)), xI_cl (by omega)]
    unfold wLet
    dsimp only
    rw [e40', add1, yTut_com _ _ (by omega), yTut_com _ _ (by omega), nm, yBd]
    exact j1
/-- the twin's row, or none -/
theorem ym_isRow {φ : Nat → Nat → Nat} {μ : wMem} (W : yBnd) (O : yOk φ) (hl : 0 < φ 0 0) (G : yGo φ) (F : yFM φ 0 μ) (Q : ySn μ) {N : Nat} (hN : 200000000000000 ≤ N) {b : Nat} (hb : b < 2) :
    ∃ ν, yKN μ ν ∧ ySn ν ∧ ((¬ yHo φ (yLay φ (φ 0 6)) ∧ fX6_isRow N (nI b) (wSI μ 0 0 0) = some (0, ν)) ∨ (∃ l, yRow φ b (yLay φ (φ 0 6)) l ∧ yHo φ (yLay φ (φ 0 6)) ∧ l.length ≤ 400 ∧ (∃ ρ, yRun φ (yLay φ (φ 0 6)) l = some ρ) ∧ fX6_isRow N (nI b) (wSI μ 0 0 0) = some (1, ν) ∧ yRl l ν)) := by
  have S := yLay_ok O G (φ 0 6) (Nat.le_refl _)
  have no := yNo_lay (φ := φ) (φ 0 6) (yAct_go G)
  have R : yRe φ (yLay φ (φ 0 6)) := yLay_run G (φ 0 6) (Nat.le_refl _)
  have M1 := (yKM_0 μ 0).fm F
  obtain ⟨n, u, v, ν, i, em, hi, ei, A, hn, X, H, L, k2, Q2, h38⟩ := ym_seeksNow O hl hN (b := b) (by omega) (w := 0) (s := 0) (by decide) (by decide) (fun q => absurd q (by decide)) (ym_lay O M1 G (by omega)) (yFM_LM M1 _) (yLM_sn Q) S no
  replace L : ∀ i, i < n → yTl φ b (yIsE φ) (u i) (v i) := L
  have kn := ((yKM_0 μ 0).trans (yKM_LM φ _ (φ 0 6))).kn.trans k2.kn
  have vl : v i ≤ 2000000000 := by rcases L i hi with ⟨h, _⟩ | ⟨h, _⟩ <;> omega
  have ef : (nI (v i) = (2000000000 : Int32)) = (v i = 2000000000) := xI_eq (b := 2000000000) (by omega) (by decide)
  have ti := L i hi
  rw [ei] at ti
  by_cases g : v i = 2000000000
  · refine ⟨yTut ν (yT φ (yLay φ (φ 0 6))), kn.trans (yKM_put _ _).kn, ySn_km Q2 (yKM_put _ _), Or.inl ⟨fun ho => ?_, ?_⟩⟩
    · obtain ⟨p, s, D⟩ := yDx_ex W O hl (b := b) (by omega) R ho
      have := ti.dx D
      omega
    · unfold fX6_isRow
      refine Eq.trans (congrArg (fun z => wBind z _) em) ?_
      rw [yBd, yIf ef, if_pos g]
  · have ho := ti.ho g
    obtain ⟨p, s, D⟩ := yDx_ex W O hl (b := b) (by omega) R ho
    obtain ⟨l, y1, y2, y3, ρ, y4, y5⟩ := yRow_ex W O hl (b := b) (by omega) s p _ R D
    have len := yRow_len W O hl hb R D y2 y3 y4 y5
    have F2 : yFM φ 0 (wSI ν 0 40 0) := yFM_of (k2.fm (yFM_LM M1 _)) fun c h1 h2 i => by rw [yS_get, if_neg (by omega)]
    have H2 : yLv φ n u v (wSI ν 0 40 0) := fun i hi => by rw [yS_get, if_neg (by omega)]; exact H i hi
    obtain ⟨ν1, τ1, j1, j2, j3⟩ := ym_row_loop W O hl (N := N) (by omega) R (b := b) (by omega) A L (fun (μ30 : wMem) => some μ30) l [] N i (wSI ν 0 40 0) (by omega) len hi (by rw [ei]; exact y1) (by rw [ei]; exact ho) F2 (by rw [yS_get, if_neg (by omega)]; exact h38) H2 ⟨by rw [yS_get, if_pos ⟨rfl, rfl⟩]; rfl, fun m hm => absurd hm (by simp)⟩
    have k40 : yKr ν (wSI ν 0 40 0) := ⟨fun c i a d => by rw [yS_get, if_neg (fun q => (d q.1).1 q.2)], rfl⟩
    have kr := k40.trans j3
    have j2' : yRl l (yTut ν1 τ1) := ⟨by rw [yTut_o _ _ (by omega)]; exact j2.1, fun m hm => by rw [yTut_c _ _ (by decide)]; exact j2.2 m hm⟩
    refine ⟨yTut ν1 τ1, (kn.trans kr.kn).trans (yKM_put _ _).kn, ySn_km (ySn_of Q2 fun c i q => kr.1 c i (by omega) (by omega)) (yKM_put _ _), Or.inr ⟨l, y1, ho, len, ⟨ρ, y4⟩, ?_, j2'⟩⟩
    have nm : fX6_numberOf N (yTut ν (yT φ (yLay φ (φ 0 6)))) = some (nI (yTN φ (yLay φ (φ 0 6))), yTut ν (yT φ (yLay φ (φ 0 6)))) := ym_num _ _ N
    unfold fX6_isRow fX6_laysRow
    refine Eq.trans (congrArg (fun z => wBind z _) em) ?_
    rw [yBd, yIf ef, if_neg g, nm, yBd]
    unfold wLet
    dsimp only
    rw [yTut_com _ _ (by omega)]
    rw [ei] at j1
    rw [j1, yBV]
theorem yL_pred2 {n : Nat} (h : n < 2 ^ 30) : ((nI n - 1).toInt64).toInt = (n : Int) - 1 := by
  rw [Int32.toInt_toInt64]
  by_cases z : n = 0
  · subst z; decide
  · rw [xI_pred (by omega), nI_toInt (by omega)]
    omega
theorem ym_in3 (a : Int32) {n : Nat} (hn : n < 2 ^ 30) (N : Nat) (μ : wMem) : fX6_in N a.toInt64 0 (nI n - 1).toInt64 μ = some (yB (decide (yIs a n)), μ) := by
  have e0 : ((0 : Int64)).toInt = 0 := by decide
  have h1 : (a.toInt64 < 0) ↔ a.toInt < 0 := by rw [Int64.lt_iff_toInt_lt, Int32.toInt_toInt64, e0]
  have h2 : ((nI n - 1).toInt64 < a.toInt64) ↔ (n : Int) - 1 < a.toInt := by rw [Int64.lt_iff_toInt_lt, Int32.toInt_toInt64 a, yL_pred2 hn]
  unfold fX6_in
  by_cases h : yIs a n
  · have := h.1
    have := h.2
    rw [if_neg (by rw [h1]; omega), if_neg (by rw [h2]; omega), yB_t h]
  · rw [yB_f h]
    by_cases g1 : a.toInt64 < 0
    · rw [if_pos g1]
    · rw [if_neg g1]
      by_cases g2 : (nI n - 1).toInt64 < a.toInt64
      · rw [if_pos g2]
      · exfalso
        apply h
        rw [h1] at g1
        rw [h2] at g2
        exact ⟨by omega, by omega⟩
theorem yq_plan {φ : Nat → Nat → Nat} {μ μm : wMem} (W : yBnd) (O : yOk φ) (hl : φ 0 1 ≠ 0 → 0 < φ 0 0) (G : yGo φ) (F : yFC φ μ) (M : yFM φ 0 μm) (Q : ySn μm) {N : Nat} (hN : 200000000000000 ≤ N) (a1 : Int32) : yBt3 (fX0_plan N a1) (fX6_plan N a1) μ μm := by
  have M1 := (yKM_0 μm 0).fm M
  by_cases g : φ 0 1 ≠ 0
  · obtain ⟨v, ν, e1, k1, r1⟩ := yc_rowAct W O (hl g) G F (N := N) (by omega) (b := 0) (by decide) a1
    obtain ⟨νm, k2, q2, r2⟩ := ym_isRow W O (hl g) G M Q hN (b := 0) (by decide)
    have ec : fX0_plan N a1 μ = some (v, ν) := by
      unfold fX0_plan
      rw [yc_isFamily O F, yBd, yB1 g]
      refine Eq.trans (congrArg (fun z => wBind z _) e1) ?_
      rw [yBd]
    rcases r2 with ⟨no, e2⟩ | ⟨l, y1, ho, len, _, e2, rl⟩
    · rcases r1 with ⟨_, hv⟩ | ⟨l, _, ho, _⟩
      · subst hv
        refine yBt3.mk' (v := -1) ec ?_ k1 k2 q2
        unfold fX6_plan wLet
        dsimp only
        rw [ym_isFamily O M1, yBd, yB1 g]
        refine Eq.trans (congrArg (fun z => wBind z _) e2) ?_
        rw [yBd, if_pos rfl]
      · exact absurd ho no
    · rcases r1 with ⟨no, _⟩ | ⟨l2, y2, _, r1⟩
      · exact absurd ho no
      · have el := yRow.uniq l2 l _ y2 y1
        subst el
        have em : fX6_plan N a1 μm = if yB (decide (yIs a1 l2.length)) = 0 then some (-1, νm) else wG (ok_in a1 400) (some (νm.1 17 (Int32.toNatClampNeg a1), νm)) := by
          unfold fX6_plan wLet
          dsimp only
          rw [ym_isFamily O M1, yBd, yB1 g]
          refine Eq.trans (congrArg (fun z => wBind z _) e2) ?_
          rw [yBd, if_neg (by decide), rl.1, ym_in3 a1 (by omega), yBd]
        rcases r1 with ⟨neg, hv⟩ | ⟨A, hA, rfl, hv⟩
        · subst hv
          refine yBt3.mk' (v := -1) ec ?_ k1 k2 q2
          rw [em, yB2 (fun h => by have := h.1; omega)]
        · subst hv
          refine yBt3.mk' (v := yVal l2 A) ec ?_ k1 k2 q2
          by_cases h : A < l2.length
          · rw [em, yB1 (yIs_n h (by omega)), yG (xI_in (by omega) (by decide)), xI_cl hA, rl.2 A h]
          · rw [em, yB2 (by rw [yIs_iff hA]; exact h), yVal_no (by omega)]
  · refine yBt3.mk' (v := -2) (μ1 := μ) (μm1 := wSI μm 0 0 0) ?_ ?_ (yKC.rfl' _) (yKM_0 _ _).kn (ySn_km Q (yKM_0 _ _))
    · unfold fX0_plan
      rw [yc_isFamily O F, yBd, yB2 g]
    · unfold fX6_plan wLet
      dsimp only
      rw [ym_isFamily O M1, yBd, yB2 g]
theorem yq_surely {φ : Nat → Nat → Nat} {μ μm : wMem} (W : yBnd) (O : yOk φ) (hl : φ 0 1 ≠ 0 → 0 < φ 0 0) (G : yGo φ) (F : yFC φ μ) (M : yFM φ 0 μm) (Q : ySn μm) {N : Nat} (hN : 200000000000000 ≤ N) (a1 : Int32) : yBt3 (fX0_surely N a1) (fX6_surely N a1) μ μm := by
  have M1 := (yKM_0 μm 0).fm M
  by_cases g : φ 0 1 ≠ 0
  · obtain ⟨v, ν, e1, k1, r1⟩ := yc_rowAct W O (hl g) G F (N := N) (by omega) (b := 1) (by decide) a1
    obtain ⟨νm, k2, q2, r2⟩ := ym_isRow W O (hl g) G M Q hN (b := 1) (by decide)
    have ec : fX0_surely N a1 μ = some (v, ν) := by
      unfold fX0_surely
      rw [yc_isFamily O F, yBd, yB1 g]
      refine Eq.trans (congrArg (fun z => wBind z _) e1) ?_
      rw [yBd]
    rcases r2 with ⟨no, e2⟩ | ⟨l, y1, ho, len, _, e2, rl⟩
    · rcases r1 with ⟨_, hv⟩ | ⟨l, _, ho, _⟩
      · subst hv
        refine yBt3.mk' (v := -1) ec ?_ k1 k2 q2
        unfold fX6_surely wLet
        dsimp only
        rw [ym_isFamily O M1, yBd, yB1 g]
        refine Eq.trans (congrArg (fun z => wBind z _) e2) ?_
        rw [yBd, if_pos rfl]
      · exact absurd ho no
    · rcases r1 with ⟨no, _⟩ | ⟨l2, y2, _, r1⟩
      · exact absurd ho no
      · have el := yRow.uniq l2 l _ y2 y1
        subst el
        have em : fX6_surely N a1 μm = if yB (decide (yIs a1 l2.length)) = 0 then some (-1, νm) else wG (ok_in a1 400) (some (νm.1 17 (Int32.toNatClampNeg a1), νm)) := by
          unfold fX6_surely wLet
          dsimp only
          rw [ym_isFamily O M1, yBd, yB1 g]
          refine Eq.trans (congrArg (fun z => wBind z _) e2) ?_
          rw [yBd, if_neg (by decide), rl.1, ym_in3 a1 (by omega), yBd]
        rcases r1 with ⟨neg, hv⟩ | ⟨A, hA, rfl, hv⟩
        · subst hv
          refine yBt3.mk' (v := -1) ec ?_ k1 k2 q2
          rw [em, yB2 (fun h => by have := h.1; omega)]
        · subst hv
          refine yBt3.mk' (v := yVal l2 A) ec ?_ k1 k2 q2
          by_cases h : A < l2.length
          · rw [em, yB1 (yIs_n h (by omega)), yG (xI_in (by omega) (by decide)), xI_cl hA, rl.2 A h]
          · rw [em, yB2 (by rw [yIs_iff hA]; exact h), yVal_no (by omega)]
  · refine yBt3.mk' (v := -2) (μ1 := μ) (μm1 := wSI μm 0 0 0) ?_ ?_ (yKC.rfl' _) (yKM_0 _ _).kn (ySn_km Q (yKM_0 _ _))
    · unfold fX0_surely
      rw [yc_isFamily O F, yBd, yB2 g]
    · unfold fX6_surely wLet
      dsimp only
      rw [ym_isFamily O M1, yBd, yB2 g]
