set_option maxRecDepth 100000
/-! part 999692: till, over, never, states -/
theorem yW0 {φ : Nat → Nat → Nat} {H H2 c : Nat} {σ τ : ySt} (h : yW φ H 0 σ τ c) : yW φ H2 0 σ τ c := by
  obtain ⟨l, r, e⟩ := h
  have z : ∀ l, yPr φ 0 l = 0 := by
    intro m
    induction m with
    | nil => rfl
    | cons a m ih => show yPr1 φ 0 a + yPr φ 0 m = 0; rw [ih]; rfl
  refine ⟨l, r, ?_⟩
  rw [yCs_two φ _ (by decide), z] at e ⊢
  omega
theorem yMin0 {φ : Nat → Nat → Nat} {H H2 c : Nat} {σ : ySt} {P : ySt → Prop} (h : yMin φ H 0 σ P c) : yMin φ H2 0 σ P c := by
  obtain ⟨⟨τ, p, w⟩, m⟩ := h
  exact ⟨⟨τ, p, yW0 w⟩, fun ρ d q w2 => m ρ d q (yW0 w2)⟩
/-- the component's searches by days, from where the kept acts lead -/
theorem yc_set0 {φ : Nat → Nat → Nat} {μ : wMem} (O : yOk φ) (hl : 0 < φ 0 0) (G : yGo φ) (F : yFC φ μ) {N : Nat} (hN : 200000 ≤ N) :
    ∃ n f u ν, fX0_asItIs N μ = some (yCl φ μ) ∧ fX0_settles N 19 (yCl φ μ) = some ν ∧ ySet φ 0 (yLay φ (φ 0 6)) n f u ∧ ySeM n f u ν ∧ yFC φ ν ∧ yKC μ ν := by
  have S := yLay_ok O G (φ 0 6) (Nat.le_refl _)
  obtain ⟨n, f, u, ν, a1, a2, Z, C⟩ := yc_settled O hl (b := 0) (by decide) hN S (yFew_0 O S (Or.inl rfl)) (yFC_DR F (yDays φ (φ 0 6)) (yRisks φ (φ 0 6)))
  exact ⟨n, f, u, ν, yc_lay O F G (by omega), a1, Z, C, a2.fc (yFC_DR F _ _), (yKC_DR μ _ _).trans a2.kc⟩
/-- the twin's searches by days, from where the kept acts lead -/
theorem ym_set0 {φ : Nat → Nat → Nat} {μ : wMem} (O : yOk φ) (hl : 0 < φ 0 0) (G : yGo φ) (F : yFM φ 0 μ) (Q : ySn μ) {N : Nat} (hN : 200000000000000 ≤ N) {w s : Nat} (hw : w < 3) (hs : s < 64) (hs2 : w = 2 → s < 6) :
    ∃ x ν, fX6_seeksNow N (nI w) (nI s) 0 (wSI μ 0 0 0) = some (nI x, ν) ∧ yTl φ 0 (yPs φ w s) (yLay φ (φ 0 6)) x ∧ yKN μ ν ∧ ySn ν := by
  have S := yLay_ok O G (φ 0 6) (Nat.le_refl _)
  have no := yNo_lay (φ := φ) (φ 0 6) (yAct_go G)
  have M1 := (yKM_0 μ 0).fm F
  obtain ⟨n2, u2, v2, ν2, i2, em, hi2, ei2, A2, hn2, X2, H2, L2, k2, Q2, h38⟩ := ym_seeksNow O hl hN (b := 0) (by decide) hw hs hs2 (ym_lay O M1 G (by omega)) (yFM_LM M1 _) (yLM_sn Q) S no
  have tl := L2 i2 hi2
  rw [ei2] at tl
  exact ⟨v2 i2, _, em, tl, (((yKM_0 μ 0).trans (yKM_LM φ _ _)).kn.trans k2.kn).trans (yKM_put _ _).kn, ySn_km Q2 (yKM_put _ _)⟩
/-- both sides' answers on what is nearest by days -/
theorem yq_near {φ : Nat → Nat → Nat} {σ : ySt} {P : ySt → Prop} {x : Nat} (T : yTl φ 0 P σ x) : (∀ c, c < 1000000000 → yMin φ 1000 0 σ P c → x = c) ∧ ((∀ τ c, yW φ 1000 0 σ τ c → ¬ P τ) → x = 2000000000) := by
  constructor
  · intro c hc h
    rcases T with ⟨_, t⟩ | ⟨_, t⟩
    · exact t.uniq (yMin0 h)
    · obtain ⟨τ, q, w⟩ := h.1
      have := t τ c q (yW0 w)
      omega
  · intro h
    rcases T with ⟨_, ⟨τ, q, w⟩, _⟩ | ⟨t, _⟩
    · exact absurd q (h τ _ (yW0 w))
    · exact t
theorem yAll_set (p : Nat) : p ≤ 6 → ((1 : Int32) <<< (nI p &&& 31)) - (1 : Int32) = nI (2 ^ p) - 1 := fun h => by
  rw [xI_pow p (by omega)]
theorem yPow64 {p : Nat} (h : p ≤ 6) : 2 ^ p ≤ 64 := Nat.pow_le_pow_right (by decide) h
theorem yc_isSet {φ : Nat → Nat → Nat} {μ : wMem} (O : yOk φ) (F : yFC φ μ) (N : Nat) (a : Int32) : fX0_isSet N a μ = some (yB (decide (φ 0 1 ≠ 0 ∧ yIs a (2 ^ φ 0 2))), μ) := by
  have h6 := yPow64 O.persons
  unfold fX0_isSet fX0_all
  rw [yc_isFamily O F, yBd]
  by_cases g : φ 0 1 ≠ 0
  · rw [yB1 g, yBd, F.fld 2 (by decide), yAll_set _ O.persons, yc_isIn a (by omega), yBd]
    by_cases g1 : yIs a (2 ^ φ 0 2)
    · rw [yB1 g1, yB_t ⟨g, g1⟩]
    · rw [yB2 g1, yB_f (fun h => g1 h.2)]
  · rw [yB2 g, yB_f (fun h => g h.1)]
theorem ym_isSet {φ : Nat → Nat → Nat} {μ : wMem} (O : yOk φ) (F : yFM φ 0 μ) (N : Nat) (a : Int32) : fX6_isSet N a μ = some (yB (decide (φ 0 1 ≠ 0 ∧ yIs a (2 ^ φ 0 2))), μ) := by
  have h6 := yPow64 O.persons
  have q2 : μ.1 7 (Int32.toNatClampNeg (2 : Int32)) = nI (φ 0 2) := F.persons
  unfold fX6_isSet
  rw [ym_isFamily O F, yBd]
  by_cases g : φ 0 1 ≠ 0
  · rw [yB1 g, yG (show ok_in (2 : Int32) 35 = true by decide), q2, yAll_set _ O.persons, ym_in a (by omega), yBd]
    by_cases g1 : yIs a (2 ^ φ 0 2)
    · rw [yB1 g1, yB_t ⟨g, g1⟩]
    · rw [yB2 g1, yB_f (fun h => g1 h.2)]
  · rw [yB2 g, yB_f (fun h => g h.1)]
theorem yc_till_loop {φ : Nat → Nat → Nat} (O : yOk φ) (N : Nat) {b n s : Nat} {σ : ySt} {f : Nat → Nat} {u : Nat → ySt} (Z : ySet φ b σ n f u) (hs : s < 64) (K : wMem → Option (Int32 × wMem)) : ∀ (d M i : Nat) (ν : wMem), n - i ≤ d → d < M → i ≤ n → yFC φ ν → ySeM n f u ν → (∀ j, j < i → ¬ (u j).ov = s) →
    ∃ ν1, yKt ν ν1 ∧ ((∃ c, gX0_till_25 N (nI s) K M (nI i) ν = some (nI c, ν1) ∧ c < 1000000000 ∧ yMin φ 1000 b σ (fun τ => τ.ov = s) c) ∨ (gX0_till_25 N (nI s) K M (nI i) ν = K ν1 ∧ ∀ τ c, yW φ 1000 b σ τ c → ¬ τ.ov = s)) := by
  intro d
  induction d with
  | zero =>
    intro M i ν hd hM hi F C no
    obtain ⟨M, rfl⟩ : ∃ q, M = q + 1 := ⟨M - 1, by omega⟩
    have : i = n := by omega
    subst this
    refine ⟨ν, yKt.rfl' _, Or.inr ⟨?_, ySet_none Z (P := fun τ => τ.ov = s) no⟩⟩
    show gbX0_till_25 N _ _ _ _ _ = _
    unfold gbX0_till_25
    rw [C.2.2, if_pos Int32.le_rfl]
  | succ d ih =>
    intro M i ν hd hM hi F C no
    obtain ⟨M, rfl⟩ : ∃ q, M = q + 1 := ⟨M - 1, by omega⟩
    have hn := C.1
    by_cases z : i = n
    · subst z
      refine ⟨ν, yKt.rfl' _, Or.inr ⟨?_, ySet_none Z (P := fun τ => τ.ov = s) no⟩⟩
      show gbX0_till_25 N _ _ _ _ _ = _
      unfold gbX0_till_25
      rw [C.2.2, if_pos Int32.le_rfl]
    · have hi' : i < n := by omega
      have e : (nI n ≤ nI i) = (n ≤ i) := xI_le (by omega) (by omega)
      obtain ⟨U, w, wl, wb⟩ := Z.1 i hi'
      have lt := yNum_lt O U
      have ov := yOv64 O U
      obtain ⟨c13, c10⟩ := C.2.1 i hi'
      have un : yUn (yNum (u i)) = u i := yUn_num O U
      have add1 : nI i + (1 : Int32) = nI (i + 1) := nI_add i 1
      have step : gX0_till_25 N (nI s) K (M + 1) (nI i) ν = if (u i).ov = s then some (nI (f i), yPut ν (u i)) else gX0_till_25 N (nI s) K M (nI (i + 1)) (yPut ν (u i)) := by
        show gbX0_till_25 N _ _ _ _ _ = _
        unfold gbX0_till_25 wLet
        dsimp only
        rw [C.2.2, yIf e, if_neg (by omega), yG (xI_in (by omega) (by decide)), xI_cl (by omega), c13, yc_be ν (s := yNum (u i)) (by omega) N, yBV, un, yPut_5, yIf (xI_e (a := (u i).ov) (b := s) (by omega) (by omega)), yG (xI_in (by omega) (by decide)), yPut_c ν _ (by decide) (by decide), c13, yG (xI_in lt (by decide)), xI_cl (by omega), yPut_c ν _ (by decide) (by decide), c10, add1]
        
      rw [step]
      by_cases g : (u i).ov = s
      · refine ⟨yPut ν (u i), yKt_put _ _, Or.inl ⟨f i, ?_, by omega, ySet_first Z (P := fun τ => τ.ov = s) hi' g no⟩⟩
        rw [if_pos g]
      · obtain ⟨ν1, k1, r⟩ := ih M (i + 1) (yPut ν (u i)) (by omega) (by omega) (by omega) (yFC_put F _) ((yKt_put ν (u i)).seM C) (fun j hj => by
          by_cases q : j = i
          · rw [q]; exact g
          · exact no j (by omega))
        refine ⟨ν1, (yKt_put _ _).trans k1, ?_⟩
        rw [if_neg g]
        exact r
theorem yc_over_loop {φ : Nat → Nat → Nat} (O : yOk φ) (N : Nat) {b n s : Nat} {σ : ySt} {f : Nat → Nat} {u : Nat → ySt} (Z : ySet φ b σ n f u) (hs : s < 6) (K : wMem → Option (Int32 × wMem)) : ∀ (d M i : Nat) (ν : wMem), n - i ≤ d → d < M → i ≤ n → yFC φ ν → ySeM n f u ν → (∀ j, j < i → ¬ yBit (u j).ov s = 1) →
    ∃ ν1, yKt ν ν1 ∧ ((∃ c, gX0_over_25 N (nI s) K M (nI i) ν = some (nI c, ν1) ∧ c < 1000000000 ∧ yMin φ 1000 b σ (fun τ => yBit τ.ov s = 1) c) ∨ (gX0_over_25 N (nI s) K M (nI i) ν = K ν1 ∧ ∀ τ c, yW φ 1000 b σ τ c → ¬ yBit τ.ov s = 1)) := by
  intro d
  induction d with
  | zero =>
    intro M i ν hd hM hi F C no
    obtain ⟨M, rfl⟩ : ∃ q, M = q + 1 := ⟨M - 1, by omega⟩
    have : i = n := by omega
    subst this
    refine ⟨ν, yKt.rfl' _, Or.inr ⟨?_, ySet_none Z (P := fun τ => yBit τ.ov s = 1) no⟩⟩
    show gbX0_over_25 N _ _ _ _ _ = _
    unfold gbX0_over_25
    rw [C.2.2, if_pos Int32.le_rfl]
  | succ d ih =>
    intro M i ν hd hM hi F C no
    obtain ⟨M, rfl⟩ : ∃ q, M = q + 1 := ⟨M - 1, by omega⟩
    have hn := C.1
    by_cases z : i = n
    · subst z
      refine ⟨ν, yKt.rfl' _, Or.inr ⟨?_, ySet_none Z (P := fun τ => yBit τ.ov s = 1) no⟩⟩
      show gbX0_over_25 N _ _ _ _ _ = _
      unfold gbX0_over_25
      rw [C.2.2, if_pos Int32.le_rfl]
    · have hi' : i < n := by omega
      have e : (nI n ≤ nI i) = (n ≤ i) := xI_le (by omega) (by omega)
      obtain ⟨U, w, wl, wb⟩ := Z.1 i hi'
      have lt := yNum_lt O U
      have ov := yOv64 O U
      obtain ⟨c13, c10⟩ := C.2.1 i hi'
      have un : yUn (yNum (u i)) = u i := yUn_num O U
      have add1 : nI i + (1 : Int32) = nI (i + 1) := nI_add i 1
      have step : gX0_over_25 N (nI s) K (M + 1) (nI i) ν = if yBit (u i).ov s = 1 then some (nI (f i), yPut ν (u i)) else gX0_over_25 N (nI s) K M (nI (i + 1)) (yPut ν (u i)) := by
        show gbX0_over_25 N _ _ _ _ _ = _
        unfold gbX0_over_25 wLet
        dsimp only
        rw [C.2.2, yIf e, if_neg (by omega), yG (xI_in (by omega) (by decide)), xI_cl (by omega), c13, yc_be ν (s := yNum (u i)) (by omega) N, yBV, un, yPut_5, yc_has (a := (u i).ov) (p := s) (by omega) (by omega), yBd, yG (xI_in (by omega) (by decide)), yPut_c ν _ (by decide) (by decide), c13, yG (xI_in lt (by decide)), xI_cl (by omega), yPut_c ν _ (by decide) (by decide), c10, add1]
        by_cases g : yBit (u i).ov s = 1
        · rw [if_pos g, yB1 g]
        · rw [if_neg g, yB2 g]
      rw [step]
      by_cases g : yBit (u i).ov s = 1
      · refine ⟨yPut ν (u i), yKt_put _ _, Or.inl ⟨f i, ?_, by omega, ySet_first Z (P := fun τ => yBit τ.ov s = 1) hi' g no⟩⟩
        rw [if_pos g]
      · obtain ⟨ν1, k1, r⟩ := ih M (i + 1) (yPut ν (u i)) (by omega) (by omega) (by omega) (yFC_put F _) ((yKt_put ν (u i)).seM C) (fun j hj => by
          by_cases q : j = i
          · rw [q]; exact g
          · exact no j (by omega))
        refine ⟨ν1, (yKt_put _ _).trans k1, ?_⟩
        rw [if_neg g]
        exact r
theorem yq_till {φ : Nat → Nat → Nat} {μ μm : wMem} (O : yOk φ) (hl : φ 0 1 ≠ 0 → 0 < φ 0 0) (hp : 0 < φ 0 2 → φ 0 1 ≠ 0) (G : yGo φ) (F : yFC φ μ) (M : yFM φ 0 μm) (Q : ySn μm) {N : Nat} (hN : 200000000000000 ≤ N) (a1 : Int32) : yBt3 (fX0_till N a1) (fX6_till N a1) μ μm := by
  have h6 := O.persons
  have h64 := yPow64 O.persons
  have M1 := (yKM_0 μm 0).fm M
  by_cases g : φ 0 1 ≠ 0 ∧ yIs a1 (2 ^ φ 0 2)
  · obtain ⟨s, hs, rfl⟩ : ∃ s, s < 2 ^ φ 0 2 ∧ a1 = nI s := yIs.of g.2 (by omega)
    have g0 : φ 0 1 ≠ 0 := g.1
    obtain ⟨n, f, u, ν, a2, a3, Z, C, Fν, kc⟩ := yc_set0 O (hl g0) G F (N := N) (by omega)
    obtain ⟨x, νm, b1, b2, b3, b4⟩ := ym_set0 O (hl g0) G M Q hN (w := 1) (s := s) (by decide) (by omega) (by omega)
    obtain ⟨n1, n2⟩ := yq_near b2
    obtain ⟨ν1, k1, r⟩ := yc_till_loop O N (s := s) Z (by omega) (fun (μ17 : wMem) => some ((-1), μ17)) n N 0 ν (by omega) (by have := C.1; omega) (by omega) Fν C (fun j hj => absurd hj (by omega))
    have ec : fX0_till N (nI s) μ = gX0_till_25 N (nI s) (fun (μ17 : wMem) => some ((-1), μ17)) N (nI 0) ν := by
      unfold fX0_till
      rw [yc_isSet O F, yBd, yB1 g, a2, yBV, a3, yBV]
      rfl
    have em : fX6_till N (nI s) μm = if nI x = (2000000000 : Int32) then some ((-1), νm) else some (nI x, νm) := by
      unfold fX6_till wLet
      dsimp only
      rw [ym_isSet O M1, yBd, yB1 g]
      refine Eq.trans (congrArg (fun z => wBind z _) b1) ?_
      rw [yBd]
    rcases r with ⟨c, h1, h2, h3⟩ | ⟨h1, h2⟩
    · have ex := n1 c h2 h3
      subst ex
      refine yBt3.mk' (v := nI x) ?_ ?_ (kc.trans k1.ky.kc) b3 b4
      · rw [ec, h1]
      · rw [em, if_neg (by rw [xI_far2 _ (by omega)]; exact fun h => h)]
    · have ex := n2 h2
      subst ex
      refine yBt3.mk' (v := -1) ?_ ?_ (kc.trans k1.ky.kc) b3 b4
      · rw [ec, h1]
      · rw [em, if_pos (show nI 2000000000 = (2000000000 : Int32) from rfl)]
  · refine yBt3.mk' (v := -2) (μ1 := μ) (μm1 := wSI μm 0 0 0) ?_ ?_ (yKC.rfl' _) (yKM_0 _ _).kn (ySn_km Q (yKM_0 _ _))
    · unfold fX0_till
      rw [yc_isSet O F, yBd, yB2 g]
    · unfold fX6_till wLet
      dsimp only
      rw [ym_isSet O M1, yBd, yB2 g]
theorem yq_over {φ : Nat → Nat → Nat} {μ μm : wMem} (O : yOk φ) (hl : φ 0 1 ≠ 0 → 0 < φ 0 0) (hp : 0 < φ 0 2 → φ 0 1 ≠ 0) (G : yGo φ) (F : yFC φ μ) (M : yFM φ 0 μm) (Q : ySn μm) {N : Nat} (hN : 200000000000000 ≤ N) (a1 : Int32) : yBt3 (fX0_over N a1) (fX6_over N a1) μ μm := by
  have h6 := O.persons
  have h64 := yPow64 O.persons
  have M1 := (yKM_0 μm 0).fm M
  by_cases g : yIs a1 (φ 0 2)
  · obtain ⟨s, hs, rfl⟩ : ∃ s, s < φ 0 2 ∧ a1 = nI s := yIs.of g (by omega)
    have g0 : φ 0 1 ≠ 0 := hp (by omega)
    obtain ⟨n, f, u, ν, a2, a3, Z, C, Fν, kc⟩ := yc_set0 O (hl g0) G F (N := N) (by omega)
    obtain ⟨x, νm, b1, b2, b3, b4⟩ := ym_set0 O (hl g0) G M Q hN (w := 2) (s := s) (by decide) (by omega) (by omega)
    obtain ⟨n1, n2⟩ := yq_near b2
    obtain ⟨ν1, k1, r⟩ := yc_over_loop O N (s := s) Z (by omega) (fun (μ17 : wMem) => some ((-1), μ17)) n N 0 ν (by omega) (by have := C.1; omega) (by omega) Fν C (fun j hj => absurd hj (by omega))
    have ec : fX0_over N (nI s) μ = gX0_over_25 N (nI s) (fun (μ17 : wMem) => some ((-1), μ17)) N (nI 0) ν := by
      unfold fX0_over
      rw [yc_isPerson O F, yBd, yB1 g, a2, yBV, a3, yBV]
      rfl
    have em : fX6_over N (nI s) μm = if nI x = (2000000000 : Int32) then some ((-1), νm) else some (nI x, νm) := by
      unfold fX6_over wLet
      dsimp only
      rw [ym_isPerson O M1, yBd, yB1 g]
      refine Eq.trans (congrArg (fun z => wBind z _) b1) ?_
      rw [yBd]
    rcases r with ⟨c, h1, h2, h3⟩ | ⟨h1, h2⟩
    · have ex := n1 c h2 h3
      subst ex
      refine yBt3.mk' (v := nI x) ?_ ?_ (kc.trans k1.ky.kc) b3 b4
      · rw [ec, h1]
      · rw [em, if_neg (by rw [xI_far2 _ (by omega)]; exact fun h => h)]
    · have ex := n2 h2
      subst ex
      refine yBt3.mk' (v := -1) ?_ ?_ (kc.trans k1.ky.kc) b3 b4
      · rw [ec, h1]
      · rw [em, if_pos (show nI 2000000000 = (2000000000 : Int32) from rfl)]
  · refine yBt3.mk' (v := -2) (μ1 := μ) (μm1 := wSI μm 0 0 0) ?_ ?_ (yKC.rfl' _) (yKM_0 _ _).kn (ySn_km Q (yKM_0 _ _))
    · unfold fX0_over
      rw [yc_isPerson O F, yBd, yB2 g]
    · unfold fX6_over wLet
      dsimp only
      rw [ym_isPerson O M1, yBd, yB2 g]
