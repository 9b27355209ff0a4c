set_option maxRecDepth 100000
/-! part 9996991: worst -/
def yPc (n : Nat) : Nat := n % 2 + n / 2 % 2 + n / 4 % 2 + n / 8 % 2 + n / 16 % 2 + n / 32 % 2
theorem yPc_le (n : Nat) : yPc n ≤ 6 := by unfold yPc; omega
theorem yc_bits (N : Nat) (μ : wMem) {n : Nat} (h : n < 64) : fJ10_bitCount N (nI n) μ = some (nI (yPc n), μ) := by
  have key : ∀ n, n < 64 → (fJ10_bitCount 0 (nI n) (fun _ _ => 0, fun _ _ => 0)).map Prod.fst = some (nI (yPc n)) := by decide +kernel
  have e : fJ10_bitCount N (nI n) μ = (fJ10_bitCount 0 (nI n) (fun _ _ => 0, fun _ _ => 0)).map fun z => (z.1, μ) := rfl
  have k := key n h
  rw [e]
  cases q : fJ10_bitCount 0 (nI n) (fun _ _ => 0, fun _ _ => 0) with
  | none => rw [q] at k; cases k
  | some z =>
    rw [q] at k
    show some (z.1, μ) = _
    rw [show z.1 = nI (yPc n) from Option.some.inj k]
theorem ym_size_loop (N : Nat) (μ : wMem) (K : Int32 → wMem → Option (Int32 × wMem)) : ∀ (n M c : Nat), n < 64 → n < M → gX6_sizeOf_4 N K M (nI c) (nI n) μ = K (nI (c + yPc n)) μ := by
  intro n
  induction n using Nat.strongRecOn with
  | ind n ih =>
    intro M c h hM
    obtain ⟨M, rfl⟩ : ∃ q, M = q + 1 := ⟨M - 1, by omega⟩
    have k1 : ∀ n, n < 64 → n ≠ 0 → nI n &&& (nI n - (1 : Int32)) = nI (n &&& (n - 1)) ∧ (n &&& (n - 1)) < n ∧ yPc (n &&& (n - 1)) + 1 = yPc n := by decide +kernel
    show gbX6_sizeOf_4 N _ _ _ _ _ = _
    unfold gbX6_sizeOf_4
    by_cases z : n = 0
    · subst z
      rw [if_pos (show nI 0 = 0 from rfl)]
      rfl
    · obtain ⟨e1, e2, e3⟩ := k1 n h z
      have add1 : nI c + (1 : Int32) = nI (c + 1) := nI_add c 1
      rw [if_neg (by rw [xI_e0 (a := n) (by omega)]; exact z)]
      unfold wLet
      dsimp only
      rw [e1, add1, ih _ e2 M (c + 1) (by omega) (by omega)]
      congr 2
      omega
theorem ym_size {N : Nat} (hN : 64 ≤ N) (μ : wMem) {n : Nat} (h : n < 64) : fX6_sizeOf N (nI n) μ = some (nI (yPc n), μ) := by
  have := ym_size_loop N μ (fun (x5 : Int32) (μ4 : wMem) => some (x5, μ4)) n N 0 h (by omega)
  unfold fX6_sizeOf
  refine Eq.trans this ?_
  rw [Nat.zero_add]
def yWr (φ : Nat → Nat → Nat) (τ : ySt) : Nat := yPc (τ.ov ^^^ yEnd φ)
theorem yEnd_64 {φ : Nat → Nat → Nat} (O : yOk φ) : yEnd φ < 64 := by
  have h6 := O.persons
  unfold yEnd
  have : (2 ^ φ 0 2 - 1) &&& (63 ^^^ φ 0 5) ≤ 2 ^ φ 0 2 - 1 := Nat.and_le_left
  have h : 2 ^ φ 0 2 ≤ 2 ^ 6 := Nat.pow_le_pow_right (by decide) h6
  have p : 0 < 2 ^ φ 0 2 := Nat.pow_pos (by decide)
  omega
theorem yEnd_key : ∀ n, n ≤ 6 → ∀ s, s < 64 → (((1 : Int32) <<< (nI n &&& 31)) - 1) &&& (nI s ^^^ (-1 : Int32)) = nI ((2 ^ n - 1) &&& (63 ^^^ s)) := by decide +kernel
theorem yXor_64 {a b : Nat} (ha : a < 64) (hb : b < 64) : a ^^^ b < 64 := Nat.xor_lt_two_pow (n := 6) ha hb
theorem yc_wrong {φ : Nat → Nat → Nat} {μ : wMem} {σ : ySt} (O : yOk φ) (F : yFC φ μ) (S : ySok φ σ) (N : Nat) : fX0_wrong N (yPut μ σ) = some (nI (yWr φ σ), yPut μ σ) := by
  have h6 := O.persons
  have h64 := yOv64 O S
  have h5 := O.stay
  have x64 := yXor_64 h64 (yEnd_64 O)
  unfold fX0_wrong fX0_all
  rw [yBd, yPut_c μ σ (c := 1) (by decide) (by decide), yPut_c μ σ (c := 1) (by decide) (by decide), F.fld 2 (by decide), F.fld 5 (by decide), yPut_5, yEnd_key _ h6 _ h5]
  show wBind (fJ10_bitCount N (nI σ.ov ^^^ nI (yEnd φ)) (yPut μ σ)) _ = _
  rw [xI_xor, yc_bits N _ x64, yBd]
  rfl
/-- the first place behind which the most are wrong -/
def yWs (φ : Nat → Nat → Nat) : List Nat → ySt → Nat → Nat → Nat → Nat
  | [], _, b, _, _ => b
  | x :: l, τ, b, m, n => if m < yWr φ (yDo φ τ x) then yWs φ l (yDo φ τ x) (n + 1) (yWr φ (yDo φ τ x)) (n + 1) else yWs φ l (yDo φ τ x) b m (n + 1)
theorem yWr_le (φ : Nat → Nat → Nat) (τ : ySt) : yWr φ τ ≤ 6 := yPc_le _
theorem yc_worst_loop {φ : Nat → Nat → Nat} (O : yOk φ) {N : Nat} {ρ : wMem} (F : yFC φ ρ) (K : Int32 → wMem → Option (Int32 × wMem)) : ∀ (l : List Nat) (M b m n : Nat) (τ : ySt), l.length < M → m ≤ 6 → n + l.length < 2 ^ 30 → yRd φ N 0 ρ τ l →
    gX0_worst_42 N K M (nI b) (nI m) (nI n) (yHd l) (yPut ρ τ) = K (nI (yWs φ l τ b m n)) (yPut ρ (yDs φ τ l)) := by
  intro l
  induction l with
  | nil =>
    intro M b m n τ hM hm hn h
    obtain ⟨M, rfl⟩ : ∃ q, M = q + 1 := ⟨M - 1, by omega⟩
    show gbX0_worst_42 N _ _ _ _ _ _ _ = _
    unfold gbX0_worst_42
    rw [if_pos (show yHd [] = -1 from rfl)]
    rfl
  | cons x l ih =>
    intro M b m n τ hM hm hn h
    obtain ⟨M, rfl⟩ : ∃ q, M = q + 1 := ⟨M - 1, by omega⟩
    obtain ⟨S, ex, st, h2⟩ := h
    have hx := (yEb_act ex).1
    have S2 := yDo_ok O S hx
    have add1 : nI n + (1 : Int32) = nI (n + 1) := nI_add n 1
    have wl := yWr_le φ (yDo φ τ x)
    have lt : (nI m < nI (yWr φ (yDo φ τ x))) = (m < yWr φ (yDo φ τ x)) := xI_lt (by omega) (by omega)
    have st2 : fX0_step N 19 (yPut ρ (yDo φ τ x)) = some (yHd l, yPut ρ (yDo φ τ x)) := h2.hd
    show gbX0_worst_42 N _ _ _ _ _ (nI x) _ = _
    unfold gbX0_worst_42 wLet
    dsimp only
    rw [yIf (xI_201 (x := x) hx.le), if_neg (fun h => h), yc_does O F S N hx, yBV, yc_wrong O F S2, yBd, yIf lt, add1]
    show _ = K (nI (if m < yWr φ (yDo φ τ x) then _ else _)) _
    by_cases q : m < yWr φ (yDo φ τ x)
    · rw [if_pos q, if_pos q, yc_wrong O F S2, yBd, st2, yBd]
      exact ih M (n + 1) _ (n + 1) _ (by simp at hM; omega) wl (by simp at hn; omega) h2
    · rw [if_neg q, if_neg q, st2, yBd]
      exact ih M b m (n + 1) _ (by simp at hM; omega) hm (by simp at hn; omega) h2
theorem yRun_ok {φ : Nat → Nat → Nat} (O : yOk φ) : ∀ (l : List Nat) (τ ρ : ySt), ySok φ τ → yRun φ τ l = some ρ → ySok φ ρ := by
  intro l
  induction l with
  | nil => intro τ ρ S h; rw [← Option.some.inj h]; exact S
  | cons x l ih =>
    intro τ ρ S h
    replace h : (if yEb φ τ x = true then yRun φ (yDo φ τ x) l else none) = some ρ := h
    by_cases q : yEb φ τ x = true
    · rw [if_pos q] at h
      exact ih _ _ (yDo_ok O S (yEb_act q).1) h
    · rw [if_neg q] at h; cases h
theorem yRun_tk {φ : Nat → Nat → Nat} : ∀ (l : List Nat) (n : Nat) (τ ρ : ySt), yRun φ τ l = some ρ → yRun φ τ (l.take n) = some (yDs φ τ (l.take n)) := by
  intro l
  induction l with
  | nil => intro n τ ρ h; rw [List.take_nil]; rfl
  | cons x l ih =>
    intro n τ ρ h
    cases n with
    | zero => rfl
    | succ n =>
      replace h : (if yEb φ τ x = true then yRun φ (yDo φ τ x) l else none) = some ρ := h
      by_cases q : yEb φ τ x = true
      · rw [if_pos q] at h
        rw [List.take_succ_cons]
        show (if yEb φ τ x = true then yRun φ (yDo φ τ x) (l.take n) else none) = _
        rw [if_pos q]
        exact ih n _ _ h
      · rw [if_neg q] at h; cases h
theorem yDs_snoc (φ : Nat → Nat → Nat) (τ : ySt) (L : List Nat) {n : Nat} (h : n < L.length) : yDs φ τ (L.take (n + 1)) = yDo φ (yDs φ τ (L.take n)) L[n] := by
  unfold yDs
  rw [List.take_succ, List.getElem?_eq_getElem h, List.foldl_append]
  rfl
theorem ym_worst_loop {φ : Nat → Nat → Nat} (O : yOk φ) (G : yGo φ) {N : Nat} (hN : 1000 ≤ N) {L : List Nat} (hL : L.length ≤ 400) {ρe : ySt} (r : yRun φ (yLay φ (φ 0 6)) L = some ρe) (K : Int32 → wMem → Option (Int32 × wMem)) : ∀ (d M b m n : Nat) (ν : wMem), d < M → n + d = L.length → m ≤ 6 → yFM φ 0 ν → yRl L ν →
    ∃ ν1, gX6_worst_61 N (nI (yEnd φ)) K M (nI b) (nI m) (nI (n + 1)) ν = K (nI (yWs φ (L.drop n) (yDs φ (yLay φ (φ 0 6)) (L.take n)) b m n)) ν1 ∧ yKM ν ν1 := by
  have S0 := yLay_ok O G (φ 0 6) (Nat.le_refl _)
  intro d
  induction d with
  | zero =>
    intro M b m n ν hM hn hm F Q
    obtain ⟨M, rfl⟩ : ∃ q, M = q + 1 := ⟨M - 1, by omega⟩
    have lt : (nI L.length < nI (n + 1)) = (L.length < n + 1) := xI_lt (by omega) (by omega)
    refine ⟨ν, ?_, yKM.rfl' _⟩
    show gbX6_worst_61 N _ _ _ _ _ _ _ = _
    unfold gbX6_worst_61
    rw [Q.1, yIf lt, if_pos (by omega), List.drop_eq_nil_of_le (by omega)]
    rfl
  | succ d ih =>
    intro M b m n ν hM hn hm F Q
    obtain ⟨M, rfl⟩ : ∃ q, M = q + 1 := ⟨M - 1, by omega⟩
    have hn2 : n < L.length := by omega
    have lt : (nI L.length < nI (n + 1)) = (L.length < n + 1) := xI_lt (by omega) (by omega)
    have add1 : nI (n + 1) + (1 : Int32) = nI (n + 1 + 1) := nI_add (n + 1) 1
    have ob := ym_overB O G (N := N) (A := n + 1) hN F Q hL (by omega) r
    have Sn := yRun_ok O _ _ _ S0 (yRun_tk L (n + 1) _ _ r)
    have ed : L.drop n = L[n] :: L.drop (n + 1) := List.drop_eq_getElem_cons hn2
    have es := yDs_snoc φ (yLay φ (φ 0 6)) L hn2
    rw [ed]
    show ∃ ν1, gbX6_worst_61 N _ _ _ _ _ _ _ = K (nI (if m < yWr φ (yDo φ (yDs φ (yLay φ (φ 0 6)) (L.take n)) L[n]) then yWs φ (L.drop (n + 1)) (yDo φ (yDs φ (yLay φ (φ 0 6)) (L.take n)) L[n]) (n + 1) (yWr φ (yDo φ (yDs φ (yLay φ (φ 0 6)) (L.take n)) L[n])) (n + 1) else yWs φ (L.drop (n + 1)) (yDo φ (yDs φ (yLay φ (φ 0 6)) (L.take n)) L[n]) b m (n + 1))) ν1 ∧ _
    rw [← es]
    generalize hτ : yDs φ (yLay φ (φ 0 6)) (L.take (n + 1)) = τ at *
    have x64 := yXor_64 (yOv64 O Sn) (yEnd_64 O)
    have wl := yWr_le φ τ
    have lw : (nI m < nI (yWr φ τ)) = (m < yWr φ τ) := xI_lt (by omega) (by omega)
    have k2 : yKM ν (yTut (yLM φ ν (φ 0 6)) (yT φ τ)) := (yKM_LM φ ν (φ 0 6)).trans (yKM_put _ _)
    have Q2 : yRl L (yTut (yLM φ ν (φ 0 6)) (yT φ τ)) := yRl_put (yRl_LM (φ := φ) Q (φ 0 6)) _
    have sz : fX6_sizeOf N (nI (τ.ov ^^^ yEnd φ)) (yTut (yLM φ ν (φ 0 6)) (yT φ τ)) = some (nI (yWr φ τ), yTut (yLM φ ν (φ 0 6)) (yT φ τ)) := ym_size (by omega) _ x64
    unfold gbX6_worst_61 wLet
    dsimp only
    rw [Q.1, yIf lt, if_neg (by omega), ob, yBd, xI_xor, sz, yBd, yIf lw, add1]
    by_cases q : m < yWr φ τ
    · rw [if_pos q, if_pos q]
      obtain ⟨ν1, j1, j2⟩ := ih M (n + 1) (yWr φ τ) (n + 1) _ (by omega) (by omega) wl (k2.fm F) Q2
      rw [hτ] at j1
      exact ⟨ν1, j1, k2.trans j2⟩
    · rw [if_neg q, if_neg q]
      obtain ⟨ν1, j1, j2⟩ := ih M b m (n + 1) _ (by omega) (by omega) hm (k2.fm F) Q2
      rw [hτ] at j1
      exact ⟨ν1, j1, k2.trans j2⟩
theorem yq_worst {φ : Nat → Nat → Nat} {μ μm : wMem} (W : yBnd) (O : yOk φ) (hl : φ 0 1 ≠ 0 → 0 < φ 0 0) (G : yGo φ) (F : yFC φ μ) (M : yFM φ 0 μm) (Q : ySn μm) {N : Nat} (hN : 200000000000000 ≤ N) : yBt3 (fX0_worst N) (fX6_worst N) μ μm := by
  have M1 := (yKM_0 μm 0).fm M
  have S0 := yLay_ok O G (φ 0 6) (Nat.le_refl _)
  by_cases g : φ 0 1 ≠ 0
  · obtain ⟨ρ, k1, r1⟩ := yc_marked W O (hl g) G F (N := N) (by omega) (b := 0) (by decide)
    obtain ⟨νm, k2, q2, r2⟩ := ym_isRow W O (hl g) G M Q hN (b := 0) (by decide)
    rcases r2 with ⟨no, e2⟩ | ⟨l, y1, ho, len, ⟨ρe, run⟩, e2, rl⟩
    · rcases r1 with ⟨_, ho, _⟩ | ⟨e1, _⟩
      · exact absurd ho no
      · refine yBt3.mk' (v := -1) (μ1 := ρ) ?_ ?_ k1 k2 q2
        · unfold fX0_worst
          rw [yc_isFamily O F, yBd, yB1 g]
          refine Eq.trans (congrArg (fun z => wBind z _) e1) ?_
          rw [yBd, if_pos rfl]
        · unfold fX6_worst wLet
          dsimp only
          rw [ym_isFamily O M1, yBd, yB1 g]
          refine Eq.trans (congrArg (fun z => wBind z _) e2) ?_
          rw [yBd, if_pos rfl]
    · rcases r1 with ⟨e1, _, F2, l2, y2, len2, rd⟩ | ⟨_, no⟩
      · have el := yRow.uniq l2 l _ y2 y1
        subst el
        have rd0 := rd ρ (yKv.rfl' _)
        have st : fX0_step N 19 (yPut ρ (yLay φ (φ 0 6))) = some (yHd l2, yPut ρ (yLay φ (φ 0 6))) := rd0.hd
        have lp := yc_worst_loop O (N := N) F2 (fun (x33 : Int32) (μ32 : wMem) => some (x33, μ32)) l2 N 0 (yWr φ (yLay φ (φ 0 6))) 0 _ (by omega) (yWr_le _ _) (by omega) rd0
        have F3 := k2.fm M
        have ob := ym_overB O G (N := N) (A := 0) (by omega) F3 rl len (by omega) run
        have x64 := yXor_64 (yOv64 O S0) (yEnd_64 O)
        have k3 : yKM νm (yTut (yLM φ νm (φ 0 6)) (yT φ (yLay φ (φ 0 6)))) := (yKM_LM φ νm (φ 0 6)).trans (yKM_put _ _)
        obtain ⟨ν1, j1, j2⟩ := ym_worst_loop O G (N := N) (by omega) len run (fun (x32 : Int32) (μ31 : wMem) => some (x32, μ31)) l2.length N 0 (yWr φ (yLay φ (φ 0 6))) 0 (yTut (yLM φ νm (φ 0 6)) (yT φ (yLay φ (φ 0 6)))) (by omega) (by omega) (yWr_le _ _) (k3.fm F3) (yRl_put (yRl_LM (φ := φ) rl (φ 0 6)) _)
        have k4 := k3.trans j2
        refine yBt3.mk' (v := nI (yWs φ l2 (yLay φ (φ 0 6)) 0 (yWr φ (yLay φ (φ 0 6))) 0)) (μ1 := yPut ρ (yDs φ (yLay φ (φ 0 6)) l2)) (μm1 := ν1) ?_ ?_ (k1.trans (yKC_put _ _)) (k2.trans k4.kn) (ySn_km q2 k4)
        · unfold fX0_worst
          rw [yc_isFamily O F, yBd, yB1 g]
          refine Eq.trans (congrArg (fun z => wBind z _) e1) ?_
          rw [yBd, if_neg (by decide), yc_wrong O F2 S0, yBd, st, yBd]
          exact lp
        · have e72 : νm.1 7 (Int32.toNatClampNeg (2 : Int32)) = nI (φ 0 2) := F3.persons
          have e75 : νm.1 7 (Int32.toNatClampNeg (5 : Int32)) = nI (φ 0 5) := F3.stay
          have ob0 : fX6_overBehind N 0 νm = some (nI (yLay φ (φ 0 6)).ov, yTut (yLM φ νm (φ 0 6)) (yT φ (yLay φ (φ 0 6)))) := ob
          have sz : fX6_sizeOf N (nI ((yLay φ (φ 0 6)).ov ^^^ yEnd φ)) (yTut (yLM φ νm (φ 0 6)) (yT φ (yLay φ (φ 0 6)))) = some (nI (yWr φ (yLay φ (φ 0 6))), yTut (yLM φ νm (φ 0 6)) (yT φ (yLay φ (φ 0 6)))) := ym_size (by omega) _ x64
          unfold fX6_worst wLet
          dsimp only
          rw [ym_isFamily O M1, yBd, yB1 g]
          refine Eq.trans (congrArg (fun z => wBind z _) e2) ?_
          rw [yBd, if_neg (by decide), yG (show ok_in (2 : Int32) 35 = true by decide), yG (show ok_in (5 : Int32) 35 = true by decide), e72, e75, yEnd_key _ O.persons _ O.stay, ob0, yBd]
          show wBind (fX6_sizeOf N (nI (yLay φ (φ 0 6)).ov ^^^ nI (yEnd φ)) _) _ = _
          rw [xI_xor, sz, yBd]
          exact j1
      · exact absurd ho no
  · refine yBt3.mk' (v := -2) (μ1 := μ) (μm1 := wSI μm 0 0 0) ?_ ?_ (yKC.rfl' _) (yKM_0 _ _).kn (ySn_km Q (yKM_0 _ _))
    · unfold fX0_worst
      rw [yc_isFamily O F, yBd, yB2 g]
    · unfold fX6_worst wLet
      dsimp only
      rw [ym_isFamily O M1, yBd, yB2 g]
