set_option maxRecDepth 100000
/-! part 9996994: drawn, luck -/
theorem yc_rng (a : Int32) (lo hi : Int64) (N : Nat) (μ : wMem) : fX0_isIn N a.toInt64 lo hi μ = some (yB (decide (lo.toInt ≤ a.toInt ∧ a.toInt ≤ hi.toInt)), μ) := by
  have h1 : (a.toInt64 < lo) ↔ a.toInt < lo.toInt := by rw [Int64.lt_iff_toInt_lt, Int32.toInt_toInt64]
  have h2 : (hi < a.toInt64) ↔ hi.toInt < a.toInt := by rw [Int64.lt_iff_toInt_lt, Int32.toInt_toInt64]
  unfold fX0_isIn
  by_cases h : lo.toInt ≤ a.toInt ∧ a.toInt ≤ hi.toInt
  · have := h.1
    have := h.2
    rw [if_neg (by rw [h1]; omega), if_neg (by rw [h2]; omega), yB_t h]
  · rw [yB_f h]
    by_cases g1 : a.toInt64 < lo
    · rw [if_pos g1]
    · rw [if_neg g1]
      by_cases g2 : hi < a.toInt64
      · rw [if_pos g2]
      · exfalso
        apply h
        rw [h1] at g1
        rw [h2] at g2
        exact ⟨by omega, by omega⟩
theorem ym_rng (a : Int32) (lo hi : Int64) (N : Nat) (μ : wMem) : fX6_in N a.toInt64 lo hi μ = some (yB (decide (lo.toInt ≤ a.toInt ∧ a.toInt ≤ hi.toInt)), μ) := by
  have h1 : (a.toInt64 < lo) ↔ a.toInt < lo.toInt := by rw [Int64.lt_iff_toInt_lt, Int32.toInt_toInt64]
  have h2 : (hi < a.toInt64) ↔ hi.toInt < a.toInt := by rw [Int64.lt_iff_toInt_lt, Int32.toInt_toInt64]
  unfold fX6_in
  by_cases h : lo.toInt ≤ a.toInt ∧ a.toInt ≤ hi.toInt
  · have := h.1
    have := h.2
    rw [if_neg (by rw [h1]; omega), if_neg (by rw [h2]; omega), yB_t h]
  · rw [yB_f h]
    by_cases g1 : a.toInt64 < lo
    · rw [if_pos g1]
    · rw [if_neg g1]
      by_cases g2 : hi < a.toInt64
      · rw [if_pos g2]
      · exfalso
        apply h
        rw [h1] at g1
        rw [h2] at g2
        exact ⟨by omega, by omega⟩
theorem yc_seed (a : Int32) (N : Nat) (μ : wMem) : fX0_isSeed N a μ = some (yB (decide ((0 : Int64).toInt ≤ a.toInt ∧ a.toInt ≤ (2000000000 : Int64).toInt)), μ) := by
  unfold fX0_isSeed
  rw [yc_rng, yBd, yG (yB_ok _)]
theorem yq_drawn {φ : Nat → Nat → Nat} {μ μm : wMem} (W : yBnd) (O : yOk φ) (hl : φ 0 1 ≠ 0 → 0 < φ 0 0) (G : yGo φ) (F : yFC φ μ) (M : yFM φ 0 μm) (Q : ySn μm) {N : Nat} (hN : 200000000000000 ≤ N) (a1 a2 : Int32) : yBt3 (fX0_drawn N a1 a2) (fX6_drawn N a1 a2) μ μm := by
  have M1 := (yKM_0 μm 0).fm M
  have i0 : ∀ μ, fX0_isOneOf N a2 2 μ = some (yB (decide (yIs a2 2)), μ) := fun μ => yc_oneOf a2 2 (by decide) N μ
  have i6 : ∀ μ, fX6_in N a2.toInt64 0 1 μ = some (yB (decide (yIs a2 2)), μ) := fun μ => ym_in a2 (n := 2) (by decide) N μ
  by_cases g : φ 0 1 ≠ 0
  · by_cases sd : (0 : Int64).toInt ≤ a1.toInt ∧ a1.toInt ≤ (2000000000 : Int64).toInt
    · by_cases w : yIs a2 2
      · obtain ⟨ρ, k1, r1⟩ := yc_marked W O (hl g) G F (N := N) (by omega) (b := 1) (by decide)
        obtain ⟨νm, k2, q2, r2⟩ := ym_isRow W O (hl g) G M Q hN (b := 1) (by decide)
        rcases r2 with ⟨no, e2⟩ | ⟨l, y1, ho, len, ⟨ρe, run⟩, e2, rl⟩
        · rcases r1 with ⟨_, ho, _⟩ | ⟨e1, _⟩
          · exact absurd ho no
          · refine yBt3.mk' (v := -2) (μ1 := ρ) ?_ ?_ k1 k2 q2
            · unfold fX0_drawn
              rw [yc_isFamily O F, yBd, yWL, yB1 g, yc_seed, yBd, yB1 sd, i0, yBd, yB1 w]
              refine Eq.trans (congrArg (fun z => wBind z _) e1) ?_
              rw [yBd, if_pos rfl]
            · unfold fX6_drawn
              rw [yWL, ym_isFamily O M1, yBd, yWL, yB1 g, ym_rng, yBd, yB1 sd, i6, yBd, yB1 w]
              refine Eq.trans (congrArg (fun z => wBind z _) e2) ?_
              rw [yBd, if_pos rfl]
        · rcases r1 with ⟨e1, _, F2, l2, y2, len2, rd⟩ | ⟨_, no⟩
          · have el := yRow.uniq l2 l _ y2 y1
            subst el
            obtain ⟨ν1, j1, j2, j3, j4, j5⟩ := yc_trip O G (N := N) (by omega) F2 len2 rd (yKv_put ρ (yLay φ (φ 0 6))) a1.toInt64
            obtain ⟨ν2, m1, m2, m3, m4⟩ := ym_trip O G (N := N) (by omega) (k2.fm M) rl len run a1.toInt64
            refine yBt3.mk' (v := if a2 = 0 then (yTr φ l2 a1.toInt64 0 (yLay φ (φ 0 6))).1 else nI (yTr φ l2 a1.toInt64 0 (yLay φ (φ 0 6))).2.ov) (μ1 := ν1) (μm1 := ν2) ?_ ?_ ((k1.trans (yKC_put _ _)).trans j5) (k2.trans m3.kn) (ySn_km q2 m3)
            · unfold fX0_drawn
              rw [yc_isFamily O F, yBd, yWL, yB1 g, yc_seed, yBd, yB1 sd, i0, yBd, yB1 w]
              refine Eq.trans (congrArg (fun z => wBind z _) e1) ?_
              rw [yBd, if_neg (by decide), j1, yBV, j2, j3]
              split <;> rfl
            · unfold fX6_drawn
              rw [yWL, ym_isFamily O M1, yBd, yWL, yB1 g, ym_rng, yBd, yB1 sd, i6, yBd, yB1 w]
              refine Eq.trans (congrArg (fun z => wBind z _) e2) ?_
              rw [yBd, if_neg (by decide), m1, yBd, m2]
              split <;> rfl
          · exact absurd ho no
      · refine yBt3.mk' (v := -2) (μ1 := μ) (μm1 := wSI μm 0 0 0) ?_ ?_ (yKC.rfl' _) (yKM_0 _ _).kn (ySn_km Q (yKM_0 _ _))
        · unfold fX0_drawn
          rw [yc_isFamily O F, yBd, yWL, yB1 g, yc_seed, yBd, yB1 sd, i0, yBd, yB2 w]
        · unfold fX6_drawn
          rw [yWL, ym_isFamily O M1, yBd, yWL, yB1 g, ym_rng, yBd, yB1 sd, i6, yBd, yB2 w]
    · refine yBt3.mk' (v := -2) (μ1 := μ) (μm1 := wSI μm 0 0 0) ?_ ?_ (yKC.rfl' _) (yKM_0 _ _).kn (ySn_km Q (yKM_0 _ _))
      · unfold fX0_drawn
        rw [yc_isFamily O F, yBd, yWL, yB1 g, yc_seed, yBd, yB2 sd]
      · unfold fX6_drawn
        rw [yWL, ym_isFamily O M1, yBd, yWL, yB1 g, ym_rng, yBd, yB2 sd]
  · refine yBt3.mk' (v := -2) (μ1 := μ) (μm1 := wSI μm 0 0 0) ?_ ?_ (yKC.rfl' _) (yKM_0 _ _).kn (ySn_km Q (yKM_0 _ _))
    · unfold fX0_drawn
      rw [yc_isFamily O F, yBd, yWL, yB2 g]
    · unfold fX6_drawn
      rw [yWL, ym_isFamily O M1, yBd, yWL, yB2 g]
/-- trips on which one is not caught -/
def yLu (φ : Nat → Nat → Nat) (l : List Nat) (a : Int32) : Nat → Nat
  | 0 => 0
  | k + 1 => yLu φ l a k + (if (yTr φ l (a.toInt64 + (nI k).toInt64) 0 (yLay φ (φ 0 6))).1 = -1 then 1 else 0)
theorem yLu_le (φ : Nat → Nat → Nat) (l : List Nat) (a : Int32) : ∀ k, yLu φ l a k ≤ k
  | 0 => Nat.le_refl _
  | k + 1 => by
    have := yLu_le φ l a k
    show yLu φ l a k + _ ≤ k + 1
    split <;> omega
theorem yc_luck_loop {φ : Nat → Nat → Nat} (O : yOk φ) (G : yGo φ) {N : Nat} (hN : 1000 ≤ N) {ρ : wMem} (F : yFC φ ρ) {l : List Nat} (hL : l.length < 1000) (rd : ∀ ν, yKv ρ ν → yRd φ N 1 ν (yLay φ (φ 0 6)) l) (a : Int32) {n : Nat} (hn : n ≤ 20) (K : Int32 → wMem → Option (Int32 × wMem)) : ∀ (d M k : Nat) (ν : wMem), d < M → k + d = n → yKv ρ ν →
    ∃ ν1, gX0_luck_45 N a (nI n) K M (nI (yLu φ l a k)) (nI k) ν = K (nI (yLu φ l a n)) ν1 ∧ yKC ν ν1 := by
  intro d
  induction d with
  | zero =>
    intro M k ν hM hk kv
    obtain ⟨M, rfl⟩ : ∃ q, M = q + 1 := ⟨M - 1, by omega⟩
    have : k = n := by omega
    subst this
    refine ⟨ν, ?_, yKC.rfl' _⟩
    show gbX0_luck_45 N _ _ _ _ _ _ _ = _
    unfold gbX0_luck_45
    rw [yIf (xI_le (a := k) (b := k) (by omega) (by omega)), if_pos (Nat.le_refl _)]
  | succ d ih =>
    intro M k ν hM hk kv
    obtain ⟨M, rfl⟩ : ∃ q, M = q + 1 := ⟨M - 1, by omega⟩
    obtain ⟨ν1, j1, j2, j3, j4, j5⟩ := yc_trip O G hN F hL rd kv (a.toInt64 + (nI k).toInt64)
    obtain ⟨ν2, i1, i2⟩ := ih M (k + 1) ν1 (by omega) (by omega) j4
    refine ⟨ν2, ?_, j5.trans i2⟩
    have add1 : nI k + (1 : Int32) = nI (k + 1) := nI_add k 1
    refine Eq.trans ?_ i1
    show gbX0_luck_45 N _ _ _ _ _ _ _ = gX0_luck_45 N a (nI n) K M (nI (yLu φ l a k + (if (yTr φ l (a.toInt64 + (nI k).toInt64) 0 (yLay φ (φ 0 6))).1 = -1 then 1 else 0))) _ _
    unfold gbX0_luck_45
    rw [yIf (xI_le (a := n) (b := k) (by omega) (by omega)), if_neg (by omega), j1, yBV, yWL, j2]
    by_cases q : (yTr φ l (a.toInt64 + (nI k).toInt64) 0 (yLay φ (φ 0 6))).1 = -1
    · rw [if_pos q, if_pos q]
      show gX0_luck_45 N a (nI n) K M (nI (yLu φ l a k) + nI 1) (nI k + 1) ν1 = _
      rw [nI_add, add1]
    · rw [if_neg q, if_neg q]
      show gX0_luck_45 N a (nI n) K M (nI (yLu φ l a k) + nI 0) (nI k + 1) ν1 = _
      rw [nI_add, add1]
theorem ym_luck_loop {φ : Nat → Nat → Nat} (O : yOk φ) (G : yGo φ) {N : Nat} (hN : 1000 ≤ N) {l : List Nat} (hL : l.length ≤ 400) {ρ : ySt} (r : yRun φ (yLay φ (φ 0 6)) l = some ρ) (a : Int32) {n : Nat} (hn : n ≤ 20) (K : Int32 → wMem → Option (Int32 × wMem)) : ∀ (d M k : Nat) (ν : wMem), d < M → k + d = n → yFM φ 0 ν → yRl l ν →
    ∃ ν1, gX6_luck_52 N a (nI n) K M (nI (yLu φ l a k)) (nI k) ν = K (nI (yLu φ l a n)) ν1 ∧ yKM ν ν1 := by
  intro d
  induction d with
  | zero =>
    intro M k ν hM hk F Q
    obtain ⟨M, rfl⟩ : ∃ q, M = q + 1 := ⟨M - 1, by omega⟩
    have : k = n := by omega
    subst this
    refine ⟨ν, ?_, yKM.rfl' _⟩
    show gbX6_luck_52 N _ _ _ _ _ _ _ = _
    unfold gbX6_luck_52
    rw [yIf (xI_le (a := k) (b := k) (by omega) (by omega)), if_pos (Nat.le_refl _)]
  | succ d ih =>
    intro M k ν hM hk F Q
    obtain ⟨M, rfl⟩ : ∃ q, M = q + 1 := ⟨M - 1, by omega⟩
    obtain ⟨ν1, j1, j2, j3, j4⟩ := ym_trip O G hN F Q hL r (a.toInt64 + (nI k).toInt64)
    obtain ⟨ν2, i1, i2⟩ := ih M (k + 1) ν1 (by omega) (by omega) (j3.fm F) j4
    refine ⟨ν2, ?_, j3.trans i2⟩
    have add1 : nI k + (1 : Int32) = nI (k + 1) := nI_add k 1
    refine Eq.trans ?_ i1
    show gbX6_luck_52 N _ _ _ _ _ _ _ = gX6_luck_52 N a (nI n) K M (nI (yLu φ l a k + (if (yTr φ l (a.toInt64 + (nI k).toInt64) 0 (yLay φ (φ 0 6))).1 = -1 then 1 else 0))) _ _
    unfold gbX6_luck_52
    rw [yIf (xI_le (a := n) (b := k) (by omega) (by omega)), if_neg (by omega), j1, yBd, yWL]
    by_cases q : (yTr φ l (a.toInt64 + (nI k).toInt64) 0 (yLay φ (φ 0 6))).1 = -1
    · rw [if_pos q, if_pos q]
      show gX6_luck_52 N a (nI n) K M (nI (yLu φ l a k) + nI 1) (nI k + 1) ν1 = _
      rw [nI_add, add1]
    · rw [if_neg q, if_neg q]
      show gX6_luck_52 N a (nI n) K M (nI (yLu φ l a k) + nI 0) (nI k + 1) ν1 = _
      rw [nI_add, add1]
theorem yq_luck {φ : Nat → Nat → Nat} {μ μm : wMem} (W : yBnd) (O : yOk φ) (hl : φ 0 1 ≠ 0 → 0 < φ 0 0) (G : yGo φ) (F : yFC φ μ) (M : yFM φ 0 μm) (Q : ySn μm) {N : Nat} (hN : 200000000000000 ≤ N) (a1 a2 : Int32) : yBt3 (fX0_luck N a1 a2) (fX6_luck N a1 a2) μ μm := by
  have M1 := (yKM_0 μm 0).fm M
  by_cases g : φ 0 1 ≠ 0
  · by_cases sd : (0 : Int64).toInt ≤ a1.toInt ∧ a1.toInt ≤ (2000000000 : Int64).toInt
    · by_cases w : (1 : Int64).toInt ≤ a2.toInt ∧ a2.toInt ≤ (20 : Int64).toInt
      · obtain ⟨n, hn, e⟩ : ∃ n, n ≤ 20 ∧ a2 = nI n := by
          have h1 := w.1
          have h2 := w.2
          rw [show (1 : Int64).toInt = 1 by decide] at h1
          rw [show (20 : Int64).toInt = 20 by decide] at h2
          refine ⟨a2.toInt.toNat, by omega, ?_⟩
          apply Int32.toInt_inj.mp
          rw [nI_toInt (by omega)]
          omega
        obtain ⟨ρ, k1, r1⟩ := yc_marked W O (hl g) G F (N := N) (by omega) (b := 1) (by decide)
        obtain ⟨νm, k2, q2, r2⟩ := ym_isRow W O (hl g) G M Q hN (b := 1) (by decide)
        rcases r2 with ⟨no, e2⟩ | ⟨l, y1, ho, len, ⟨ρe, run⟩, e2, rl⟩
        · rcases r1 with ⟨_, ho, _⟩ | ⟨e1, _⟩
          · exact absurd ho no
          · refine yBt3.mk' (v := -2) (μ1 := ρ) ?_ ?_ k1 k2 q2
            · unfold fX0_luck
              rw [yc_isFamily O F, yBd, yWL, yB1 g, yc_seed, yBd, yB1 sd, yc_rng, yBd, yB1 w]
              refine Eq.trans (congrArg (fun z => wBind z _) e1) ?_
              rw [yBd, if_pos rfl]
            · unfold fX6_luck
              rw [yWL, ym_isFamily O M1, yBd, yWL, yB1 g, ym_rng, yBd, yB1 sd, ym_rng, yBd, yB1 w]
              refine Eq.trans (congrArg (fun z => wBind z _) e2) ?_
              rw [yBd, if_pos rfl]
        · rcases r1 with ⟨e1, _, F2, l2, y2, len2, rd⟩ | ⟨_, no⟩
          · have el := yRow.uniq l2 l _ y2 y1
            subst el
            obtain ⟨ν1, j1, j2⟩ := yc_luck_loop O G (N := N) (by omega) F2 len2 rd a1 hn (fun (x28 : Int32) (μ27 : wMem) => some (x28, μ27)) n N 0 _ (by omega) (by omega) (yKv_put ρ (yLay φ (φ 0 6)))
            obtain ⟨ν2, m1, m2⟩ := ym_luck_loop O G (N := N) (by omega) len run a1 hn (fun (x30 : Int32) (μ29 : wMem) => some (x30, μ29)) n N 0 νm (by omega) (by omega) (k2.fm M) rl
            refine yBt3.mk' (v := nI (yLu φ l2 a1 n)) (μ1 := ν1) (μm1 := ν2) ?_ ?_ ((k1.trans (yKC_put _ _)).trans j2) (k2.trans m2.kn) (ySn_km q2 m2)
            · unfold fX0_luck
              rw [yc_isFamily O F, yBd, yWL, yB1 g, yc_seed, yBd, yB1 sd, yc_rng, yBd, yB1 w]
              refine Eq.trans (congrArg (fun z => wBind z _) e1) ?_
              rw [yBd, if_neg (by decide), e]
              exact j1
            · unfold fX6_luck
              rw [yWL, ym_isFamily O M1, yBd, yWL, yB1 g, ym_rng, yBd, yB1 sd, ym_rng, yBd, yB1 w]
              refine Eq.trans (congrArg (fun z => wBind z _) e2) ?_
              rw [yBd, if_neg (by decide), e]
              exact m1
          · exact absurd ho no
      · refine yBt3.mk' (v := -2) (μ1 := μ) (μm1 := wSI μm 0 0 0) ?_ ?_ (yKC.rfl' _) (yKM_0 _ _).kn (ySn_km Q (yKM_0 _ _))
        · unfold fX0_luck
          rw [yc_isFamily O F, yBd, yWL, yB1 g, yc_seed, yBd, yB1 sd, yc_rng, yBd, yB2 w]
        · unfold fX6_luck
          rw [yWL, ym_isFamily O M1, yBd, yWL, yB1 g, ym_rng, yBd, yB1 sd, ym_rng, yBd, yB2 w]
    · refine yBt3.mk' (v := -2) (μ1 := μ) (μm1 := wSI μm 0 0 0) ?_ ?_ (yKC.rfl' _) (yKM_0 _ _).kn (ySn_km Q (yKM_0 _ _))
      · unfold fX0_luck
        rw [yc_isFamily O F, yBd, yWL, yB1 g, yc_seed, yBd, yB2 sd]
      · unfold fX6_luck
        rw [yWL, ym_isFamily O M1, yBd, yWL, yB1 g, ym_rng, yBd, yB2 sd]
  · refine yBt3.mk' (v := -2) (μ1 := μ) (μm1 := wSI μm 0 0 0) ?_ ?_ (yKC.rfl' _) (yKM_0 _ _).kn (ySn_km Q (yKM_0 _ _))
    · unfold fX0_luck
      rw [yc_isFamily O F, yBd, yWL, yB2 g]
    · unfold fX6_luck
      rw [yWL, ym_isFamily O M1, yBd, yWL, yB2 g]
