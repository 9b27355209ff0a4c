set_option maxRecDepth 100000
/-! part 96: after -/
def yAf (φ : Nat → Nat → Nat) (z k : Nat) : Nat → Nat
  | 0 => 0
  | p + 1 => yAf φ z k p ||| (if yBit (φ 0 4) p = 1 then 0 else if yBeh φ z p k = false then 0 else 2 ^ p)
theorem yc_after_loop {φ : Nat → Nat → Nat} {μ : wMem} (O : yOk φ) (F : yFC φ μ) (N : Nat) {z k : Nat} (hz : z ≤ φ 0 2) (hk : k < φ 0 3) (K : Int32 → wMem → Option (Int32 × wMem)) : ∀ (n M p : Nat), n < M → p + n = φ 0 2 →
    gX0_after_24 N (nI z - 1) (nI k) K M (nI (yAf φ z k p)) (nI p) μ = K (nI (yAf φ z k (φ 0 2))) μ := by
  have h6 := O.persons
  have hch := O.children
  intro n
  induction n with
  | zero =>
    intro M p hM hp
    obtain ⟨M, rfl⟩ : ∃ q, M = q + 1 := ⟨M - 1, by omega⟩
    show gbX0_after_24 N _ _ K _ _ _ μ = _
    unfold gbX0_after_24
    rw [F.fld 2 (by decide), yIf (xI_le (by omega) (by omega)), if_pos (by omega)]
    have : p = φ 0 2 := by omega
    rw [this]
  | succ n ih =>
    intro M p hM hp
    obtain ⟨M, rfl⟩ : ∃ q, M = q + 1 := ⟨M - 1, by omega⟩
    show gbX0_after_24 N _ _ K _ _ _ μ = _
    unfold gbX0_after_24 wLet
    dsimp only
    have ei : nI p + (1 : Int32) = nI (p + 1) := nI_add p 1
    have p1 : (1 : Int32) <<< (nI p &&& 31) = nI (2 ^ p) := xI_pow _ (by omega)
    have nx := ih M (p + 1) (by omega) (by omega)
    have c : yAf φ z k (p + 1) = yAf φ z k p ||| (if yBit (φ 0 4) p = 1 then 0 else if yBeh φ z p k = false then 0 else 2 ^ p) := rfl
    have o0 : nI (yAf φ z k p) ||| (0 : Int32) = nI (yAf φ z k p ||| 0) := xI_or _ 0
    rw [F.fld 2 (by decide), yIf (xI_le (by omega) (by omega)), if_neg (by omega), F.fld 4 (by decide), yc_has (by omega) (by omega), yBd]
    by_cases g : yBit (φ 0 4) p = 1
    · rw [if_pos g] at c
      rw [yB1 g, o0, ei, ← c]
      exact nx
    · rw [if_neg g] at c
      rw [yB2 g, yc_mayBehind O F N hz (by omega) hk, yBd, yIf (yB_0 _)]
      by_cases g2 : yBeh φ z p k = false
      · rw [if_pos g2] at c
        rw [if_pos g2, o0, ei, ← c]
        exact nx
      · rw [if_neg g2] at c
        rw [if_neg g2, p1, xI_or, ei, ← c]
        exact nx
theorem ym_after_loop {φ : Nat → Nat → Nat} {μ : wMem} (O : yOk φ) (F : yFM φ 0 μ) (N : Nat) {z k : Nat} (hz : z ≤ φ 0 2) (hk : k < φ 0 3) (K : Int32 → wMem → Option (Int32 × wMem)) : ∀ (n M p : Nat), n < M → p + n = φ 0 2 →
    gX6_after_34 N (nI z - 1) (nI k) K M (nI (yAf φ z k p)) (nI p) μ = K (nI (yAf φ z k (φ 0 2))) μ := by
  have h6 := O.persons
  have hch := O.children
  have q2 : μ.1 7 (Int32.toNatClampNeg (2 : Int32)) = nI (φ 0 2) := F.persons
  have q4 : μ.1 7 (Int32.toNatClampNeg (4 : Int32)) = nI (φ 0 4) := F.children
  intro n
  induction n with
  | zero =>
    intro M p hM hp
    obtain ⟨M, rfl⟩ : ∃ q, M = q + 1 := ⟨M - 1, by omega⟩
    show gbX6_after_34 N _ _ K _ _ _ μ = _
    unfold gbX6_after_34
    rw [yG (show ok_in (2 : Int32) 35 = true by decide), q2, yIf (xI_le (by omega) (by omega)), if_pos (by omega)]
    have : p = φ 0 2 := by omega
    rw [this]
  | succ n ih =>
    intro M p hM hp
    obtain ⟨M, rfl⟩ : ∃ q, M = q + 1 := ⟨M - 1, by omega⟩
    show gbX6_after_34 N _ _ K _ _ _ μ = _
    unfold gbX6_after_34 wLet
    dsimp only
    have ei : nI p + (1 : Int32) = nI (p + 1) := nI_add p 1
    have p1 : (1 : Int32) <<< (nI p &&& 31) = nI (2 ^ p) := xI_pow _ (by omega)
    have nx := ih M (p + 1) (by omega) (by omega)
    have c : yAf φ z k (p + 1) = yAf φ z k p ||| (if yBit (φ 0 4) p = 1 then 0 else if yBeh φ z p k = false then 0 else 2 ^ p) := rfl
    have o0 : nI (yAf φ z k p) ||| (0 : Int32) = nI (yAf φ z k p ||| 0) := xI_or _ 0
    have ez : nI z - (1 : Int32) + (1 : Int32) = nI z := Int32.sub_add_cancel _ _
    rw [yG (show ok_in (2 : Int32) 35 = true by decide), q2, yIf (xI_le (by omega) (by omega)), if_neg (by omega), yG (show ok_in (4 : Int32) 35 = true by decide), q4, ym_bit (by omega) (by omega), yBd]
    by_cases g : yBit (φ 0 4) p = 1
    · rw [if_pos g] at c
      rw [yB1 g, o0, ei, ← c]
      exact nx
    · rw [if_neg g] at c
      rw [yB2 g, ez, ym_noses O F N hz (by omega) hk, yBd, yIf (yB_0 _)]
      by_cases g2 : yBeh φ z p k = false
      · rw [if_pos g2] at c
        rw [if_pos g2, o0, ei, ← c]
        exact nx
      · rw [if_neg g2] at c
        rw [if_neg g2, p1, xI_or, ei, ← c]
        exact nx
theorem yc_pn {φ : Nat → Nat → Nat} {μ : wMem} (O : yOk φ) (F : yFC φ μ) (N : Nat) (a : Int32) :
    (yPN a (φ 0 2) → fX0_isPersonOrNone N a μ = some (1, μ)) ∧ (¬ yPN a (φ 0 2) → fX0_isPersonOrNone N a μ = some (0, μ)) := by
  unfold fX0_isPersonOrNone wLet
  dsimp only
  by_cases g2 : a = -1
  · rw [if_pos g2]
    exact ⟨fun _ => rfl, fun h => absurd (Or.inl g2) h⟩
  · rw [if_neg g2, yc_isPerson O F, yBd]
    by_cases g4 : yIs a (φ 0 2)
    · rw [yB1 g4]
      exact ⟨fun _ => rfl, fun h => absurd (Or.inr g4) h⟩
    · rw [yB2 g4]
      exact ⟨fun h => (h.elim g2 g4).elim, fun _ => rfl⟩
theorem yq_after {φ : Nat → Nat → Nat} {μ μm : wMem} (O : yOk φ) (F : yFC φ μ) (M : yFM φ 0 μm) {N : Nat} (hN : 41 ≤ N) (a1 a2 : Int32) : yBth (fX0_after N a1 a2) (fX6_after N a1 a2) μ μm := by
  have h6 := O.persons
  have h2 := O.posts
  have M1 := (yKM_0 μm 0).fm M
  by_cases g : yPN a1 (φ 0 2)
  · by_cases g1 : yIs a2 (φ 0 3)
    · obtain ⟨z, hz, e1⟩ := g.of' (by omega)
      obtain ⟨k, hk, e2⟩ := yIs.of g1 (by omega)
      refine yBth.mk' (v := nI (yAf φ z k (φ 0 2))) (μ1 := μ) (μm1 := wSI μm 0 0 0) ?_ ?_ (yKC.rfl' _) (yKM_0 _ _)
      · unfold fX0_after wLet
        dsimp only
        rw [(yc_pn O F N a1).1 g, yBd, if_neg (show ¬ (1 : Int32) = 0 by decide), yc_isPost O F, yBd, yB1 g1, e1, e2]
        exact yc_after_loop O F N hz hk _ (φ 0 2) N 0 (by omega) (by omega)
      · have T : gX6_after_34 N a1 a2 (fun x27 μ26 => some (x27, μ26)) N 0 0 (wSI μm 0 0 0) = some (nI (yAf φ z k (φ 0 2)), wSI μm 0 0 0) := by
          rw [e1, e2]
          exact ym_after_loop O M1 N hz hk _ (φ 0 2) N 0 (by omega) (by omega)
        unfold fX6_after wLet
        dsimp only
        by_cases q : a1 = -1
        · rw [if_pos q, ym_isPost O M1, yBd, yB1 g1]
          exact T
        · have q2 : yIs a1 (φ 0 2) := g.resolve_left q
          rw [if_neg q, ym_isPerson O M1, yBd, yB1 q2, ym_isPost O M1, yBd, yB1 g1]
          exact T
    · refine yBth.mk' (v := -2) (μ1 := μ) (μm1 := wSI μm 0 0 0) ?_ ?_ (yKC.rfl' _) (yKM_0 _ _)
      · unfold fX0_after wLet
        dsimp only
        rw [(yc_pn O F N a1).1 g, yBd, if_neg (show ¬ (1 : Int32) = 0 by decide), yc_isPost O F, yBd, yB2 g1]
      · unfold fX6_after wLet
        dsimp only
        by_cases q : a1 = -1
        · rw [if_pos q, ym_isPost O M1, yBd, yB2 g1]
        · have q2 : yIs a1 (φ 0 2) := g.resolve_left q
          rw [if_neg q, ym_isPerson O M1, yBd, yB1 q2, ym_isPost O M1, yBd, yB2 g1]
  · refine yBth.mk' (v := -2) (μ1 := μ) (μm1 := wSI μm 0 0 0) ?_ ?_ (yKC.rfl' _) (yKM_0 _ _)
    · unfold fX0_after wLet
      dsimp only
      rw [(yc_pn O F N a1).2 g, yBd, if_pos rfl]
    · have q : ¬ a1 = -1 := fun h => g (Or.inl h)
      have q2 : ¬ yIs a1 (φ 0 2) := fun h => g (Or.inr h)
      unfold fX6_after wLet
      dsimp only
      rw [if_neg q, ym_isPerson O M1, yBd, yB2 q2]
