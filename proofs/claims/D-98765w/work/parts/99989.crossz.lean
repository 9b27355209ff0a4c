set_option maxRecDepth 100000
/-! part 99989: the twin's crosses from a scene of stamps: its side and its marks are anything -/
theorem ym_marks_any (N : Nat) (a : Int32) (μ : wMem) : ∃ x, fX6_marks N a μ = some (wSI μ 0 27 x) := by
  unfold fX6_marks
  simp only [wLet]
  repeat' split
  all_goals exact ⟨_, rfl⟩
theorem yTut_a24 (μ : wMem) (τ : ySt) (v : Int32) : wSI (yTut μ τ) 0 24 v = yTut μ (ySt.of τ.ov v.toBitVec.toNat τ.z0 τ.z1 τ.mk) := by
  rw [← yTut_s24, nI_sur]
theorem yTut_a27 (μ : wMem) (τ : ySt) (v : Int32) : wSI (yTut μ τ) 0 27 v = yTut μ (ySt.of τ.ov τ.sd τ.z0 τ.z1 v.toBitVec.toNat) := by
  rw [← yTut_s27, nI_sur]
theorem ym_crossMidz {φ : Nat → Nat → Nat} {μ : wMem} (O : yOk φ) (F : yFM φ 0 μ) (N : Nat) {p k : Nat} (hp : p < φ 0 2) (hk : k < φ 0 3) (τ : ySt) (v : Int32) : ∃ s m,
    wBindV (fX6_marks N v (wSI (yTut μ τ) 0 24 ((1 : Int32) - v))) (fun μ8 => (wG (ok_in (1 : Int32) 35) (wLet (fun (v11 : Int32) (μ10 : wMem) => wLet (fun (μ12 : wMem) => wG (ok_in (3 : Int32) 35) (if (μ12.1 7 (Int32.toNatClampNeg (3 : Int32))) ≤ (1 : Int32) then some μ12 else wLet (fun (μ15 : wMem) => wLet (wSI μ15 0 26 (nI p + (1 : Int32))) fun μ16 => some μ16) fun Jcrosses103 => if nI k = (1 : Int32) then Jcrosses103 μ12 else if v11 = 0 then some μ12 else Jcrosses103 μ12)) fun Jcrosses83 => wLet (fun (μ19 : wMem) => wLet (wSI μ19 0 25 (nI p + (1 : Int32))) fun μ20 => Jcrosses83 μ20) fun Jcrosses76 => if nI k = 0 then Jcrosses76 μ10 else if v11 = 0 then Jcrosses83 μ10 else Jcrosses76 μ10) fun Jcrosses65 => if (μ8.1 7 (Int32.toNatClampNeg (1 : Int32))) = (1 : Int32) then Jcrosses65 1 μ8 else Jcrosses65 0 μ8))) =
    some (yTut μ (ySt.of τ.ov s (if k = 0 ∨ φ 0 7 ≠ 0 then p + 1 else τ.z0) (if φ 0 3 ≤ 1 then τ.z1 else if k = 1 ∨ φ 0 7 ≠ 0 then p + 1 else τ.z1) m)) := by
  rw [yTut_a24]
  obtain ⟨x, hx⟩ := ym_marks_any N v (yTut μ (ySt.of τ.ov ((1 : Int32) - v).toBitVec.toNat τ.z0 τ.z1 τ.mk))
  rw [hx, yBV, yTut_a27]
  exact ⟨_, _, ym_crossTail O F hp hk⟩
def yCz (φ : Nat → Nat → Nat) (κ p c k : Nat) : Nat := yKzc (ySt.of ((κ / 49) ^^^ (2 ^ p ||| (if c = 0 then 0 else 2 ^ (c - 1)))) 0 (if k = 0 ∨ φ 0 7 ≠ 0 then p + 1 else κ / 7 % 7) (if φ 0 3 ≤ 1 then κ % 7 else if k = 1 ∨ φ 0 7 ≠ 0 then p + 1 else κ % 7) 0)
/-- the twin's memory at a scene: side and marks s, m are anything -/
def yU (μ : wMem) (κ s m : Nat) : wMem := yTut μ (ySt.of (κ / 49) s (κ / 7 % 7) (κ % 7) m)
theorem ym_crossz {φ : Nat → Nat → Nat} {μ : wMem} (O : yOk φ) (F : yFM φ 0 μ) (N : Nat) {p c k : Nat} (hp : p < φ 0 2) (hc : c ≤ φ 0 2) (hk : k < φ 0 3) (hpc : c ≠ 0 → p ≠ c - 1) (κ s m : Nat) :
    ∃ s1 m1, fX6_crosses N (nI p) (nI c - 1) (nI k) (yU μ κ s m) = some (yU μ (yCz φ κ p c k) s1 m1) := by
  have h6 := O.persons
  have p1 : (1 : Int32) <<< (nI p &&& 31) = nI (2 ^ p) := xI_pow _ (by omega)
  have e23 : (yU μ κ s m).1 0 23 = nI (κ / 49) := yTut_23 μ _
  have zz : (if k = 0 ∨ φ 0 7 ≠ 0 then p + 1 else κ / 7 % 7) ≤ 6 ∧ (if φ 0 3 ≤ 1 then κ % 7 else if k = 1 ∨ φ 0 7 ≠ 0 then p + 1 else κ % 7) ≤ 6 := by
    constructor
    · split <;> omega
    · split
      · omega
      · split <;> omega
  obtain ⟨d1, d2, d3⟩ := yKzc_dec (σ := ySt.of ((κ / 49) ^^^ (2 ^ p ||| (if c = 0 then 0 else 2 ^ (c - 1)))) 0 (if k = 0 ∨ φ 0 7 ≠ 0 then p + 1 else κ / 7 % 7) (if φ 0 3 ≤ 1 then κ % 7 else if k = 1 ∨ φ 0 7 ≠ 0 then p + 1 else κ % 7) 0) zz.1 zz.2
  have fin : ∀ s1 m1, yU μ (yCz φ κ p c k) s1 m1 = yTut μ (ySt.of ((κ / 49) ^^^ (2 ^ p ||| (if c = 0 then 0 else 2 ^ (c - 1)))) s1 (if k = 0 ∨ φ 0 7 ≠ 0 then p + 1 else κ / 7 % 7) (if φ 0 3 ≤ 1 then κ % 7 else if k = 1 ∨ φ 0 7 ≠ 0 then p + 1 else κ % 7) m1) := fun s1 m1 => by
    unfold yU yCz
    rw [d1, d2, d3]
    rfl
  unfold fX6_crosses fX6_sideOf
  rw [yBd]
  generalize (((yU μ κ s m).1 0 23) >>> (nI p &&& 31)) &&& (1 : Int32) = v
  rw [e23, p1, xI_xor]
  have w1 : wSI (yU μ κ s m) 0 23 (nI (κ / 49 ^^^ 2 ^ p)) = yTut μ (ySt.of (κ / 49 ^^^ 2 ^ p) s (κ / 7 % 7) (κ % 7) m) := yTut_s23 μ _ _
  rw [w1]
  by_cases g : c = 0
  · obtain ⟨s1, m1, T⟩ := ym_crossMidz O F N hp hk (ySt.of (κ / 49 ^^^ 2 ^ p) s (κ / 7 % 7) (κ % 7) m) v
    refine ⟨s1, m1, ?_⟩
    rw [fin]
    show (if nI c - 1 = (-1 : Int32) then _ else _) = _
    rw [yIf (xI_m1 (by omega)), if_pos g, if_pos g, Nat.or_zero]
    exact T
  · have p2 : (1 : Int32) <<< (nI (c - 1) &&& 31) = nI (2 ^ (c - 1)) := xI_pow _ (by omega)
    obtain ⟨s1, m1, T⟩ := ym_crossMidz O F N hp hk (ySt.of (κ / 49 ^^^ 2 ^ p ^^^ 2 ^ (c - 1)) s (κ / 7 % 7) (κ % 7) m) v
    refine ⟨s1, m1, ?_⟩
    rw [fin]
    show (if nI c - 1 = (-1 : Int32) then _ else _) = _
    have e2 : (yTut μ (ySt.of (κ / 49 ^^^ 2 ^ p) s (κ / 7 % 7) (κ % 7) m)).1 0 23 = nI (κ / 49 ^^^ 2 ^ p) := yTut_23 μ _
    rw [yIf (xI_m1 (by omega)), if_neg g, if_neg g, xI_pred (by omega), e2, p2, xI_xor, yTut_s23, yXorOr p (by omega) (c - 1) (by omega) (hpc g), ← Nat.xor_assoc]
    exact T
