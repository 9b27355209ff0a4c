set_option maxRecDepth 100000
/-! part 88: the twin's marks, crosses, does, numberOf, begin, riskOf -/
def yV (v5 x3 w : Int32) : Int32 := (((1 : Int32) <<< (v5 &&& 31)) - (1 : Int32)) + (((x3 <<< ((1 : Int32) &&& 31)) ||| w) &&& (((1 : Int32) <<< (v5 &&& 31)) - (1 : Int32)))
theorem ym_mkv : ∀ m, m < 16 → 0 < m → ∀ w, w < 2 → yV (if (3 : Int32) ≤ nI (yMany m) then 3 else nI (yMany m) + 1) (nI (m - 1) - ((1 : Int32) <<< (nI (yMany m) &&& 31)) + 1) (nI w) = nI (yMk m w - 1) := by decide +kernel
theorem ym_marks {φ : Nat → Nat → Nat} {μ : wMem} {τ : ySt} {m : Nat} (hm0 : 0 < m) (hm : m < 16) (ht : τ.mk = m - 1) (N : Nat) {w : Nat} (hw : w < 2) :
    fX6_marks N (nI w) (yTut μ τ) = some (yTut μ (ySt.of τ.ov τ.sd τ.z0 τ.z1 (yMk m w - 1))) := by
  unfold fX6_marks wLet
  dsimp only
  have ev : ∀ v5 x3 : Int32, (((1 : Int32) <<< (v5 &&& 31)) - (1 : Int32)) + (((x3 <<< ((1 : Int32) &&& 31)) ||| nI w) &&& (((1 : Int32) <<< (v5 &&& 31)) - (1 : Int32))) = yV v5 x3 (nI w) := fun _ _ => rfl
  simp only [ev]
  generalize hV : yV = V at *
  rw [yTut_27, ht]
  refine (ym_many hm0 hm (fun v2 μ1 => if (3 : Int32) ≤ v2 then some (wSI μ1 0 27 (V 3 (nI (m - 1) - 1 <<< (v2 &&& 31) + 1) (nI w))) else some (wSI μ1 0 27 (V (v2 + 1) (nI (m - 1) - 1 <<< (v2 &&& 31) + 1) (nI w)))) (yTut μ τ)).trans ?_
  have key := ym_mkv m hm hm0 w hw
  rw [hV] at key
  by_cases g : (3 : Int32) ≤ nI (yMany m)
  · rw [if_pos g] at key
    rw [if_pos g, key, yTut_s27]
  · rw [if_neg g] at key
    rw [if_neg g, key, yTut_s27]
theorem yXorOr : ∀ p, p < 6 → ∀ q, q < 6 → p ≠ q → 2 ^ p ||| 2 ^ q = 2 ^ p ^^^ 2 ^ q := by decide +kernel
theorem yTut_eq (μ : wMem) {σ τ : ySt} (h0 : σ.ov = τ.ov) (h1 : σ.sd = τ.sd) (h2 : σ.z0 = τ.z0) (h3 : σ.z1 = τ.z1) (h4 : σ.mk = τ.mk) : yTut μ σ = yTut μ τ := by
  unfold yTut
  rw [h0, h1, h2, h3, h4]
theorem ym_crossTail {φ : Nat → Nat → Nat} {μ : wMem} {τ : ySt} (O : yOk φ) (F : yFM φ 0 μ) {p k : Nat} (hp : p < φ 0 2) (hk : k < φ 0 3) :
    (wG (ok_in (1 : Int32) 35) (wLet (fun (v11 : Int32) (μ10 : wMem) => wLet (fun (μ12 : wMem) => wG (ok_in (3 : Int32) 35) (if (μ12.1 7 (Int32.toNatClampNeg (3 : Int32))) ≤ (1 : Int32) then some μ12 else wLet (fun (μ15 : wMem) => wLet (wSI μ15 0 26 (nI p + (1 : Int32))) fun μ16 => some μ16) fun Jcrosses103 => if nI k = (1 : Int32) then Jcrosses103 μ12 else if v11 = 0 then some μ12 else Jcrosses103 μ12)) fun Jcrosses83 => wLet (fun (μ19 : wMem) => wLet (wSI μ19 0 25 (nI p + (1 : Int32))) fun μ20 => Jcrosses83 μ20) fun Jcrosses76 => if nI k = 0 then Jcrosses76 μ10 else if v11 = 0 then Jcrosses83 μ10 else Jcrosses76 μ10) fun Jcrosses65 => if ((yTut μ τ).1 7 (Int32.toNatClampNeg (1 : Int32))) = (1 : Int32) then Jcrosses65 1 (yTut μ τ) else Jcrosses65 0 (yTut μ τ))) =
    some (yTut μ (ySt.of τ.ov τ.sd (if k = 0 ∨ φ 0 7 ≠ 0 then p + 1 else τ.z0) (if φ 0 3 ≤ 1 then τ.z1 else if k = 1 ∨ φ 0 7 ≠ 0 then p + 1 else τ.z1) τ.mk)) := by
  have h2 := O.posts
  have h6 := O.persons
  have h7 := O.compares
  have e1 : nI p + (1 : Int32) = nI (p + 1) := nI_add p 1
  have c1 : (yTut μ τ).1 7 (Int32.toNatClampNeg (1 : Int32)) = nI (φ 0 7) := by rw [yTut_c μ _ (by decide)]; exact F.compares
  have c3 : ∀ τ : ySt, (yTut μ τ).1 7 (Int32.toNatClampNeg (3 : Int32)) = nI (φ 0 3) := fun τ => by rw [yTut_c μ _ (by decide)]; exact F.posts
  have l3 : (nI (φ 0 3) ≤ (1 : Int32)) = (φ 0 3 ≤ 1) := xI_le (b := 1) (by omega) (by decide)
  have z10 : ((1 : Int32) = 0) = False := by simp
  have z00 : ((0 : Int32) = 0) = True := by simp
  have tail : ∀ (b : Nat) (ρ : ySt), b < 2 → (wG (ok_in (3 : Int32) 35) (if ((yTut μ ρ).1 7 (Int32.toNatClampNeg (3 : Int32))) ≤ (1 : Int32) then some (yTut μ ρ) else if nI k = (1 : Int32) then some (wSI (yTut μ ρ) 0 26 (nI p + (1 : Int32))) else if nI b = 0 then some (yTut μ ρ) else some (wSI (yTut μ ρ) 0 26 (nI p + (1 : Int32))))) = some (yTut μ (ySt.of ρ.ov ρ.sd ρ.z0 (if φ 0 3 ≤ 1 then ρ.z1 else if k = 1 ∨ b ≠ 0 then p + 1 else ρ.z1) ρ.mk)) := by
    intro b ρ hb
    rw [yG (show ok_in (3 : Int32) 35 = true by decide), c3, yIf l3, yIf (xI_e1 (by omega)), yIf (xI_e0 (by omega)), e1, yTut_s26]
    by_cases g1 : φ 0 3 ≤ 1
    · simp only [g1, if_true]; rfl
    · by_cases g2 : k = 1
      · simp only [g1, g2, if_true, if_false, true_or]
      · by_cases g3 : b = 0
        · simp only [g1, g2, g3, if_true, if_false, false_or, ne_eq, not_true_eq_false]; rfl
        · simp only [g1, g2, g3, if_true, if_false, false_or, ne_eq, not_false_eq_true]
  have mid : ∀ (b : Nat), b < 2 → (if nI k = 0 then (fun (μ19 : wMem) => (wG (ok_in (3 : Int32) 35) (if ((wSI μ19 0 25 (nI p + 1)).1 7 (Int32.toNatClampNeg (3 : Int32))) ≤ (1 : Int32) then some (wSI μ19 0 25 (nI p + 1)) else if nI k = (1 : Int32) then some (wSI (wSI μ19 0 25 (nI p + 1)) 0 26 (nI p + (1 : Int32))) else if nI b = 0 then some (wSI μ19 0 25 (nI p + 1)) else some (wSI (wSI μ19 0 25 (nI p + 1)) 0 26 (nI p + (1 : Int32)))))) (yTut μ τ) else if nI b = 0 then (wG (ok_in (3 : Int32) 35) (if ((yTut μ τ).1 7 (Int32.toNatClampNeg (3 : Int32))) ≤ (1 : Int32) then some (yTut μ τ) else if nI k = (1 : Int32) then some (wSI (yTut μ τ) 0 26 (nI p + (1 : Int32))) else if nI b = 0 then some (yTut μ τ) else some (wSI (yTut μ τ) 0 26 (nI p + (1 : Int32))))) else (fun (μ19 : wMem) => (wG (ok_in (3 : Int32) 35) (if ((wSI μ19 0 25 (nI p + 1)).1 7 (Int32.toNatClampNeg (3 : Int32))) ≤ (1 : Int32) then some (wSI μ19 0 25 (nI p + 1)) else if nI k = (1 : Int32) then some (wSI (wSI μ19 0 25 (nI p + 1)) 0 26 (nI p + (1 : Int32))) else if nI b = 0 then some (wSI μ19 0 25 (nI p + 1)) else some (wSI (wSI μ19 0 25 (nI p + 1)) 0 26 (nI p + (1 : Int32)))))) (yTut μ τ)) =
      some (yTut μ (ySt.of τ.ov τ.sd (if k = 0 ∨ b ≠ 0 then p + 1 else τ.z0) (if φ 0 3 ≤ 1 then τ.z1 else if k = 1 ∨ b ≠ 0 then p + 1 else τ.z1) τ.mk)) := by
    intro b hb
    have q : wSI (yTut μ τ) 0 25 (nI p + 1) = yTut μ (ySt.of τ.ov τ.sd (p + 1) τ.z1 τ.mk) := by rw [e1, yTut_s25]
    dsimp only
    rw [q, tail b _ hb, tail b _ hb, yIf (xI_e0 (by omega)), yIf (xI_e0 (by omega))]
    by_cases g2 : k = 0
    · simp only [g2, if_true, true_or]; rfl
    · by_cases g3 : b = 0
      · simp only [g2, g3, if_true, if_false, false_or, ne_eq, not_true_eq_false]
      · simp only [g2, g3, if_true, if_false, false_or, ne_eq, not_false_eq_true]; rfl
  rw [yG (show ok_in (1 : Int32) 35 = true by decide)]
  unfold wLet
  dsimp only
  rw [c1, yIf (xI_e1 (by omega))]
  by_cases g : φ 0 7 = 1
  · rw [if_pos g]
    refine (mid 1 (by decide)).trans ?_
    simp [g]
  · rw [if_neg g]
    have g0 : φ 0 7 = 0 := by omega
    refine (mid 0 (by decide)).trans ?_
    simp [g0]
