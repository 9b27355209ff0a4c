set_option maxRecDepth 100000
/-! part 997: the component's heap: swaps -/
/-- the first m of the heap are the states h 0 .., each knows its place -/
def yHp (m : Nat) (h : Nat → Nat) (μ : wMem) : Prop := m ≤ 100352 ∧ ∀ i, i < m → μ.1 11 i = nI (h i) ∧ h i < 100352 ∧ μ.1 12 (h i) = nI i
theorem yHp.inj' {m : Nat} {h : Nat → Nat} {μ : wMem} (H : yHp m h μ) {a b : Nat} (ha : a < m) (hb : b < m) (e : h a = h b) : a = b := by
  obtain ⟨hm, H⟩ := H
  have h1 := (H a ha).2.2
  have h2 := (H b hb).2.2
  rw [e, h2] at h1
  exact ((nI_eq (by omega) (by omega)).mp h1).symm
def ySwp (h : Nat → Nat) (i j : Nat) : Nat → Nat := fun k => if k = i then h j else if k = j then h i else h k
theorem ySwp_i (h : Nat → Nat) (i j : Nat) : ySwp h i j i = h j := by unfold ySwp; rw [if_pos rfl]
theorem ySwp_j (h : Nat → Nat) (i j : Nat) : ySwp h i j j = h i := by
  unfold ySwp
  by_cases e : j = i
  · rw [if_pos e, e]
  · rw [if_neg e, if_pos rfl]
theorem ySwp_o (h : Nat → Nat) {i j k : Nat} (h1 : k ≠ i) (h2 : k ≠ j) : ySwp h i j k = h k := by unfold ySwp; rw [if_neg h1, if_neg h2]
/-- all but heap and places is as it was -/
def yKH (μ ν : wMem) : Prop := ∀ c i, c ≠ 11 → c ≠ 12 → ν.1 c i = μ.1 c i
theorem yc_swaps {m : Nat} {h : Nat → Nat} {μ : wMem} (H : yHp m h μ) (N : Nat) {i j : Nat} (hi : i < m) (hj : j < m) :
    ∃ ν, fX0_swaps N (nI i) (nI j) μ = some ν ∧ yHp m (ySwp h i j) ν ∧ yKH μ ν ∧ ν.2 = μ.2 := by
  obtain ⟨hm, H'⟩ := H
  obtain ⟨a1, a2, a3⟩ := H' i hi
  obtain ⟨b1, b2, b3⟩ := H' j hj
  have e1 : (wSI (wSI μ 11 i (nI (h j))) 11 j (nI (h i))).1 11 i = nI (h j) := by
    rw [yS_get]
    by_cases e : i = j
    · subst e; rw [if_pos ⟨rfl, rfl⟩]
    · rw [if_neg (fun q => e q.2), yS_get, if_pos ⟨rfl, rfl⟩]
  have e2 : ∀ v, (wSI (wSI (wSI μ 11 i (nI (h j))) 11 j (nI (h i))) 12 (h j) v).1 11 j = nI (h i) := fun v => by
    rw [yS_get, if_neg (by omega), yS_get, if_pos ⟨rfl, rfl⟩]
  refine ⟨wSI (wSI (wSI (wSI μ 11 i (nI (h j))) 11 j (nI (h i))) 12 (h j) (nI i)) 12 (h i) (nI j), ?_, ⟨hm, fun k hk => ?_⟩, fun c x c1 c2 => ?_, rfl⟩
  · unfold fX0_swaps wLet
    dsimp only
    rw [yG (xI_in (by omega) (by omega)), yG (xI_in (by omega) (by omega)), yG (xI_in (by omega) (by omega)), yG (xI_in (by omega) (by omega)), yG (xI_in (by omega) (by omega)), yG (xI_in (by omega) (by omega)), xI_cl (by omega), xI_cl (by omega), a1, b1, e1,
      yG (xI_in (by omega) (by omega)), xI_cl (by omega), e2, yG (xI_in (by omega) (by omega)), xI_cl (by omega)]
  · obtain ⟨k1, k2, k3⟩ := H' k hk
    have inj : ∀ x y, x < m → y < m → h x = h y → x = y := fun x y hx hy e => yHp.inj' ⟨hm, H'⟩ hx hy e
    have g11 : (wSI (wSI (wSI (wSI μ 11 i (nI (h j))) 11 j (nI (h i))) 12 (h j) (nI i)) 12 (h i) (nI j)).1 11 k = nI (ySwp h i j k) := by
      rw [yS_get, if_neg (by omega), yS_get, if_neg (by omega), yS_get]
      by_cases q1 : k = j
      · rw [if_pos ⟨rfl, q1⟩, q1, ySwp_j]
      · rw [if_neg (fun q => q1 q.2), yS_get]
        by_cases q2 : k = i
        · rw [if_pos ⟨rfl, q2⟩, q2, ySwp_i]
        · rw [if_neg (fun q => q2 q.2), ySwp_o h q2 q1]; exact k1
    refine ⟨g11, ?_, ?_⟩
    · unfold ySwp
      repeat' split
      · exact b2
      · exact a2
      · exact k2
    · rw [yS_get]
      by_cases q1 : k = j
      · rw [q1, ySwp_j, if_pos ⟨rfl, rfl⟩]
      · by_cases q2 : k = i
        · rw [q2, ySwp_i]
          rw [if_neg (fun q => by have := inj j i hj hi q.2; omega), yS_get, if_pos ⟨rfl, rfl⟩]
        · rw [ySwp_o h q2 q1, if_neg (fun q => by have := inj k i hk hi q.2; omega), yS_get, if_neg (fun q => by have := inj k j hk hj q.2; omega), yS_get, if_neg (by omega), yS_get, if_neg (by omega)]
          exact k3
  · rw [yS_get, if_neg (fun q => c2 q.1), yS_get, if_neg (fun q => c2 q.1), yS_get, if_neg (fun q => c1 q.1), yS_get, if_neg (fun q => c1 q.1)]
