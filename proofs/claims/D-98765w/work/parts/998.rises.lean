set_option maxRecDepth 100000
/-! part 998: the component's heap: rises -/
/-- no one lies above a nearer one, but maybe at i -/
def yOrd (m : Nat) (f h : Nat → Nat) (i : Nat) : Prop := (∀ k, 0 < k → k < m → k ≠ i → f (h ((k - 1) / 2)) ≤ f (h k)) ∧ (0 < i → ∀ k, 0 < k → k < m → (k - 1) / 2 = i → f (h ((i - 1) / 2)) ≤ f (h k))
def yFull (m : Nat) (f h : Nat → Nat) : Prop := ∀ k, 0 < k → k < m → f (h ((k - 1) / 2)) ≤ f (h k)
/-- the same states in both -/
def ySame (m : Nat) (h g : Nat → Nat) : Prop := ∀ s, (∃ k, k < m ∧ h k = s) ↔ (∃ k, k < m ∧ g k = s)
theorem ySame_swp {m : Nat} (h : Nat → Nat) {i j : Nat} (hi : i < m) (hj : j < m) : ySame m h (ySwp h i j) := fun s => by
  constructor
  · rintro ⟨k, hk, e⟩
    by_cases q1 : k = i
    · exact ⟨j, hj, by rw [ySwp_j, ← q1, e]⟩
    · by_cases q2 : k = j
      · exact ⟨i, hi, by rw [ySwp_i, ← q2, e]⟩
      · exact ⟨k, hk, by rw [ySwp_o h q1 q2, e]⟩
  · rintro ⟨k, hk, e⟩
    unfold ySwp at e
    by_cases q1 : k = i
    · rw [if_pos q1] at e; exact ⟨j, hj, e⟩
    · rw [if_neg q1] at e
      by_cases q2 : k = j
      · rw [if_pos q2] at e; exact ⟨i, hi, e⟩
      · rw [if_neg q2] at e; exact ⟨k, hk, e⟩
theorem yOrd_up {m : Nat} {f h : Nat → Nat} {i : Nat} (O : yOrd m f h i) (h0 : 0 < i) (hi : i < m) (hl : f (h i) < f (h ((i - 1) / 2))) : yOrd m f (ySwp h i ((i - 1) / 2)) ((i - 1) / 2) := by
  obtain ⟨o1, o2⟩ := O
  have pi : (i - 1) / 2 < i := by omega
  refine ⟨fun k k0 km kp => ?_, fun p0 k k0 km kp => ?_⟩
  · by_cases q1 : k = i
    · subst q1
      rw [ySwp_j, ySwp_i]
      omega
    · rw [ySwp_o h q1 kp]
      by_cases q2 : (k - 1) / 2 = i
      · rw [q2, ySwp_i]; exact o2 h0 k k0 km q2
      · by_cases q3 : (k - 1) / 2 = (i - 1) / 2
        · rw [q3, ySwp_j]
          have := o1 k k0 km q1
          rw [q3] at this
          omega
        · rw [ySwp_o h q2 q3]; exact o1 k k0 km q1
  · have a := o1 ((i - 1) / 2) p0 (by omega) (by omega)
    rw [ySwp_o h (i := i) (j := (i - 1) / 2) (k := ((i - 1) / 2 - 1) / 2) (by omega) (by omega)]
    by_cases q1 : k = i
    · rw [q1, ySwp_i]; exact a
    · rw [ySwp_o h q1 (by omega)]
      have := o1 k k0 km q1
      rw [kp] at this
      omega
theorem yc_rises {m : Nat} {f : Nat → Nat} (hf : ∀ s, s < 100352 → f s < 2 ^ 31) (N : Nat) (K : wMem → Option wMem) : ∀ (i : Nat) (M : Nat) (h : Nat → Nat) (μ : wMem), i < M → i < m → yHp m h μ → (∀ s, s < 100352 → μ.1 10 s = nI (f s)) → yOrd m f h i →
    ∃ ν g, gX0_rises_2 N K M (nI i) μ = K ν ∧ yHp m g ν ∧ yKH μ ν ∧ ν.2 = μ.2 ∧ yFull m f g ∧ ySame m h g := by
  intro i
  induction i using Nat.strongRecOn with
  | ind i ih =>
    intro M h μ hM hi H hF O
    obtain ⟨M, rfl⟩ : ∃ q, M = q + 1 := ⟨M - 1, by omega⟩
    have hm := H.1
    have e0 : (nI i ≤ (0 : Int32)) = (i ≤ 0) := xI_le (by omega) (b := 0) (by decide)
    by_cases z : i = 0
    · refine ⟨μ, h, ?_, H, fun _ _ _ _ => rfl, rfl, fun k k0 km => O.1 k k0 km (by omega), fun _ => Iff.rfl⟩
      show gbX0_rises_2 N K _ _ μ = _
      unfold gbX0_rises_2
      rw [yIf e0, if_pos (by omega)]
    · obtain ⟨a1, a2, a3⟩ := H.2 i hi
      have hp : (i - 1) / 2 < m := by omega
      obtain ⟨b1, b2, b3⟩ := H.2 ((i - 1) / 2) hp
      have ep : (nI i - (1 : Int32)) / (2 : Int32) = nI ((i - 1) / 2) := by
        rw [xI_pred (by omega)]
        exact xI_div (by omega) (b := 2) (by decide)
      have st : gX0_rises_2 N K (M + 1) (nI i) μ = (if f (h ((i - 1) / 2)) ≤ f (h i) then K μ else wBindV (fX0_swaps N (nI i) (nI ((i - 1) / 2)) μ) fun μ8 => gX0_rises_2 N K M (nI ((i - 1) / 2)) μ8) := by
        show gbX0_rises_2 N K _ _ μ = _
        unfold gbX0_rises_2 wLet
        have c1 := hf (h i) a2
        have c2 := hf (h ((i - 1) / 2)) b2
        rw [yIf e0, if_neg (by omega), ep, yG (xI_in (by omega) (by omega)), xI_cl (by omega), a1, yG (xI_in (by omega) (by omega)), yG (xI_in (by omega) (by omega)), xI_cl (by omega), b1, yG (xI_in (by omega) (by omega)), xI_cl (by omega), xI_cl (by omega), hF _ a2, hF _ b2, yIf (xI_le (by omega) (by omega))]
      rw [st]
      by_cases q : f (h ((i - 1) / 2)) ≤ f (h i)
      · rw [if_pos q]
        refine ⟨μ, h, rfl, H, fun _ _ _ _ => rfl, rfl, fun k k0 km => ?_, fun _ => Iff.rfl⟩
        by_cases ki : k = i
        · rw [ki]; exact q
        · exact O.1 k k0 km ki
      · rw [if_neg q]
        obtain ⟨ν, s1, s2, s3, s4⟩ := yc_swaps H N hi hp
        rw [s1, yBV]
        obtain ⟨ν2, g, t1, t2, t3, t4, t5, t6⟩ := ih ((i - 1) / 2) (by omega) M _ ν (by omega) hp s2 (fun s hs => by rw [s3 10 s (by decide) (by decide)]; exact hF s hs) (yOrd_up O (by omega) hi (by omega))
        exact ⟨ν2, g, t1, t2, fun c x c1 c2 => (t3 c x c1 c2).trans (s3 c x c1 c2), t4.trans s4, t5, fun s => (ySame_swp h hi hp s).trans (t6 s)⟩
