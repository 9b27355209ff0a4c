set_option maxRecDepth 100000
/-! part 999: the component's heap: sinks -/
/-- no one lies above a nearer one, but maybe i -/
def yDn (m : Nat) (f h : Nat → Nat) (i : Nat) : Prop := (∀ k, 0 < k → k < m → (k - 1) / 2 ≠ i → f (h ((k - 1) / 2)) ≤ f (h k)) ∧ (0 < i → ∀ k, 0 < k → k < m → (k - 1) / 2 = i → f (h ((i - 1) / 2)) ≤ f (h k))
theorem yDn_down {m : Nat} {f h : Nat → Nat} {i c : Nat} (O : yDn m f h i) (hc : c < m) (c0 : 0 < c) (cp : (c - 1) / 2 = i) (hl : f (h c) < f (h i)) (hmin : ∀ k, 0 < k → k < m → (k - 1) / 2 = i → f (h c) ≤ f (h k)) : yDn m f (ySwp h i c) c := by
  obtain ⟨o1, o2⟩ := O
  refine ⟨fun k k0 km kp => ?_, fun _ k k0 km kp => ?_⟩
  · by_cases q1 : k = c
    · subst q1
      rw [cp, ySwp_i, ySwp_j]
      omega
    · by_cases q2 : (k - 1) / 2 = i
      · rw [q2, ySwp_i, ySwp_o h (by omega) q1]; exact hmin k k0 km q2
      · rw [ySwp_o h q2 kp]
        by_cases q3 : k = i
        · subst q3
          rw [ySwp_i]
          exact o2 k0 c c0 hc cp
        · rw [ySwp_o h q3 q1]; exact o1 k k0 km q2
  · rw [cp, ySwp_i, ySwp_o h (by omega) (by omega)]
    have := o1 k k0 km (by omega)
    rw [kp] at this
    exact this
theorem yc_sinks {m : Nat} {f : Nat → Nat} (hf : ∀ s, s < 100352 → f s < 2 ^ 31) (N : Nat) : ∀ (n i M : Nat) (h : Nat → Nat) (μ : wMem), n < M → m ≤ i + n → i < 100352 → yHp m h μ → μ.1 0 20 = nI m → (∀ s, s < 100352 → μ.1 10 s = nI (f s)) → yDn m f h i →
    ∃ ν g, gX0_sinks_2 N (fun μ19 => some μ19) M (nI i) μ = some ν ∧ yHp m g ν ∧ yKH μ ν ∧ ν.2 = μ.2 ∧ yFull m f g ∧ ySame m h g := by
  intro n
  induction n with
  | zero =>
    intro i M h μ hM hn hi H h20 hF O
    obtain ⟨M, rfl⟩ : ∃ q, M = q + 1 := ⟨M - 1, by omega⟩
    have hm := H.1
    have e1 : (2 : Int32) * nI i + (1 : Int32) = nI (2 * i + 1) := by
      have : (2 : Int32) * nI i = nI (2 * i) := xI_mul 2 i
      rw [this]; exact nI_add _ 1
    refine ⟨μ, h, ?_, H, fun _ _ _ _ => rfl, rfl, fun k k0 km => O.1 k k0 km (by omega), fun _ => Iff.rfl⟩
    show gbX0_sinks_2 N _ _ _ μ = _
    unfold gbX0_sinks_2
    rw [e1, h20, yIf (xI_le (by omega) (by omega)), if_pos (by omega)]
  | succ n ih =>
    intro i M h μ hM hn hi H h20 hF O
    obtain ⟨M, rfl⟩ : ∃ q, M = q + 1 := ⟨M - 1, by omega⟩
    have hm := H.1
    have e1 : (2 : Int32) * nI i + (1 : Int32) = nI (2 * i + 1) := by
      have : (2 : Int32) * nI i = nI (2 * i) := xI_mul 2 i
      rw [this]; exact nI_add _ 1
    have e2 : nI (2 * i + 1) + (1 : Int32) = nI (2 * i + 1 + 1) := nI_add _ 1
    by_cases leaf : m ≤ 2 * i + 1
    · refine ⟨μ, h, ?_, H, fun _ _ _ _ => rfl, rfl, fun k k0 km => O.1 k k0 km (by omega), fun _ => Iff.rfl⟩
      show gbX0_sinks_2 N _ _ _ μ = _
      unfold gbX0_sinks_2
      rw [e1, h20, yIf (xI_le (by omega) (by omega)), if_pos leaf]
    · have hi' : i < m := by omega
      obtain ⟨a1, a2, a3⟩ := H.2 i hi'
      have J : ∀ c, 0 < c → c < m → (c - 1) / 2 = i → (∀ k, 0 < k → k < m → (k - 1) / 2 = i → f (h c) ≤ f (h k)) →
          ∃ ν g, (wG (ok_in (nI c) 100352) (wG (ok_in (μ.1 11 (Int32.toNatClampNeg (nI c))) 100352) (wG (ok_in (nI i) 100352) (wG (ok_in (μ.1 11 (Int32.toNatClampNeg (nI i))) 100352) (if (μ.1 10 (Int32.toNatClampNeg (μ.1 11 (Int32.toNatClampNeg (nI c))))) < (μ.1 10 (Int32.toNatClampNeg (μ.1 11 (Int32.toNatClampNeg (nI i))))) then wBindV (fX0_swaps N (nI i) (nI c) μ) fun μ11 => gX0_sinks_2 N (fun μ19 => some μ19) M (nI c) μ11 else some μ))))) = some ν ∧ yHp m g ν ∧ yKH μ ν ∧ ν.2 = μ.2 ∧ yFull m f g ∧ ySame m h g := by
        intro c c0 hc cp hmin
        obtain ⟨b1, b2, b3⟩ := H.2 c hc
        have d1 := hf (h i) a2
        have d2 := hf (h c) b2
        rw [yG (xI_in (by omega) (by omega)), xI_cl (by omega), b1, yG (xI_in (by omega) (by omega)), yG (xI_in (by omega) (by omega)), xI_cl (by omega), a1, yG (xI_in (by omega) (by omega)), xI_cl (by omega), xI_cl (by omega), hF _ b2, hF _ a2, yIf (xI_lt (by omega) (by omega))]
        by_cases q : f (h c) < f (h i)
        · rw [if_pos q]
          obtain ⟨ν, s1, s2, s3, s4⟩ := yc_swaps H N hi' hc
          rw [s1, yBV]
          obtain ⟨ν2, g, t1, t2, t3, t4, t5, t6⟩ := ih c M _ ν (by omega) (by omega) (by omega) s2 (by rw [s3 0 20 (by decide) (by decide)]; exact h20) (fun s hs => by rw [s3 10 s (by decide) (by decide)]; exact hF s hs) (yDn_down O hc c0 cp q hmin)
          exact ⟨ν2, g, t1, t2, fun c x c1 c2 => (t3 c x c1 c2).trans (s3 c x c1 c2), t4.trans s4, t5, fun s => (ySame_swp h hi' hc s).trans (t6 s)⟩
        · rw [if_neg q]
          refine ⟨μ, h, rfl, H, fun _ _ _ _ => rfl, rfl, fun k k0 km => ?_, fun _ => Iff.rfl⟩
          by_cases kp : (k - 1) / 2 = i
          · rw [kp]
            have := hmin k k0 km kp
            omega
          · exact O.1 k k0 km kp
      have st : gX0_sinks_2 N (fun μ19 => some μ19) (M + 1) (nI i) μ = gbX0_sinks_2 N (fun μ19 => some μ19) (gX0_sinks_2 N (fun μ19 => some μ19) M) (nI i) μ := rfl
      rw [st]
      unfold gbX0_sinks_2 wLet
      dsimp only
      rw [e1, h20, yIf (xI_le (by omega) (by omega)), if_neg leaf, e2, yIf (xI_le (by omega) (by omega))]
      obtain ⟨b1, b2, b3⟩ := H.2 (2 * i + 1) (by omega)
      by_cases one : m ≤ 2 * i + 1 + 1
      · rw [if_pos one]
        exact J (2 * i + 1) (by omega) (by omega) (by omega) (fun k k0 km kp => by
          have : k = 2 * i + 1 := by omega
          rw [this]; exact Nat.le_refl _)
      · rw [if_neg one]
        obtain ⟨c1, c2, c3⟩ := H.2 (2 * i + 1 + 1) (by omega)
        have d1 := hf (h (2 * i + 1)) b2
        have d2 := hf (h (2 * i + 1 + 1)) c2
        have cond : (μ.1 10 (Int32.toNatClampNeg (μ.1 11 (Int32.toNatClampNeg (nI (2 * i + 1))))) ≤ μ.1 10 (Int32.toNatClampNeg (μ.1 11 (Int32.toNatClampNeg (nI (2 * i + 1 + 1)))))) = (f (h (2 * i + 1)) ≤ f (h (2 * i + 1 + 1))) := by
          rw [xI_cl (show 2 * i + 1 < 2 ^ 31 by omega), xI_cl (show 2 * i + 1 + 1 < 2 ^ 31 by omega), b1, c1, xI_cl (by omega), xI_cl (by omega), hF _ b2, hF _ c2]
          exact xI_le (by omega) (by omega)
        have g1 : ok_in (nI (2 * i + 1 + 1)) 100352 = true := xI_in (by omega) (by omega)
        have g2 : ok_in (μ.1 11 (Int32.toNatClampNeg (nI (2 * i + 1 + 1)))) 100352 = true := by rw [xI_cl (by omega), c1]; exact xI_in (by omega) (by omega)
        have g3 : ok_in (nI (2 * i + 1)) 100352 = true := xI_in (by omega) (by omega)
        have g4 : ok_in (μ.1 11 (Int32.toNatClampNeg (nI (2 * i + 1)))) 100352 = true := by rw [xI_cl (by omega), b1]; exact xI_in (by omega) (by omega)
        have par2 : ∀ k, 0 < k → (k - 1) / 2 = i → k = 2 * i + 1 ∨ k = 2 * i + 1 + 1 := fun k k0 kp => by omega
        by_cases q : f (h (2 * i + 1)) ≤ f (h (2 * i + 1 + 1))
        · obtain ⟨ν, g, r⟩ := J (2 * i + 1) (by omega) (by omega) (by omega) (fun k k0 km kp => by
            rcases par2 k k0 kp with e | e
            · rw [e]; exact Nat.le_refl _
            · rw [e]; exact q)
          refine ⟨ν, g, ?_, r.2⟩
          rw [yG g1, yG g2, yG g3, yG g4, yIf cond, if_pos q]
          exact r.1
        · obtain ⟨ν, g, r⟩ := J (2 * i + 1 + 1) (by omega) (by omega) (by omega) (fun k k0 km kp => by
            rcases par2 k k0 kp with e | e
            · rw [e]; omega
            · rw [e]; exact Nat.le_refl _)
          refine ⟨ν, g, ?_, r.2⟩
          rw [yG g1, yG g2, yG g3, yG g4, yIf cond, if_neg q]
          exact r.1
