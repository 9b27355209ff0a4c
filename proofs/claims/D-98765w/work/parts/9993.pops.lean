set_option maxRecDepth 100000
/-! part 9993: the component's heap: the nearest goes -/
theorem yFull_least {m : Nat} {f h : Nat → Nat} (O : yFull m f h) : ∀ k, k < m → f (h 0) ≤ f (h k) := by
  intro k
  induction k using Nat.strongRecOn with
  | ind k ih =>
    intro hk
    by_cases z : k = 0
    · rw [z]; exact Nat.le_refl _
    · exact Nat.le_trans (ih ((k - 1) / 2) (by omega) (by omega)) (O k (by omega) hk)
theorem yc_pops {m : Nat} {f h : Nat → Nat} {μ : wMem} {N : Nat} (hN : m < N) (hf : ∀ s, s < 100352 → f s < 2 ^ 31) (H : yHeap (m + 1) f h μ) (K : wMem → Option wMem) :
    ∃ ν g, (wBindV (fX0_swaps N (nI 0) ((wSI μ 0 20 (nI m)).1 0 20) (wSI μ 0 20 (nI m))) fun μ18 => wBindV (fX0_sinks N μ18) fun μ20 => K μ20) = K ν ∧ yHeap m f g ν ∧ yKs μ ν ∧ ν.2 = μ.2 ∧
      (∀ s, (∃ k, k < m ∧ g k = s) ↔ ((∃ k, k < m + 1 ∧ h k = s) ∧ s ≠ h 0)) := by
  obtain ⟨Hp, h20, hF, hO⟩ := H
  have hm := Hp.1
  have Hp1 : yHp (m + 1) h (wSI μ 0 20 (nI m)) := ⟨hm, fun i hi => by
    obtain ⟨x, y, z⟩ := Hp.2 i hi
    exact ⟨by rw [yS_get, if_neg (by omega)]; exact x, y, by rw [yS_get, if_neg (by omega)]; exact z⟩⟩
  have e20 : (wSI μ 0 20 (nI m)).1 0 20 = nI m := by rw [yS_get, if_pos ⟨rfl, rfl⟩]
  obtain ⟨ν1, s1, s2, s3, s4⟩ := yc_swaps Hp1 N (i := 0) (j := m) (by omega) (by omega)
  have Hp2 : yHp m (ySwp h 0 m) ν1 := ⟨by omega, fun i hi => s2.2 i (by omega)⟩
  have D : yDn m f (ySwp h 0 m) 0 := by
    refine ⟨fun k k0 km kp => ?_, fun z => absurd z (by omega)⟩
    rw [ySwp_o h (k := (k - 1) / 2) kp (by omega), ySwp_o h (k := k) (by omega) (by omega)]
    exact hO k k0 (by omega)
  have hF1 : ∀ s, s < 100352 → ν1.1 10 s = nI (f s) := fun s hs => by rw [s3 10 s (by decide) (by decide), yS_get, if_neg (by omega)]; exact hF s hs
  obtain ⟨ν, g, t1, t2, t3, t4, t5, t6⟩ := yc_sinks hf N m 0 N (ySwp h 0 m) ν1 hN (by omega) (by decide) Hp2 (by rw [s3 0 20 (by decide) (by decide)]; exact e20) hF1 D
  have t1' : fX0_sinks N ν1 = some ν := t1
  refine ⟨ν, g, ?_, ⟨t2, ?_, fun s hs => ?_, t5⟩, fun c i c0 c1 c2 c3 => ?_, ?_, fun s => ?_⟩
  · rw [e20, s1, yBV, t1', yBV]
  · rw [t3 0 20 (by decide) (by decide), s3 0 20 (by decide) (by decide)]; exact e20
  · rw [t3 10 s (by decide) (by decide)]; exact hF1 s hs
  · rw [t3 c i c1 c2, s3 c i c1 c2, yS_get, if_neg (fun q => c3 q.1 q.2)]
  · rw [t4, s4]; rfl
  · rw [← t6 s]
    constructor
    · rintro ⟨k, hk, e⟩
      by_cases q : k = 0
      · rw [q, ySwp_i] at e
        refine ⟨⟨m, by omega, e⟩, fun e2 => ?_⟩
        have := yHp.inj' Hp (a := m) (b := 0) (by omega) (by omega) (by omega)
        omega
      · rw [ySwp_o h q (by omega)] at e
        refine ⟨⟨k, by omega, e⟩, fun e2 => ?_⟩
        have := yHp.inj' Hp (a := k) (b := 0) (by omega) (by omega) (by omega)
        omega
    · rintro ⟨⟨k, hk, e⟩, ne⟩
      by_cases q : k = 0
      · rw [q] at e; exact absurd e.symm ne
      · by_cases q2 : k = m
        · exact ⟨0, by omega, by rw [ySwp_i, ← q2, e]⟩
        · exact ⟨k, by omega, by rw [ySwp_o h q q2, e]⟩
