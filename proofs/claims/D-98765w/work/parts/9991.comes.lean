set_option maxRecDepth 100000
/-! part 9991: the component's heap: comes -/
def yUf (f : Nat → Nat) (s v : Nat) : Nat → Nat := fun t => if t = s then v else f t
theorem yUf_s (f : Nat → Nat) (s v : Nat) : yUf f s v s = v := by unfold yUf; rw [if_pos rfl]
theorem yUf_o (f : Nat → Nat) {s t : Nat} (v : Nat) (h : t ≠ s) : yUf f s v t = f t := by unfold yUf; rw [if_neg h]
/-- all but heap, places, the cost of s and the heap's size is as it was -/
def yKs (μ ν : wMem) : Prop := ∀ c i, c ≠ 10 → c ≠ 11 → c ≠ 12 → (c = 0 → i ≠ 20) → ν.1 c i = μ.1 c i
/-- the heap holds h 0 .. h (m-1), in order by the costs f -/
def yHeap (m : Nat) (f h : Nat → Nat) (μ : wMem) : Prop := yHp m h μ ∧ μ.1 0 20 = nI m ∧ (∀ s, s < 100352 → μ.1 10 s = nI (f s)) ∧ yFull m f h
/-- it costs as much or more: nothing happens -/
theorem yc_comes_no {m s v : Nat} {f h : Nat → Nat} {μ : wMem} (N : Nat) (hf : ∀ s, s < 100352 → f s < 2 ^ 31) (H : yHeap m f h μ) (hs : s < 100352) (hv : v < 2 ^ 31) (hle : f s ≤ v) : fX0_comes N (nI s) (nI v) μ = some μ := by
  have := hf s hs
  unfold fX0_comes
  rw [yG (xI_in (by omega) (by omega)), xI_cl (by omega), H.2.2.1 s hs, yIf (xI_lt (by omega) (by omega)), if_neg (by omega)]
/-- a state that is in the heap comes cheaper -/
theorem yc_comes_in {m s v k0 : Nat} {f h : Nat → Nat} {μ : wMem} {N : Nat} (hN : m < N) (hf : ∀ s, s < 100352 → f s < 2 ^ 31) (H : yHeap m f h μ) (hv : v < f s) (hk : k0 < m) (hks : h k0 = s) (hne : f s ≠ 1000000000) :
    ∃ ν g, fX0_comes N (nI s) (nI v) μ = some ν ∧ yHeap m (yUf f s v) g ν ∧ yKs μ ν ∧ ν.2 = μ.2 ∧ ySame m h g := by
  obtain ⟨Hp, h20, hF, hO⟩ := H
  have hm := Hp.1
  obtain ⟨a1, a2, a3⟩ := Hp.2 k0 hk
  have hs : s < 100352 := by omega
  have fs := hf s hs
  have inj : ∀ x, x < m → h x = s → x = k0 := fun x hx e => yHp.inj' Hp hx hk (by omega)
  have Hp' : yHp m h (wSI μ 10 s (nI v)) := ⟨hm, fun i hi => by
    obtain ⟨x, y, z⟩ := Hp.2 i hi
    exact ⟨by rw [yS_get, if_neg (by omega)]; exact x, y, by rw [yS_get, if_neg (by omega)]; exact z⟩⟩
  have hF' : ∀ t, t < 100352 → (wSI μ 10 s (nI v)).1 10 t = nI (yUf f s v t) := fun t ht => by
    rw [yS_get]
    by_cases q : t = s
    · rw [if_pos ⟨rfl, q⟩, q, yUf_s]
    · rw [if_neg (fun e => q e.2), yUf_o f v q]; exact hF t ht
  have hf' : ∀ t, t < 100352 → yUf f s v t < 2 ^ 31 := fun t ht => by
    by_cases q : t = s
    · rw [q, yUf_s]; omega
    · rw [yUf_o f v q]; exact hf t ht
  have O : yOrd m (yUf f s v) h k0 := by
    refine ⟨fun k kp km kk => ?_, fun k0p k kp km kk => ?_⟩
    · have b : h k ≠ s := fun e => kk (inj k km e)
      rw [yUf_o f v b]
      by_cases q : h ((k - 1) / 2) = s
      · rw [q, yUf_s]
        have := hO k kp km
        rw [q] at this
        omega
      · rw [yUf_o f v q]; exact hO k kp km
    · have b : h k ≠ s := fun e => by have := inj k km e; omega
      have b2 : h ((k0 - 1) / 2) ≠ s := fun e => by have := inj _ (by omega) e; omega
      rw [yUf_o f v b, yUf_o f v b2]
      have x := hO k0 k0p hk
      have y := hO k kp km
      rw [kk] at y
      omega
  obtain ⟨ν, g, t1, t2, t3, t4, t5, t6⟩ := yc_rises hf' N (fun μ10 => some μ10) k0 N h (wSI μ 10 s (nI v)) (by omega) hk Hp' hF' O
  have e12 : (wSI μ 10 s (nI v)).1 12 s = nI k0 := by rw [yS_get, if_neg (by omega), ← hks]; exact a3
  have eF : (nI (f s) = (1000000000 : Int32)) = (f s = 1000000000) := xI_eq (by omega) (b := 1000000000) (by decide)
  refine ⟨ν, g, ?_, ⟨t2, ?_, fun t ht => ?_, t5⟩, fun c i c0 c1 c2 c3 => ?_, t4, t6⟩
  · unfold fX0_comes fX0_rises wLet
    dsimp only
    rw [yG (xI_in (by omega) (by omega)), xI_cl (by omega), hF s hs, yIf (xI_lt (by omega) (by omega)), if_pos hv, yG (xI_in (by omega) (by omega)), yIf eF, if_neg hne, yG (xI_in (by omega) (by omega)), yG (xI_in (by omega) (by omega)), e12, t1, yBV]
  · rw [t3 0 20 (by decide) (by decide), yS_get, if_neg (by omega)]; exact h20
  · rw [t3 10 t (by decide) (by decide)]; exact hF' t ht
  · rw [t3 c i c1 c2, yS_get, if_neg (by omega)]
