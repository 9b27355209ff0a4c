set_option maxRecDepth 100000
/-! part 9992: the component's heap: a new state comes -/
theorem yc_comes_new {m s v : Nat} {f h : Nat → Nat} {μ : wMem} {N : Nat} (hN : m < N) (hm : m < 100352) (hf : ∀ s, s < 100352 → f s < 2 ^ 31) (H : yHeap m f h μ) (hs : s < 100352) (hfar : f s = 1000000000) (hv : v < f s) (hnew : ∀ k, k < m → h k ≠ s) :
    ∃ ν g, fX0_comes N (nI s) (nI v) μ = some ν ∧ yHeap (m + 1) (yUf f s v) g ν ∧ yKs μ ν ∧ ν.2 = μ.2 ∧ ySame (m + 1) (fun k => if k = m then s else h k) g := by
  obtain ⟨Hp, h20, hF, hO⟩ := H
  have e1 : nI m + (1 : Int32) = nI (m + 1) := nI_add m 1
  have hm1 : (fun k => if k = m then s else h k) m = s := if_pos rfl
  have hmo : ∀ k, k < m → (fun k => if k = m then s else h k) k = h k := fun k hk => if_neg (by omega)
  have M : ∀ c i, c ≠ 11 → c ≠ 12 → c ≠ 10 → (c = 0 → i ≠ 20) → (wSI (wSI (wSI (wSI μ 11 m (nI s)) 12 s (nI m)) 0 20 (nI (m + 1))) 10 s (nI v)).1 c i = μ.1 c i := fun c i c1 c2 c3 c4 => by
    rw [yS_get, if_neg (by omega), yS_get, if_neg (fun q => c4 q.1 q.2), yS_get, if_neg (by omega), yS_get, if_neg (by omega)]
  have g11 : ∀ i, (wSI (wSI (wSI (wSI μ 11 m (nI s)) 12 s (nI m)) 0 20 (nI (m + 1))) 10 s (nI v)).1 11 i = if i = m then nI s else μ.1 11 i := fun i => by
    rw [yS_get, if_neg (by omega), yS_get, if_neg (by omega), yS_get, if_neg (by omega), yS_get]
    by_cases q : i = m
    · rw [if_pos ⟨rfl, q⟩, if_pos q]
    · rw [if_neg (fun e => q e.2), if_neg q]
  have g12 : ∀ t, (wSI (wSI (wSI (wSI μ 11 m (nI s)) 12 s (nI m)) 0 20 (nI (m + 1))) 10 s (nI v)).1 12 t = if t = s then nI m else μ.1 12 t := fun t => by
    rw [yS_get, if_neg (by omega), yS_get, if_neg (by omega), yS_get]
    by_cases q : t = s
    · rw [if_pos ⟨rfl, q⟩, if_pos q]
    · rw [if_neg (fun e => q e.2), if_neg q, yS_get, if_neg (by omega)]
  have Hp' : yHp (m + 1) (fun k => if k = m then s else h k) (wSI (wSI (wSI (wSI μ 11 m (nI s)) 12 s (nI m)) 0 20 (nI (m + 1))) 10 s (nI v)) := by
    refine ⟨by omega, fun i hi => ?_⟩
    by_cases q : i = m
    · rw [q]
      show _ = nI ((fun k => if k = m then s else h k) m) ∧ (fun k => if k = m then s else h k) m < _ ∧ (wSI _ 10 s (nI v)).1 12 ((fun k => if k = m then s else h k) m) = _
      rw [hm1, g11, g12, if_pos rfl, if_pos rfl]
      exact ⟨rfl, hs, rfl⟩
    · obtain ⟨x, y, z⟩ := Hp.2 i (by omega)
      show _ = nI ((fun k => if k = m then s else h k) i) ∧ (fun k => if k = m then s else h k) i < _ ∧ (wSI _ 10 s (nI v)).1 12 ((fun k => if k = m then s else h k) i) = _
      rw [hmo i (by omega), g11, g12, if_neg q, if_neg (hnew i (by omega))]
      exact ⟨x, y, z⟩
  have hF' : ∀ t, t < 100352 → (wSI (wSI (wSI (wSI μ 11 m (nI s)) 12 s (nI m)) 0 20 (nI (m + 1))) 10 s (nI v)).1 10 t = nI (yUf f s v t) := fun t ht => by
    rw [yS_get]
    by_cases q : t = s
    · rw [if_pos ⟨rfl, q⟩, q, yUf_s]
    · rw [if_neg (fun e => q e.2), yUf_o f v q, yS_get, if_neg (by omega), yS_get, if_neg (by omega), yS_get, if_neg (by omega)]; exact hF t ht
  have hf' : ∀ t, t < 100352 → yUf f s v t < 2 ^ 31 := fun t ht => by
    by_cases q : t = s
    · rw [q, yUf_s]; omega
    · rw [yUf_o f v q]; exact hf t ht
  have O : yOrd (m + 1) (yUf f s v) (fun k => if k = m then s else h k) m := by
    refine ⟨fun k kp km kk => ?_, fun _ k kp km kk => by omega⟩
    show yUf f s v ((fun k => if k = m then s else h k) ((k - 1) / 2)) ≤ yUf f s v ((fun k => if k = m then s else h k) k)
    rw [hmo k (by omega), hmo ((k - 1) / 2) (by omega), yUf_o f v (hnew k (by omega)), yUf_o f v (hnew _ (by omega))]
    exact hO k kp (by omega)
  obtain ⟨ν, g, t1, t2, t3, t4, t5, t6⟩ := yc_rises hf' N (fun μ10 => some μ10) m N _ _ hN (by omega) Hp' hF' O
  have eF : (nI (f s) = (1000000000 : Int32)) = (f s = 1000000000) := xI_eq (by omega) (b := 1000000000) (by decide)
  have w20 : ∀ x y, (wSI (wSI μ 11 m x) 12 s y).1 0 20 = nI m := fun x y => by rw [yS_get, if_neg (by omega), yS_get, if_neg (by omega)]; exact h20
  have w20' : ∀ x, (wSI μ 11 m x).1 0 20 = nI m := fun x => by rw [yS_get, if_neg (by omega)]; exact h20
  refine ⟨ν, g, ?_, ⟨t2, ?_, fun t ht => ?_, t5⟩, fun c i c0 c1 c2 c3 => ?_, t4, t6⟩
  · have q12 := g12 s
    rw [if_pos rfl] at q12
    unfold fX0_comes fX0_rises wLet
    dsimp only
    rw [yG (xI_in (by omega) (by omega)), xI_cl (by omega), hF s hs, yIf (xI_lt (by omega) (by omega)), if_pos hv, yG (xI_in (by omega) (by omega)), yIf eF, if_pos hfar, h20, yG (xI_in (by omega) (by omega)), xI_cl (by omega), w20', yG (xI_in (by omega) (by omega)), w20, e1,
      yG (xI_in (by omega) (by omega)), yG (xI_in (by omega) (by omega)), q12, t1, yBV]
  · rw [t3 0 20 (by decide) (by decide), yS_get, if_neg (by omega), yS_get, if_pos ⟨rfl, rfl⟩]
  · rw [t3 10 t (by decide) (by decide)]; exact hF' t ht
  · rw [t3 c i c1 c2]; exact M c i c1 c2 c0 c3
