set_option maxRecDepth 100000
/-! part 99999991: the relation between both worlds -/
/-- what a call that is no row's and no image's keeps -/
def zKc (μ ν : wMem) : Prop := ∀ c i, (c = 0 → 2 ≤ i ∧ i ≤ 4) → (c = 0 ∨ c = 8 ∨ 21 < c) → ν.1 c i = μ.1 c i ∧ ν.2 c i = μ.2 c i
def zKt (μ ν : wMem) : Prop := ∀ c i, (c = 0 → i = 6 ∨ i = 14 ∨ i = 15) → c ≠ 4 → c < 13 → (c = 6 → 1 ≤ i) → (c = 7 → 7 ≤ i) → (c = 8 → 6 ≤ i) → (c = 9 → 6 ≤ i) → (c = 10 → 6 ≤ i) → (c = 11 → 40 ≤ i) → ν.1 c i = μ.1 c i ∧ ν.2 c i = μ.2 c i
theorem yKC.z {μ ν : wMem} (h : yKC μ ν) : zKc μ ν := fun c i a b => h c i (by omega) (by omega)
theorem yKC1.z {μ ν : wMem} (h : yKC1 μ ν) : zKc μ ν := fun c i a b => h c i (by omega) (by omega) (by omega) (by omega)
theorem yKCf.z {μ ν : wMem} (h : yKCf μ ν) : zKc μ ν := fun c i a b => h c i (by omega) (by omega)
theorem yKM.z {μ ν : wMem} (h : yKM μ ν) : zKt μ ν := fun c i a b d _ _ _ _ _ _ => h c i (by omega) b (by omega)
theorem yKN.z {μ ν : wMem} (h : yKN μ ν) : zKt μ ν := fun c i a b d _ _ _ _ _ _ => h c i a b (by omega)
theorem yKMh.z {μ ν : wMem} (h : yKMh μ ν) : zKt μ ν := fun c i a b d _ _ _ _ _ _ => h c i (by omega) b (by omega)
theorem yKM1.z {μ ν : wMem} (h : yKM1 μ ν) : zKt μ ν := fun c i a b d h6 h7 h8 h9 h10 h11 => h c i (by omega) b (by omega) (by omega) h11
theorem yKMf.z {μ ν : wMem} (h : yKMf μ ν) : zKt μ ν := fun c i a b d h6 h7 h8 h9 h10 h11 => h c i a b (by omega) h6 h7 h8 h9 h10 h11
theorem yKM1.sn {μ ν : wMem} (Q : ySn μ) (h : yKM1 μ ν) : ySn ν := ySn_of Q fun c i hc => (h c i (by omega) (by omega) (by omega) (by omega) (by omega)).1
theorem yKMh.sn {μ ν : wMem} (Q : ySn μ) (h : yKMh μ ν) : ySn ν := ySn_of Q fun c i hc => (h c i (by omega) (by omega) (by omega)).1
/-- a family of the twin's behind the first is kept -/
theorem zKt.fm {μ ν : wMem} (h : zKt μ ν) {φ : Nat → Nat → Nat} {f : Nat} (hf : 1 ≤ f) (F : yFM φ f μ) : yFM φ f ν := by
  obtain ⟨⟨a0, a1, a2, a3, a4, a5, a6, a7⟩, b1, b2, b3, b4⟩ := F
  have k : ∀ c i, 6 ≤ c ∧ c ≤ 11 → (c = 6 → 1 ≤ i) → (c = 7 → 7 ≤ i) → (c = 8 → 6 ≤ i) → (c = 9 → 6 ≤ i) → (c = 10 → 6 ≤ i) → (c = 11 → 40 ≤ i) → ν.1 c i = μ.1 c i := fun c i hc h6 h7 h8 h9 h10 h11 => (h c i (by omega) (by omega) (by omega) h6 h7 h8 h9 h10 h11).1
  refine ⟨⟨?_, ?_, ?_, ?_, ?_, ?_, ?_, ?_⟩, fun i hi => ?_, fun i hi => ?_, fun i hi => ?_, fun i hi => ?_⟩
  · rw [k _ _ (by decide) (by omega) (by omega) (by omega) (by omega) (by omega) (by omega)]; exact a0
  · rw [k _ _ (by decide) (by omega) (by omega) (by omega) (by omega) (by omega) (by omega)]; exact a1
  · rw [k _ _ (by decide) (by omega) (by omega) (by omega) (by omega) (by omega) (by omega)]; exact a2
  · rw [k _ _ (by decide) (by omega) (by omega) (by omega) (by omega) (by omega) (by omega)]; exact a3
  · rw [k _ _ (by decide) (by omega) (by omega) (by omega) (by omega) (by omega) (by omega)]; exact a4
  · rw [k _ _ (by decide) (by omega) (by omega) (by omega) (by omega) (by omega) (by omega)]; exact a5
  · rw [k _ _ (by decide) (by omega) (by omega) (by omega) (by omega) (by omega) (by omega)]; exact a6
  · rw [k _ _ (by decide) (by omega) (by omega) (by omega) (by omega) (by omega) (by omega)]; exact a7
  · rw [k _ _ (by decide) (by omega) (by omega) (by omega) (by omega) (by omega) (by omega)]; exact b1 i hi
  · rw [k _ _ (by decide) (by omega) (by omega) (by omega) (by omega) (by omega) (by omega)]; exact b2 i hi
  · rw [k _ _ (by decide) (by omega) (by omega) (by omega) (by omega) (by omega) (by omega), k _ _ (by decide) (by omega) (by omega) (by omega) (by omega) (by omega) (by omega), k _ _ (by decide) (by omega) (by omega) (by omega) (by omega) (by omega) (by omega)]; exact b3 i hi
  · rw [k _ _ (by decide) (by omega) (by omega) (by omega) (by omega) (by omega) (by omega)]; exact b4 i hi
def zFits (w : Nat) (v : Int32) : Prop := (w = 0 → fits .byte (.int v) = true) ∧ (w = 1 → fits .short (.int v) = true)
/-- slot i: its row is the cell c, or there is none -/
def zSlo (sp : List wCell) (μ μm : wMem) (i c : Nat) : Prop :=
  (c = 0 ∧ (∃ x0, sp[24 + i]? = some (.inl (5, [(3, x0)]))) ∧ μm.1 1 i = -1) ∨
  (28 ≤ c ∧ sp[24 + i]? = some (.inl (5, [(2, c)])) ∧ ∃ w n, w < 4 ∧ sp[c]? = some (.inr (yKd w, n)) ∧ μm.1 1 i = nI w ∧ ySl c (yKd w) n i μ μm ∧ ∀ j, j < n → zFits w (μ.1 c j))
def zFm2 (φ : Nat → Nat → Nat) (μ μm : wMem) : Prop := yOk φ ∧ yGo φ ∧ zWf φ ∧ yFC φ μ ∧ yFM φ 0 μm
/-- an image: its family is the cell d, its rows those behind -/
def zIm (sp : List wCell) (cs : Nat → Nat) (μ μm : wMem) (k d : Nat) : Prop :=
  28 ≤ d ∧ sp[d]? = some (.inl (1, wFf6 (d + 1))) ∧ sp[d + 1 + 0]? = some (.inr (0, 6)) ∧ sp[d + 1 + 1]? = some (.inr (0, 6)) ∧ sp[d + 1 + 2]? = some (.inr (0, 2)) ∧ sp[d + 1 + 3]? = some (.inr (0, 2)) ∧ sp[d + 1 + 4]? = some (.inr (0, 2)) ∧ sp[d + 1 + 5]? = some (.inr (0, 40)) ∧ (∀ i, i < 4 → cs i < d ∨ d + 6 < cs i) ∧
  ∃ ψ, yOk ψ ∧ yGo ψ ∧ zWf ψ ∧ yFCg ψ μ d (d + 1 + 0) (d + 1 + 1) (d + 1 + 2) (d + 1 + 3) (d + 1 + 4) (d + 1 + 5) ∧ yFM ψ (k + 1) μm
def zImg (ca : wCA) (aE : Nat) (sp : List wCell) (cs : Nat → Nat) (μ μm : wMem) : Prop :=
  (sp[23]? = some (wLoA aE) ∧ μ.1 23 2 = 0 ∧ ∀ k, k < 3 → μm.1 12 k = 0) ∨
  (∃ cA t : Nat, 28 ≤ cA ∧ sp[23]? = some (wLo cA) ∧ μ.1 23 2 = 3 ∧ sp[cA]? = some (.inr (t, 10)) ∧ 4 < t ∧ t < 281474976710661 ∧ (∀ i, i < 4 → cs i ≠ cA) ∧
    ∀ k, k < 3 → (wRd t k = 0 ∧ μm.1 12 k = 0) ∨ ∃ d, wRd t k = d + 1 ∧ μm.1 12 k ≠ 0 ∧ zIm sp cs μ μm k d)
def zShp (ca : wCA) (n : Nat) (sp : List wCell) : Prop := 28 ≤ sp.length ∧ sp.length + 16 * n ≤ 1052 ∧ wClosed sp ∧ wDg8 sp ∧ wSlots ca sp
def zTF (μ μm : wMem) : Prop := (∃ k, yTp k μ μm) ∧ μ.1 0 3 = μm.1 0 14 ∧ μ.1 0 4 = μm.1 0 15
def zRow (sp : List wCell) (cs : Nat → Nat) (μ μm : wMem) : Prop := (∀ i, i < 4 → zSlo sp μ μm i (cs i)) ∧ ∀ i j, i < 4 → j < 4 → i ≠ j → cs i ≠ 0 → cs i ≠ cs j
def zRel (ca : wCA) (aE n : Nat) (sp : List wCell) (μ μm : wMem) : Prop :=
  ∃ (E : List wCell) (cs : Nat → Nat) (φ : Nat → Nat → Nat), sp = spX ++ E ∧ zShp ca n sp ∧ zFm2 φ μ μm ∧ zTF μ μm ∧ ySn μm ∧ zRow sp cs μ μm ∧ zImg ca aE sp cs μ μm
theorem zAt_of {μ ν : wMem} {c : Nat} (h : ∀ i, ν.1 c i = μ.1 c i ∧ ν.2 c i = μ.2 c i) (t j : Nat) : wAt ν c t j = wAt μ c t j := by
  unfold wAt
  rw [(h j).1, (h j).2]
theorem zSlo.keep {sp : List wCell} {μ μm ν νm : wMem} {i c : Nat} (hi : i < 4) (h : zSlo sp μ μm i c) (k : zKc μ ν) (kt : zKt μm νm) : zSlo sp ν νm i c := by
  have t1 : νm.1 1 i = μm.1 1 i := (kt 1 i (by omega) (by omega) (by omega) (by omega) (by omega) (by omega) (by omega) (by omega) (by omega)).1
  have t2 : νm.1 2 i = μm.1 2 i := (kt 2 i (by omega) (by omega) (by omega) (by omega) (by omega) (by omega) (by omega) (by omega) (by omega)).1
  have t3 : ∀ j, νm.2 3 j = μm.2 3 j := fun j => (kt 3 j (by omega) (by omega) (by omega) (by omega) (by omega) (by omega) (by omega) (by omega) (by omega)).2
  rcases h with ⟨h1, h2, h3⟩ | ⟨h1, h2, w, n, h3, h4, h5, ⟨x1, x2, x3, x4, x5, x6⟩, h7⟩
  · exact .inl ⟨h1, h2, by rw [t1]; exact h3⟩
  · have kc : ∀ j, ν.1 c j = μ.1 c j ∧ ν.2 c j = μ.2 c j := fun j => k c j (by omega) (by omega)
    exact .inr ⟨h1, h2, w, n, h3, h4, by rw [t1]; exact h5, ⟨x1, x2, x3, fun j hj => by rw [zAt_of kc, t3]; exact x4 j hj, by rw [t2]; exact x5, by rw [t1]; exact x6⟩, fun j hj => by rw [(kc j).1]; exact h7 j hj⟩
theorem zIm.keep {sp : List wCell} {cs : Nat → Nat} {μ μm ν νm : wMem} {k d : Nat} (h : zIm sp cs μ μm k d) (kc : ∀ c, 28 ≤ c → d ≤ c → c ≤ d + 6 → ν.1 c = μ.1 c) (kt : zKt μm νm) : zIm sp cs ν νm k d := by
  obtain ⟨h1, h2, h3, h4, h5, h6, h7, h8, h9, ψ, p1, p2, p3, p4, p5⟩ := h
  exact ⟨h1, h2, h3, h4, h5, h6, h7, h8, h9, ψ, p1, p2, p3, yFCg_of p4 (kc _ (by omega) (by omega) (by omega)) (kc _ (by omega) (by omega) (by omega)) (kc _ (by omega) (by omega) (by omega)) (kc _ (by omega) (by omega) (by omega)) (kc _ (by omega) (by omega) (by omega)) (kc _ (by omega) (by omega) (by omega)) (kc _ (by omega) (by omega) (by omega)), kt.fm (by omega) p5⟩
theorem zImg.keep {ca : wCA} {aE : Nat} {sp : List wCell} {cs : Nat → Nat} {μ μm ν νm : wMem} (h : zImg ca aE sp cs μ μm) (k : zKc μ ν) (kt : zKt μm νm) : zImg ca aE sp cs ν νm := by
  have t12 : ∀ j, νm.1 12 j = μm.1 12 j := fun j => (kt 12 j (by omega) (by omega) (by omega) (by omega) (by omega) (by omega) (by omega) (by omega) (by omega)).1
  have k23 : ν.1 23 2 = μ.1 23 2 := (k 23 2 (by omega) (by omega)).1
  rcases h with ⟨h1, h2, h3⟩ | ⟨cA, t, h1, h2, h3, h4, h5, h6, h7, h8⟩
  · exact .inl ⟨h1, by rw [k23]; exact h2, fun j hj => by rw [t12]; exact h3 j hj⟩
  · refine .inr ⟨cA, t, h1, h2, by rw [k23]; exact h3, h4, h5, h6, h7, fun j hj => ?_⟩
    rcases h8 j hj with ⟨q1, q2⟩ | ⟨d, q1, q2, q3⟩
    · exact .inl ⟨q1, by rw [t12]; exact q2⟩
    · exact .inr ⟨d, q1, by rw [t12]; exact q2, q3.keep (fun c h1 h2 h3 => funext fun i => (k c i (by omega) (by omega)).1) kt⟩
theorem zTF.keep {μ μm ν νm : wMem} (h : zTF μ μm) (k : zKc μ ν) (kt : zKt μm νm) : zTF ν νm := by
  obtain ⟨⟨m, n6, t1, t2, t3, t4⟩, h1, h2⟩ := h
  have k0 : ∀ i, 2 ≤ i → i ≤ 4 → ν.1 0 i = μ.1 0 i := fun i h1 h2 => (k 0 i (by omega) (by omega)).1
  have k8 : ∀ i, ν.1 8 i = μ.1 8 i := fun i => (k 8 i (by omega) (by omega)).1
  have m0 : ∀ i, i = 6 ∨ i = 14 ∨ i = 15 → νm.1 0 i = μm.1 0 i := fun i hi => (kt 0 i (by omega) (by omega) (by omega) (by omega) (by omega) (by omega) (by omega) (by omega) (by omega)).1
  have m5 : ∀ i, νm.1 5 i = μm.1 5 i := fun i => (kt 5 i (by omega) (by omega) (by omega) (by omega) (by omega) (by omega) (by omega) (by omega) (by omega)).1
  refine ⟨⟨m, n6, by rw [k0 2 (by omega) (by omega)]; exact t1, by rw [m0 6 (by omega)]; exact t2, fun i hi => by rw [k8, m5]; exact t3 i hi, fun i hi => by rw [k8]; exact t4 i hi⟩, by rw [k0 3 (by omega) (by omega), m0 14 (by omega)]; exact h1, by rw [k0 4 (by omega) (by omega), m0 15 (by omega)]; exact h2⟩
theorem zShp.less {ca : wCA} {n : Nat} {sp : List wCell} (h : zShp ca (n + 1) sp) : zShp ca n sp := ⟨h.1, by have := h.2.1; omega, h.2.2⟩
/-- a call that keeps rows and images -/
theorem zRel.same {ca : wCA} {aE n : Nat} {sp : List wCell} {μ μm ν νm : wMem} (R : zRel ca aE (n + 1) sp μ μm) {ψ : Nat → Nat → Nat} (F : zFm2 ψ ν νm) (k : zKc μ ν) (kt : zKt μm νm) (Q : ySn νm) : zRel ca aE n sp ν νm := by
  obtain ⟨E, cs, φ, e, Sh, _, T, _, ⟨X, Y⟩, I⟩ := R
  exact ⟨E, cs, ψ, e, Sh.less, F, T.keep k kt, Q, ⟨fun i hi => (X i hi).keep hi k kt, Y⟩, I.keep k kt⟩
/-- the family is the same -/
theorem zFm2.th {φ : Nat → Nat → Nat} {μ μm ν νm : wMem} (h : zFm2 φ μ μm) (k : yKC μ ν) (kt : ∀ c i, 6 ≤ c ∧ c ≤ 11 → νm.1 c i = μm.1 c i) : zFm2 φ ν νm := by
  obtain ⟨O, G, W, F, M⟩ := h
  refine ⟨O, G, W, ?_, yFM_of M fun c h1 h2 i => kt c i ⟨h1, by omega⟩⟩
  have e : ∀ c, 1 ≤ c → c ≤ 7 → ν.1 c = μ.1 c := fun c h1 h2 => funext fun i => (k c i (by omega) (by omega)).1
  exact yFCg_1.mp (yFCg_of (yFCg_1.mpr F) (e 1 (by omega) (by omega)) (e 2 (by omega) (by omega)) (e 3 (by omega) (by omega)) (e 4 (by omega) (by omega)) (e 5 (by omega) (by omega)) (e 6 (by omega) (by omega)) (e 7 (by omega) (by omega)))
def zN : Nat := 200000000000000
theorem zIs {a : Int32} {n : Nat} (hn : n < 256) (h : yIs a n) : ∃ i, i < n ∧ a = nI i := by
  refine ⟨a.toInt.toNat, by have := h.1; have := h.2; omega, ?_⟩
  apply Int32.toInt_inj.mp
  rw [nI_toInt (by have := h.2; omega)]
  have := h.1
  omega
