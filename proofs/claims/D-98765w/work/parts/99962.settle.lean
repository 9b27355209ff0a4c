set_option maxRecDepth 100000
/-! part 99962: settles: the acts of one state -/
/-- the memory holds the state τ -/
def yAt (ν : wMem) (τ : ySt) : Prop := yPut ν τ = ν
theorem yAt_put (μ : wMem) (σ : ySt) : yAt (yPut μ σ) σ := yPut_put μ σ σ
theorem yAt.cells {ν : wMem} {τ : ySt} (h : yAt ν τ) : ν.1 0 5 = nI τ.ov ∧ ν.1 0 6 = nI τ.sd ∧ ν.1 0 7 = nI τ.mk ∧ ν.1 9 0 = nI τ.z0 - 1 ∧ ν.1 9 1 = nI τ.z1 - 1 := by
  have a := yPut_5 ν τ
  have b := yPut_6 ν τ
  have c := yPut_7 ν τ
  have d := yPut_90 ν τ
  have e := yPut_91 ν τ
  rw [h] at a b c d e
  exact ⟨a, b, c, d, e⟩
theorem yAt.of {ν : wMem} {τ : ySt} (a : ν.1 0 5 = nI τ.ov) (b : ν.1 0 6 = nI τ.sd) (c : ν.1 0 7 = nI τ.mk) (d : ν.1 9 0 = nI τ.z0 - 1) (e : ν.1 9 1 = nI τ.z1 - 1) : yAt ν τ := by
  apply yM_ext
  · intro x i
    simp only [yPut, yS_get]
    repeat' split
    all_goals first | rfl | simp_all
  · rfl
/-- all but the state, the costs and the heap is as it was -/
def yKz (μ ν : wMem) : Prop := (∀ c i, c ≠ 9 → c ≠ 10 → c ≠ 11 → c ≠ 12 → (c = 0 → i ≠ 5 ∧ i ≠ 6 ∧ i ≠ 7 ∧ i ≠ 20) → ν.1 c i = μ.1 c i) ∧ ν.2 = μ.2
theorem yKz.rfl' (μ : wMem) : yKz μ μ := ⟨fun _ _ _ _ _ _ _ => rfl, rfl⟩
theorem yKz.trans {μ ν ρ : wMem} (h : yKz μ ν) (g : yKz ν ρ) : yKz μ ρ := ⟨fun c i a b d e f => (g.1 c i a b d e f).trans (h.1 c i a b d e f), g.2.trans h.2⟩
theorem yKz_put (μ : wMem) (σ : ySt) : yKz μ (yPut μ σ) := ⟨fun c i a _ _ _ f => yPut_o μ σ (fun h => ⟨(f h).1, (f h).2.1, (f h).2.2.1⟩) a, rfl⟩
theorem yKz_ks {μ ν : wMem} (h : yKs μ ν) (h2 : ν.2 = μ.2) : yKz μ ν := ⟨fun c i _ b d e f => h c i b d e fun q => (f q).2.2.2, h2⟩
theorem yKz.fc {φ : Nat → Nat → Nat} {μ ν : wMem} (h : yKz μ ν) (F : yFC φ μ) : yFC φ ν := yFC_of F fun c h1 h2 i => h.1 c i (by omega) (by omega) (by omega) (by omega) (by omega)
theorem yHp_put {m : Nat} {h : Nat → Nat} {μ : wMem} (H : yHp m h μ) (σ : ySt) : yHp m h (yPut μ σ) :=
  ⟨H.1, fun i hi => by rw [yPut_c μ σ (by decide) (by decide), yPut_c μ σ (by decide) (by decide)]; exact H.2 i hi⟩
theorem yHeap_put {m : Nat} {f h : Nat → Nat} {μ : wMem} (H : yHeap m f h μ) (σ : ySt) : yHeap m f h (yPut μ σ) :=
  ⟨yHp_put H.1 σ, by rw [yPut_o μ σ (by decide) (by decide)]; exact H.2.1, fun s hs => by rw [yPut_c μ σ (by decide) (by decide)]; exact H.2.2.1 s hs, H.2.2.2⟩
theorem yEg_nx {φ : Nat → Nat → Nat} {b n a : Nat} {f t : Nat → Nat} {τ : ySt} (O : yOk φ) (T : ySok φ τ) (E : yEg φ b (n + 1) a f t) (eτ : yNum τ = t n) (ha : a ≤ 201) : yEg φ b (n + 1) (yNx φ τ a) f t := by
  intro i hi ρ R e x ex cx
  by_cases q : i + 1 < n + 1
  · exact E i hi ρ R e x ex (Or.inl q)
  · have : i = n := by omega
    subst this
    have : ρ = τ := yNum_inj O R T (e.trans eτ.symm)
    subst this
    by_cases q2 : x < a
    · exact E i hi ρ R e x ex (Or.inr q2)
    · have := yNx_off φ ρ ha (b := x) (by omega) (by omega)
      rw [this] at ex
      cases ex
/-- what comes of one act -/
theorem yc_come {φ : Nat → Nat → Nat} (O : yOk φ) (hl : 0 < φ 0 0) {b : Nat} {N : Nat} (hN : 200000 ≤ N) {σ τ : ySt} (T : ySok φ τ) {n m x : Nat} {f h t : Nat → Nat} {ν : wMem} (eτ : yNum τ = t n) (ex : yEb φ τ x = true)
    (H : yHeap m f h ν) (D : yDj φ b σ (n + 1) m f h t) (E : yEg φ b (n + 1) x f t) :
    ∃ m1 f1 h1 ν1, fX0_comes N (nI (yNum (yDo φ τ x))) (nI (f (t n) + yCst φ 1000 b x)) ν = some ν1 ∧ yKs ν ν1 ∧ ν1.2 = ν.2 ∧ yHeap m1 f1 h1 ν1 ∧ yDj φ b σ (n + 1) m1 f1 h1 t ∧ yEg φ b (n + 1) (x + 1) f1 t := by
  have D' := D
  obtain ⟨d1, d2, d3, d4, d5, d6, d7, d8, d9⟩ := D
  have hx := (yEb_act ex).1
  have T2 := yDo_ok O T hx
  have lt := yNum_lt O T2
  have c0 := yCst_le O (H := 1000) (b := b) (by decide) hx
  have q4 := d4 n (by omega)
  have hf : ∀ s, s < 100352 → f s < 2 ^ 31 := fun s hs => by have := d2 s hs; omega
  have hm := H.1.1
  by_cases g : f (yNum (yDo φ τ x)) ≤ f (t n) + yCst φ 1000 b x
  · exact ⟨m, f, h, ν, yc_comes_no N hf H lt (by omega) g, fun _ _ _ _ _ _ => rfl, rfl, H, D', yDj_no O T E eτ g⟩
  · by_cases g2 : f (yNum (yDo φ τ x)) = 1000000000
    · have new : ∀ k, k < m → h k ≠ yNum (yDo φ τ x) := fun k hk e => (d3 _ lt).mpr (Or.inr ⟨k, hk, e⟩) g2
      have cl := yCn_lt (p := fun s => decide (f s ≠ 1000000000)) (i := yNum (yDo φ τ x)) (by simp [g2]) 100352 lt
      obtain ⟨ν1, g1, r1, r2, r3, r4, r5⟩ := yc_comes_new (N := N) (by omega) (by omega) hf H lt g2 (v := f (t n) + yCst φ 1000 b x) (by omega) new
      obtain ⟨u1, u2, _⟩ := yDj_up O D' E T eτ ex hl (by omega) (m2 := m + 1) (g := g1) (Or.inl ⟨g2, rfl, fun s => by
        have r5s : (∃ k, k < m + 1 ∧ (if k = m then yNum (yDo φ τ x) else h k) = s) ↔ ∃ k, k < m + 1 ∧ g1 k = s := r5 s
        rw [← r5s]
        constructor
        · rintro ⟨k, hk, e⟩
          by_cases q : k = m
          · rw [if_pos q] at e; exact Or.inr e.symm
          · rw [if_neg q] at e; exact Or.inl ⟨k, by omega, e⟩
        · rintro (⟨k, hk, e⟩ | e)
          · exact ⟨k, by omega, by rw [if_neg (by omega)]; exact e⟩
          · exact ⟨m, by omega, by rw [if_pos rfl]; exact e.symm⟩⟩)
      exact ⟨m + 1, _, g1, ν1, r1, r3, r4, r2, u1, u2⟩
    · have ne : ∃ k, k < m ∧ h k = yNum (yDo φ τ x) := by
        rcases (d3 _ lt).mp g2 with ⟨i, hi, e⟩ | y
        · have := d6 i n (by omega) (by omega)
          have := yCst_pos hl 1000 b x
          rw [e] at *
          omega
        · exact y
      obtain ⟨k, hk, e⟩ := ne
      obtain ⟨ν1, g1, r1, r2, r3, r4, r5⟩ := yc_comes_in (N := N) (by omega) hf H (v := f (t n) + yCst φ 1000 b x) (by omega) hk e g2
      obtain ⟨u1, u2, _⟩ := yDj_up O D' E T eτ ex hl (by omega) (m2 := m) (g := g1) (Or.inr ⟨g2, rfl, fun s => (r5 s).symm⟩)
      exact ⟨m, _, g1, ν1, r1, r3, r4, r2, u1, u2⟩
theorem yAt_ks {μ ν : wMem} {τ : ySt} (h : yAt μ τ) (k : yKs μ ν) : yAt ν τ := by
  obtain ⟨a, b, c, d, e⟩ := h.cells
  exact yAt.of ((k 0 5 (by decide) (by decide) (by decide) (by decide)).trans a) ((k 0 6 (by decide) (by decide) (by decide) (by decide)).trans b) ((k 0 7 (by decide) (by decide) (by decide) (by decide)).trans c)
    ((k 9 0 (by decide) (by decide) (by decide) (by decide)).trans d) ((k 9 1 (by decide) (by decide) (by decide) (by decide)).trans e)
theorem yc_set_in {φ : Nat → Nat → Nat} (O : yOk φ) (hl : 0 < φ 0 0) {b : Nat} (hb : b < 3) {N : Nat} (hN : 200000 ≤ N) {σ τ : ySt} (T : ySok φ τ) {n : Nat} {t : Nat → Nat} (eτ : yNum τ = t n) (K : wMem → Option wMem) : ∀ (d M a m : Nat) (f h : Nat → Nat) (ν : wMem), 201 - a ≤ d → d < M → a ≤ 201 →
    yFC φ ν → yAt ν τ → yHeap m f h ν → yDj φ b σ (n + 1) m f h t → yEg φ b (n + 1) a f t →
    ∃ m1 f1 h1 ν1, gX0_settles_110 N (19 + b) (nI (t n)) K M (nI (yNx φ τ a)) ν = K ν1 ∧ yKz ν ν1 ∧ yHeap m1 f1 h1 ν1 ∧ yDj φ b σ (n + 1) m1 f1 h1 t ∧ yEg φ b (n + 1) 201 f1 t := by
  intro d
  induction d with
  | zero =>
    intro M a m f h ν hd hM ha F A H D E
    obtain ⟨M, rfl⟩ : ∃ q, M = q + 1 := ⟨M - 1, by omega⟩
    have : a = 201 := by omega
    subst this
    have e : yNx φ τ 201 = 201 := rfl
    rw [e]
    refine ⟨m, f, h, ν, ?_, yKz.rfl' _, H, D, E⟩
    show gbX0_settles_110 N _ _ _ _ _ _ = _
    unfold gbX0_settles_110
    rw [if_pos (by decide)]
  | succ d ih =>
    intro M a m f h ν hd hM ha F A H D E
    obtain ⟨M, rfl⟩ : ∃ q, M = q + 1 := ⟨M - 1, by omega⟩
    have E2 := yEg_nx O T E eτ ha
    obtain ⟨l1, l2⟩ := yNx_le φ τ ha
    have on := yNx_on φ τ ha
    generalize yNx φ τ a = x at *
    show ∃ m1 f1 h1 ν1, gbX0_settles_110 N _ _ _ _ _ _ = _ ∧ _
    unfold gbX0_settles_110
    have e200 : ((200 : Int32) < nI x) = (200 < x) := xI_lt (a := 200) (by decide) (by omega)
    by_cases gx : x = 201
    · subst gx
      refine ⟨m, f, h, ν, ?_, yKz.rfl' _, H, D, E2⟩
      rw [yIf e200, if_pos (by omega)]
    · have ex := on gx
      have hx := (yEb_act ex).1
      have T2 := yDo_ok O T hx
      have lt := yNum_lt O T2
      have q4 := D.2.2.2.1 n (by omega)
      obtain ⟨m1, f1, h1, ν1, c1, c2, c3, c4, c5, c6⟩ := yc_come O hl (b := b) hN (σ := σ) T eτ ex (yHeap_put H (yDo φ τ x)) D E2
      have e1 : fX0_does N (nI x) ν = some (yPut ν (yDo φ τ x)) := by
        have := yc_does O F T N hx
        rw [A] at this
        exact this
      have e3 := yc_of O (yFC_put F (yDo φ τ x)) N hx hb
      have e10 : (yPut ν (yDo φ τ x)).1 10 (t n) = nI (f (t n)) := (yHeap_put H (yDo φ τ x)).2.2.1 (t n) q4.1
      have un : yUn (t n) = τ := by rw [← eτ]; exact yUn_num O T
      have F1 : yFC φ ν1 := (yKz_ks c2 c3).fc (yFC_put F _)
      have nx := yc_nx O F1 T (N := N) (by omega) (a := x + 1) (by omega)
      have add1 : nI x + (1 : Int32) = nI (x + 1) := nI_add x 1
      obtain ⟨m2, f2, h2, ν2, i1, i2, i3, i4, i5⟩ := ih M (x + 1) m1 f1 h1 (yPut ν1 τ) (by omega) (by omega) (by omega) (yFC_put F1 τ) (yAt_put _ _) (yHeap_put c4 τ) c5 c6
      refine ⟨m2, f2, h2, ν2, ?_, ((yKz_put ν _).trans (yKz_ks c2 c3)).trans ((yKz_put ν1 τ).trans i2), i3, i4, i5⟩
      rw [yIf e200, if_neg (by omega), e1, yBV, yc_state, yBd, yG (xI_in q4.1 (by decide)), e3, yBd, xI_cl (by omega), e10, nI_add, c1, yBV, yc_be ν1 (s := t n) (by omega) N, yBV, un, add1, nx, yBd]
      exact i1
