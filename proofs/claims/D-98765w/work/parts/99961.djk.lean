set_option maxRecDepth 100000
/-! part 99961: the nearest first: what holds all the way -/
def yCn (p : Nat → Bool) : Nat → Nat
  | 0 => 0
  | n + 1 => yCn p n + (if p n = true then 1 else 0)
theorem yCn_le (p : Nat → Bool) : ∀ n, yCn p n ≤ n
  | 0 => Nat.le_refl _
  | n + 1 => by
    have := yCn_le p n
    show yCn p n + (if p n = true then 1 else 0) ≤ n + 1
    split <;> omega
theorem yCn_lt {p : Nat → Bool} {i : Nat} (h : p i = false) : ∀ n, i < n → yCn p n < n
  | 0, hi => absurd hi (by omega)
  | n + 1, hi => by
    show yCn p n + (if p n = true then 1 else 0) < n + 1
    by_cases q : i = n
    · subst q
      rw [h]
      have := yCn_le p i
      simp
      omega
    · have := yCn_lt h n (by omega)
      split <;> omega
theorem yCn_eq {p q : Nat → Bool} : ∀ n, (∀ i, i < n → p i = q i) → yCn p n = yCn q n
  | 0, _ => rfl
  | n + 1, h => by
    show yCn p n + (if p n = true then 1 else 0) = yCn q n + (if q n = true then 1 else 0)
    rw [yCn_eq n fun i hi => h i (by omega), h n (by omega)]
theorem yCn_one {p q : Nat → Bool} {i : Nat} (h0 : p i = false) (h1 : q i = true) (h2 : ∀ j, j ≠ i → q j = p j) : ∀ n, i < n → yCn q n = yCn p n + 1
  | 0, hi => absurd hi (by omega)
  | n + 1, hi => by
    show yCn q n + (if q n = true then 1 else 0) = yCn p n + (if p n = true then 1 else 0) + 1
    by_cases e : i = n
    · subst e
      rw [h0, h1, yCn_eq i fun j hj => h2 j (by omega)]
      simp
    · rw [yCn_one h0 h1 h2 n (by omega), h2 n (by omega)]
      omega
/-- f: least costs so far; h: the m states in the heap; t: the n states that are settled -/
def yDj (φ : Nat → Nat → Nat) (b : Nat) (σ : ySt) (n m : Nat) (f h t : Nat → Nat) : Prop :=
  (∀ s, s < 100352 → f s ≠ 1000000000 → ∃ τ, ySok φ τ ∧ yNum τ = s ∧ yW φ 1000 b σ τ (f s)) ∧
  (∀ s, s < 100352 → f s ≤ 1000000000) ∧
  (∀ s, s < 100352 → (f s ≠ 1000000000 ↔ (∃ i, i < n ∧ t i = s) ∨ (∃ k, k < m ∧ h k = s))) ∧
  (∀ i, i < n → t i < 100352 ∧ f (t i) ≤ 999000000 ∧ ∀ j, j < n → t i = t j → i = j) ∧
  (∀ i k, i < n → k < m → t i ≠ h k) ∧
  (∀ i j, i ≤ j → j < n → f (t i) ≤ f (t j)) ∧
  (∀ i k, i < n → k < m → f (t i) ≤ f (h k)) ∧
  f (yNum σ) = 0 ∧
  n + m = yCn (fun s => decide (f s ≠ 1000000000)) 100352
/-- the acts below A from the last settled one, and all acts from those ahead of it, are done -/
def yEg (φ : Nat → Nat → Nat) (b n A : Nat) (f t : Nat → Nat) : Prop :=
  ∀ i, i < n → ∀ τ, ySok φ τ → yNum τ = t i → ∀ a, yEb φ τ a = true → (i + 1 < n ∨ a < A) → f (yNum (yDo φ τ a)) ≤ f (t i) + yCst φ 1000 b a
theorem yDj_low {φ : Nat → Nat → Nat} {b n m : Nat} {σ : ySt} {f h t : Nat → Nat} (O : yOk φ) (S : ySok φ σ) (D : yDj φ b σ n m f h t) (E : yEg φ b n 201 f t) {τ : ySt} {c : Nat} (w : yW φ 1000 b σ τ c) :
    (∃ i, i < n ∧ t i = yNum τ ∧ f (t i) ≤ c) ∨ (∃ k, k < m ∧ f (h k) ≤ c) := by
  obtain ⟨d1, d2, d3, d4, d5, d6, d7, d8, d9⟩ := D
  have key : ySok φ τ ∧ ((∃ i, i < n ∧ t i = yNum τ ∧ f (t i) ≤ c) ∨ (∃ k, k < m ∧ f (h k) ≤ c)) := by
    refine yW.ind (P := fun τ c => ySok φ τ ∧ ((∃ i, i < n ∧ t i = yNum τ ∧ f (t i) ≤ c) ∨ (∃ k, k < m ∧ f (h k) ≤ c))) ⟨S, ?_⟩ (fun τ c a _ p e => ?_) w
    · rcases (d3 _ (yNum_lt O S)).mp (by rw [d8]; decide) with ⟨i, hi, e⟩ | ⟨k, hk, e⟩
      · left
        exact ⟨i, hi, e, by rw [e, d8]; exact Nat.le_refl _⟩
      · right
        exact ⟨k, hk, by rw [e, d8]; exact Nat.le_refl _⟩
    · obtain ⟨T, p⟩ := p
      have ha := (yEb_act e).1
      have T2 := yDo_ok O T ha
      refine ⟨T2, ?_⟩
      rcases p with ⟨i, hi, e1, e2⟩ | ⟨k, hk, e2⟩
      · have g := E i hi τ T e1.symm a e (Or.inr (by have := ha.le; omega))
        have lt := yNum_lt O T2
        have x := (d4 i hi).2.1
        have y := yCst_le O (H := 1000) (b := b) (by decide) ha
        rcases (d3 _ lt).mp (by omega) with ⟨j, hj, e3⟩ | ⟨k, hk, e3⟩
        · left
          exact ⟨j, hj, e3, by rw [e3]; omega⟩
        · right
          exact ⟨k, hk, by rw [e3]; omega⟩
      · right
        exact ⟨k, hk, by omega⟩
  exact key.2
/-- the nearest is taken out of the heap and settled -/
theorem yDj_pop {φ : Nat → Nat → Nat} {b n m : Nat} {σ : ySt} {f h t g : Nat → Nat} (O : yOk φ) (S : ySok φ σ) (D : yDj φ b σ n (m + 1) f h t) (E : yEg φ b n 201 f t)
    (hB : ∀ τ c, yW φ 1000 b σ τ c → ∃ c', yW φ 1000 b σ τ c' ∧ c' ≤ 999000000) (hh : ∀ k, k < m + 1 → h k < 100352) (hl : ∀ k, k < m + 1 → f (h 0) ≤ f (h k))
    (hg : ∀ s, (∃ k, k < m ∧ g k = s) ↔ ((∃ k, k < m + 1 ∧ h k = s) ∧ s ≠ h 0)) :
    yDj φ b σ (n + 1) m f g (yUf t n (h 0)) ∧ yEg φ b (n + 1) 0 f (yUf t n (h 0)) ∧ n < 100352 := by
  have D' := D
  obtain ⟨d1, d2, d3, d4, d5, d6, d7, d8, d9⟩ := D
  have h0 := hh 0 (by omega)
  have fin : f (h 0) ≠ 1000000000 := (d3 _ h0).mpr (Or.inr ⟨0, by omega, rfl⟩)
  obtain ⟨τ, T, eτ, w⟩ := d1 _ h0 fin
  obtain ⟨c', w', hc⟩ := hB τ _ w
  have low : f (h 0) ≤ 999000000 := by
    rcases yDj_low O S D' E w' with ⟨i, hi, e, _⟩ | ⟨k, hk, e⟩
    · exact absurd (e.trans eτ) (d5 i 0 hi (by omega))
    · have := hl k hk
      omega
  have tn : yUf t n (h 0) n = h 0 := yUf_s t n _
  have to : ∀ i, i < n → yUf t n (h 0) i = t i := fun i hi => yUf_o t _ (by omega)
  refine ⟨⟨d1, d2, fun s hs => ?_, fun i hi => ?_, fun i k hi hk => ?_, fun i j hij hj => ?_, fun i k hi hk => ?_, d8, by omega⟩, fun i hi ρ R e a ea ca => ?_, ?_⟩
  · rw [d3 s hs]
    constructor
    · rintro (⟨i, hi, e⟩ | ⟨k, hk, e⟩)
      · left; exact ⟨i, by omega, by rw [to i hi]; exact e⟩
      · by_cases q : s = h 0
        · left; exact ⟨n, by omega, by rw [tn]; exact q.symm⟩
        · right; exact (hg s).mpr ⟨⟨k, hk, e⟩, q⟩
    · rintro (⟨i, hi, e⟩ | ⟨k, hk, e⟩)
      · by_cases q : i = n
        · right; rw [q, tn] at e; exact ⟨0, by omega, e⟩
        · left; rw [to i (by omega)] at e; exact ⟨i, by omega, e⟩
      · right; exact ((hg s).mp ⟨k, hk, e⟩).1
  · by_cases q : i = n
    · rw [q, tn]
      refine ⟨h0, low, fun j hj e => ?_⟩
      by_cases q2 : j = n
      · exact q2.symm
      · rw [to j (by omega)] at e
        exact absurd e.symm (d5 j 0 (by omega) (by omega))
    · have hi' : i < n := by omega
      rw [to i hi']
      obtain ⟨x, y, z⟩ := d4 i hi'
      refine ⟨x, y, fun j hj e => ?_⟩
      by_cases q2 : j = n
      · rw [q2, tn] at e
        exact absurd e (d5 i 0 hi' (by omega))
      · rw [to j (by omega)] at e
        exact z j (by omega) e
  · obtain ⟨⟨k2, hk2, e2⟩, ne⟩ := (hg (g k)).mp ⟨k, hk, rfl⟩
    by_cases q : i = n
    · rw [q, tn]; exact fun e => ne e.symm
    · rw [to i (by omega), ← e2]; exact d5 i k2 (by omega) hk2
  · by_cases q : j = n
    · by_cases q2 : i = n
      · rw [q, q2]; exact Nat.le_refl _
      · rw [q, tn, to i (by omega)]; exact d7 i 0 (by omega) (by omega)
    · rw [to j (by omega), to i (by omega)]; exact d6 i j hij (by omega)
  · obtain ⟨⟨k2, hk2, e2⟩, ne⟩ := (hg (g k)).mp ⟨k, hk, rfl⟩
    by_cases q : i = n
    · rw [q, tn, ← e2]; exact hl k2 hk2
    · rw [to i (by omega), ← e2]; exact d7 i k2 (by omega) hk2
  · have hi' : i < n := by
      rcases ca with ca | ca
      · omega
      · omega
    rw [to i hi'] at e ⊢
    exact E i hi' ρ R e a ea (Or.inr (by have := yEb_le ea; omega))
  · have := yCn_le (fun s => decide (f s ≠ 1000000000)) 100352
    omega
/-- a state that is reached as cheaply already: nothing changes -/
theorem yDj_no {φ : Nat → Nat → Nat} {b n a : Nat} {f t : Nat → Nat} {τ : ySt} (O : yOk φ) (T : ySok φ τ) (E : yEg φ b (n + 1) a f t) (eτ : yNum τ = t n) (hle : f (yNum (yDo φ τ a)) ≤ f (t n) + yCst φ 1000 b a) :
    yEg φ b (n + 1) (a + 1) f t := by
  intro i hi ρ R e x ex cx
  by_cases q : i + 1 < n + 1
  · exact E i hi ρ R e x ex (Or.inl q)
  · have : i = n := by omega
    subst this
    have : ρ = τ := yNum_inj O R T (e.trans eτ.symm)
    subst this
    by_cases q2 : x = a
    · rw [q2]; exact hle
    · exact E i hi ρ R e x ex (Or.inr (by omega))
/-- a state is reached, or cheaper than before -/
theorem yDj_up {φ : Nat → Nat → Nat} {b n m m2 a : Nat} {σ τ : ySt} {f h t g : Nat → Nat} (O : yOk φ) (D : yDj φ b σ (n + 1) m f h t) (E : yEg φ b (n + 1) a f t) (T : ySok φ τ) (eτ : yNum τ = t n) (ea : yEb φ τ a = true) (hl : 0 < φ 0 0)
    (hlt : f (t n) + yCst φ 1000 b a < f (yNum (yDo φ τ a)))
    (hm : (f (yNum (yDo φ τ a)) = 1000000000 ∧ m2 = m + 1 ∧ ∀ s, (∃ k, k < m2 ∧ g k = s) ↔ ((∃ k, k < m ∧ h k = s) ∨ s = yNum (yDo φ τ a))) ∨ (f (yNum (yDo φ τ a)) ≠ 1000000000 ∧ m2 = m ∧ ∀ s, (∃ k, k < m2 ∧ g k = s) ↔ (∃ k, k < m ∧ h k = s))) :
    yDj φ b σ (n + 1) m2 (yUf f (yNum (yDo φ τ a)) (f (t n) + yCst φ 1000 b a)) g t ∧ yEg φ b (n + 1) (a + 1) (yUf f (yNum (yDo φ τ a)) (f (t n) + yCst φ 1000 b a)) t ∧
    (f (yNum (yDo φ τ a)) ≠ 1000000000 → ∃ k, k < m ∧ h k = yNum (yDo φ τ a)) := by
  obtain ⟨d1, d2, d3, d4, d5, d6, d7, d8, d9⟩ := D
  have ha := (yEb_act ea).1
  have T2 := yDo_ok O T ha
  have lt := yNum_lt O T2
  have cp := yCst_pos hl 1000 b a
  have w : yW φ 1000 b σ (yDo φ τ a) (f (t n) + yCst φ 1000 b a) := by
    have x := d4 n (by omega)
    obtain ⟨ρ, R, e, w⟩ := d1 (t n) x.1 (by omega)
    have : ρ = τ := yNum_inj O R T (e.trans eτ.symm)
    subst this
    exact w.snoc ea
  generalize hs : yNum (yDo φ τ a) = s' at *
  generalize hv : f (t n) + yCst φ 1000 b a = v at *
  have s2 := d2 s' lt
  have nots : ∀ i, i < n + 1 → t i ≠ s' := fun i hi e => by
    have := d6 i n (by omega) (by omega)
    rw [e] at this
    omega
  have ft : ∀ i, i < n + 1 → yUf f s' v (t i) = f (t i) := fun i hi => yUf_o f v (nots i hi)
  have gm : ∀ s, s < 100352 → ((∃ k, k < m2 ∧ g k = s) ↔ ((∃ k, k < m ∧ h k = s) ∨ s = s')) := by
    intro s hs2
    rcases hm with ⟨_, _, h3⟩ | ⟨h1, _, h3⟩
    · exact h3 s
    · rw [h3 s]
      constructor
      · exact fun x => Or.inl x
      · rintro (x | x)
        · exact x
        · rcases (d3 s' lt).mp h1 with ⟨i, hi, e⟩ | y
          · exact absurd e (nots i hi)
          · rw [x]; exact y
  refine ⟨⟨fun s hs2 ne => ?_, fun s hs2 => ?_, fun s hs2 => ?_, fun i hi => ?_, fun i k hi hk => ?_, fun i j hij hj => ?_, fun i k hi hk => ?_, ?_, ?_⟩, fun i hi ρ R e x ex cx => ?_, fun ne => ?_⟩
  · by_cases q : s = s'
    · rw [q, yUf_s]
      exact ⟨_, T2, by rw [hs], w⟩
    · rw [yUf_o f v q] at ne ⊢
      exact d1 s hs2 ne
  · by_cases q : s = s'
    · rw [q, yUf_s]; omega
    · rw [yUf_o f v q]; exact d2 s hs2
  · rw [gm s hs2]
    by_cases q : s = s'
    · rw [q, yUf_s]
      constructor
      · exact fun _ => Or.inr (Or.inr rfl)
      · intro _; omega
    · rw [yUf_o f v q, d3 s hs2]
      constructor
      · rintro (x | x)
        · exact Or.inl x
        · exact Or.inr (Or.inl x)
      · rintro (x | x | x)
        · exact Or.inl x
        · exact Or.inr x
        · exact absurd x q
  · rw [ft i hi]; exact d4 i hi
  · intro e
    have lt2 := (d4 i hi).1
    rcases (gm (t i) lt2).mp ⟨k, hk, e.symm⟩ with ⟨k2, hk2, e2⟩ | e2
    · exact d5 i k2 hi hk2 e2.symm
    · exact nots i hi e2
  · rw [ft i (by omega), ft j hj]; exact d6 i j hij hj
  · rw [ft i hi]
    by_cases q : g k = s'
    · rw [q, yUf_s]
      have := d6 i n (by omega) (by omega)
      omega
    · rw [yUf_o f v q]
      have hg : g k < 100352 ∨ 100352 ≤ g k := by omega
      rcases hm with ⟨_, _, h3⟩ | ⟨_, _, h3⟩
      · rcases (h3 (g k)).mp ⟨k, hk, rfl⟩ with ⟨k2, hk2, e2⟩ | e2
        · rw [← e2]; exact d7 i k2 hi hk2
        · exact absurd e2 q
      · obtain ⟨k2, hk2, e2⟩ := (h3 (g k)).mp ⟨k, hk, rfl⟩
        rw [← e2]; exact d7 i k2 hi hk2
  · by_cases q : yNum σ = s'
    · rw [← q] at hlt; omega
    · rw [yUf_o f v q]; exact d8
  · rcases hm with ⟨h1, h2, _⟩ | ⟨h1, h2, _⟩
    · rw [h2]
      have := yCn_one (p := fun s => decide (f s ≠ 1000000000)) (q := fun s => decide (yUf f s' v s ≠ 1000000000)) (i := s') (by simp [h1]) (by simp [yUf_s]; omega) (fun j hj => by simp [yUf_o f v hj]) 100352 lt
      omega
    · rw [h2, d9]
      refine (yCn_eq 100352 fun j _ => ?_)
      by_cases q : j = s'
      · simp [q, yUf_s, h1]; omega
      · simp [yUf_o f v q]
  · rw [ft i hi]
    have old : (i + 1 < n + 1 ∨ x < a) → yUf f s' v (yNum (yDo φ ρ x)) ≤ f (t i) + yCst φ 1000 b x := fun c => by
      have y := E i hi ρ R e x ex c
      by_cases q : yNum (yDo φ ρ x) = s'
      · rw [q, yUf_s]; rw [q] at y; omega
      · rw [yUf_o f v q]; exact y
    by_cases q : i + 1 < n + 1
    · exact old (Or.inl q)
    · by_cases q2 : x = a
      · have e1 : i = n := by omega
        subst e1
        have : ρ = τ := yNum_inj O R T (e.trans eτ.symm)
        subst this
        subst q2
        rw [hs, yUf_s, hv]
        exact Nat.le_refl _
      · exact old (Or.inr (by omega))
  · rcases (d3 s' lt).mp ne with ⟨i, hi, e⟩ | y
    · exact absurd e (nots i hi)
    · exact y
