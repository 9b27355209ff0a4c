set_option maxRecDepth 100000
/-! part 99999: had, both sides the same -/
theorem yLeq_iff {q : Nat → Bool} : ∀ m, yLeq q m = true ↔ ∃ e, e < m ∧ q e = true
  | 0 => ⟨fun h => (by cases h), fun ⟨_, a, _⟩ => absurd a (by omega)⟩
  | m + 1 => by
    show (yLeq q m || q m) = true ↔ _
    rw [Bool.or_eq_true, yLeq_iff m]
    constructor
    · rintro (⟨e, a, b⟩ | b)
      · exact ⟨e, by omega, b⟩
      · exact ⟨m, by omega, b⟩
    · rintro ⟨e, a, b⟩
      by_cases y : e = m
      · subst y; exact Or.inr b
      · exact Or.inl ⟨e, by omega, b⟩
theorem yQm_ne {f : Nat → List (Nat × Nat)} : ∀ m, yQm m f ≠ [] ↔ ∃ k, k < m ∧ f k ≠ []
  | 0 => ⟨fun h => absurd rfl h, fun ⟨_, a, _⟩ => absurd a (by omega)⟩
  | m + 1 => by
    have ih := yQm_ne (f := f) m
    rw [yQm_s]
    constructor
    · intro h
      by_cases g : yQm m f = []
      · exact ⟨m, by omega, fun z => h (by rw [g, z]; rfl)⟩
      · obtain ⟨k, a, b⟩ := ih.mp g
        exact ⟨k, by omega, b⟩
    · rintro ⟨k, a, b⟩ h
      have h2 := List.append_eq_nil_iff.mp h
      by_cases y : k = m
      · subst y; exact b h2.2
      · exact ih.mpr ⟨k, by omega, b⟩ h2.1
theorem yWz_ne {φ : Nat → Nat → Nat} (O : yOk φ) {w : Nat → Nat} (hw : ∀ i, w i % 10 < 2) (n r : Nat) {κ : Nat} (hv : yVz φ κ) : yWz φ w n (r + 1) (yTz φ κ) ≠ [] ↔ ∃ e, e < 100 ∧ yOz φ w (n - (r + 1)) κ e = true ∧ yWz φ w n r (yTz φ (yNz φ w (n - (r + 1)) κ e)) ≠ [] := by
  have P := yWz_step O hw n r hv
  have a : yWz φ w n (r + 1) (yTz φ κ) ≠ [] ↔ (yQm 100 fun e => if yOz φ w (n - (r + 1)) κ e = true then (yWz φ w n r (yTz φ (yNz φ w (n - (r + 1)) κ e))).map fun x => (x.1, yRz φ w (n - (r + 1)) e + x.2) else []) ≠ [] := ⟨fun h z => h (by rw [z] at P; exact P.nil_eq.symm), fun h z => h (by rw [z] at P; exact P.eq_nil)⟩
  rw [a, yQm_ne]
  constructor
  · rintro ⟨e, b, c⟩
    by_cases g : yOz φ w (n - (r + 1)) κ e = true
    · rw [if_pos g] at c
      exact ⟨e, b, g, fun z => c (by rw [z]; rfl)⟩
    · rw [if_neg g] at c
      exact absurd rfl c
  · rintro ⟨e, b, c, d⟩
    exact ⟨e, b, by rw [if_pos c]; exact fun z => d (List.map_eq_nil_iff.mp z)⟩
theorem yLdz_W {φ : Nat → Nat → Nat} (O : yOk φ) {w : Nat → Nat} (hw : ∀ i, w i % 10 < 2) (n : Nat) : ∀ r κ, yVz φ κ → (yLdz φ w n r κ = true ↔ yWz φ w n r (yTz φ κ) ≠ [])
  | 0, κ, _ => ⟨fun _ => List.cons_ne_nil _ _, fun _ => rfl⟩
  | r + 1, κ, V => by
    rw [yWz_ne O hw n r V]
    show yLeq (fun e => yOz φ w (n - (r + 1)) κ e && yLdz φ w n r (yNz φ w (n - (r + 1)) κ e)) 100 = true ↔ _
    rw [yLeq_iff]
    constructor
    · rintro ⟨e, a, b⟩
      rw [Bool.and_eq_true] at b
      exact ⟨e, a, b.1, (yLdz_W O hw n r _ (yNz_v O hw b.1)).mp b.2⟩
    · rintro ⟨e, a, b, c⟩
      exact ⟨e, a, by rw [Bool.and_eq_true]; exact ⟨b, (yLdz_W O hw n r _ (yNz_v O hw b)).mpr c⟩⟩
theorem yEs_inv {ok : Nat → Bool} {nx ri : Nat → Nat} {L : List Nat} {f : Nat → List Nat} {κ : Nat} : ∀ m, yEs ok nx ri L m f κ ≠ [] → f κ ≠ [] ∨ (L ≠ [] ∧ ∃ e, e < m ∧ ok e = true ∧ κ = nx e)
  | 0 => Or.inl
  | m + 1 => fun h => by
    have ih := yEs_inv (ok := ok) (nx := nx) (ri := ri) (L := L) (f := f) (κ := κ) m
    have up : (L ≠ [] ∧ ∃ e, e < m ∧ ok e = true ∧ κ = nx e) → (L ≠ [] ∧ ∃ e, e < m + 1 ∧ ok e = true ∧ κ = nx e) := fun ⟨a, e, b, c⟩ => ⟨a, e, by omega, c⟩
    have h' : (if ok m = true then yAp (yEs ok nx ri L m f) (nx m) (L.map (· + ri m)) else yEs ok nx ri L m f) κ ≠ [] := h
    by_cases q : ok m = true
    · rw [if_pos q] at h'
      unfold yAp at h'
      by_cases g : κ = nx m
      · rw [if_pos g] at h'
        by_cases z : yEs ok nx ri L m f κ = []
        · exact Or.inr ⟨fun y => h' (by rw [z, y]; rfl), m, by omega, q, g⟩
        · exact (ih z).imp id up
      · rw [if_neg g] at h'
        exact (ih h').imp id up
    · rw [if_neg q] at h'
      exact (ih h').imp id up
theorem yFz_inv {φ : Nat → Nat → Nat} {w : Nat → Nat} {i s : Nat} (h : yFz φ w (i + 1) s ≠ []) : ∃ s0 e, s0 < 3136 ∧ yFz φ w i s0 ≠ [] ∧ e < 100 ∧ yOz φ w i s0 e = true ∧ s = yNz φ w i s0 e := by
  have st : ∀ m, ySt1 (yOz φ w i) (yNz φ w i) (fun _ => yRz φ w i) (yFz φ w i) m s ≠ [] → ∃ s0 e, s0 < m ∧ yFz φ w i s0 ≠ [] ∧ e < 100 ∧ yOz φ w i s0 e = true ∧ s = yNz φ w i s0 e := fun m => by
    induction m with
    | zero => exact fun h => absurd rfl h
    | succ m ih =>
      intro h
      have h' : yEs (yOz φ w i m) (yNz φ w i m) (yRz φ w i) (yFz φ w i m) 100 (ySt1 (yOz φ w i) (yNz φ w i) (fun _ => yRz φ w i) (yFz φ w i) m) s ≠ [] := h
      rcases yEs_inv 100 h' with a | ⟨a, e, b, c, d⟩
      · obtain ⟨s0, e, x, y⟩ := ih a
        exact ⟨s0, e, by omega, y⟩
      · exact ⟨m, e, by omega, a, b, c, d⟩
  exact st 3136 h
/-- an act by its number or by its person and child -/
theorem yTk_e {φ : Nat → Nat → Nat} (O : yOk φ) {w : Nat → Nat} {n i κ e : Nat} (ok : yOz φ w i κ e = true) (h : yWz φ w n (n - (i + 1)) (yTz φ (yNz φ w i κ e)) ≠ []) : e % 10 < φ 0 2 ∧ e / 10 ≤ φ 0 2 ∧ yTk φ w n i κ (e % 10) (e / 10) ∧ yCk φ w i κ (e % 10) (e / 10) = yTz φ (yNz φ w i κ e) := by
  obtain ⟨_, _, a, b, _, _⟩ := yOz_act O ok
  have e10 : 10 * (e / 10) + e % 10 = e := by omega
  refine ⟨a, b, ?_, ?_⟩
  · unfold yTk yCk
    rw [e10]
    exact ⟨ok, h⟩
  · unfold yCk
    rw [e10]
theorem yRz2_to {φ : Nat → Nat → Nat} (O : yOk φ) {w : Nat → Nat} (hw : ∀ i, w i % 10 < 2) {n : Nat} : ∀ i s, i ≤ n → yFz φ w i s ≠ [] → yWz φ w n (n - i) (yTz φ s) ≠ [] → yRz2 φ w n i (yTz φ s)
  | 0, s, _, h, _ => by
    have h' : (if s = 0 then [0] else []) ≠ ([] : List Nat) := h
    by_cases q : s = 0
    · subst q
      show yTz φ 0 = 0
      unfold yTz
      split <;> rfl
    · rw [if_neg q] at h'
      exact absurd rfl h'
  | i + 1, s, hi, h, hW => by
    obtain ⟨s0, e, a, b, c, ok, d⟩ := yFz_inv h
    have V := yFz_v O hw i s0 b
    obtain ⟨t1, t2⟩ := yTz_v2 O hw (i := i) (e := e) V
    have ok2 : yOz φ w i (yTz φ s0) e = true := t1.trans ok
    have n2 := t2 ok
    have r1 : n - i = (n - (i + 1)) + 1 := by omega
    have r2 : n - ((n - (i + 1)) + 1) = i := by omega
    have hW0 : yWz φ w n (n - i) (yTz φ s0) ≠ [] := by
      rw [r1, yWz_ne O hw n _ V, r2]
      exact ⟨e, c, ok, by rw [← d]; exact hW⟩
    have ih := yRz2_to O hw i s0 (by omega) b hW0
    obtain ⟨p1, p2, p3, p4⟩ := yTk_e (n := n) O ok2 (by rw [n2, ← d]; exact hW)
    exact ⟨yTz φ s0, yVz_lt O (yTz_v V), ih, hW0, e % 10, p1, e / 10, p2, p3, by rw [p4, n2, ← d]⟩
theorem yRz2_from {φ : Nat → Nat → Nat} (O : yOk φ) {w : Nat → Nat} (hw : ∀ i, w i % 10 < 2) {n : Nat} : ∀ i y, yRz2 φ w n i y → ∃ s, s < 3136 ∧ yFz φ w i s ≠ [] ∧ yTz φ s = y
  | 0, y, h => ⟨0, by decide, List.cons_ne_nil _ _, by
    have : y = 0 := h
    rw [this]
    unfold yTz
    split <;> rfl⟩
  | i + 1, x, ⟨y, _, y2, _, p, hp, c, hc, t, e⟩ => by
    obtain ⟨s0, a, b, d⟩ := yRz2_from O hw i y y2
    have V := yFz_v O hw i s0 b
    obtain ⟨t1, t2⟩ := yTz_v2 O hw (i := i) (e := 10 * c + p) V
    have ok : yOz φ w i s0 (10 * c + p) = true := by
      rw [← t1, d]
      exact t.1
    have n2 := t2 ok
    have f := yFz_ne O b a ok
    exact ⟨_, yVz_lt O (yFz_v O hw (i + 1) _ f), f, by rw [← n2, d, e]; rfl⟩
theorem yHs_Q {φ : Nat → Nat → Nat} (O : yOk φ) {w : Nat → Nat} (hw : ∀ i, w i % 10 < 2) {n i : Nat} (hi : i < n) : yMsk (yHs φ w n i 3136) (yQz φ w n i) := (yHs_bit φ w n i 3136).ext fun q => by
  have r1 : n - i = (n - (i + 1)) + 1 := by omega
  have r2 : n - ((n - (i + 1)) + 1) = i := by omega
  constructor
  · rintro ⟨s, a, b, e, c, d, f⟩
    have V := yFz_v O hw i s b
    unfold yQd at d
    rw [Bool.and_eq_true] at d
    have hW := (yLdz_W O hw n _ _ (yNz_v O hw d.1)).mp d.2
    have hW0 : yWz φ w n (n - i) (yTz φ s) ≠ [] := by
      rw [r1, yWz_ne O hw n _ V, r2]
      exact ⟨e, c, d.1, hW⟩
    obtain ⟨t1, t2⟩ := yTz_v2 O hw (i := i) (e := e) V
    obtain ⟨p1, p2, p3, p4⟩ := yTk_e (n := n) O (t1.trans d.1) (by rw [t2 d.1]; exact hW)
    refine ⟨yTz φ s, yVz_lt O (yTz_v V), yRz2_to O hw i s (by omega) b hW0, hW0, ?_⟩
    rw [← f]
    exact ⟨p1, e / 10, p2, p3⟩
  · rintro ⟨y, y1, y2, y3, y4, c, y5, t⟩
    obtain ⟨s, a, b, d⟩ := yRz2_from O hw i y y2
    have V := yFz_v O hw i s b
    obtain ⟨t1, t2⟩ := yTz_v2 O hw (i := i) (e := 10 * c + q) V
    have ok : yOz φ w i s (10 * c + q) = true := by
      rw [← t1, d]
      exact t.1
    have h6 := O.persons
    refine ⟨s, a, b, 10 * c + q, by omega, ?_, by omega⟩
    unfold yQd
    rw [Bool.and_eq_true]
    refine ⟨ok, (yLdz_W O hw n _ _ (yNz_v O hw ok)).mpr ?_⟩
    rw [← t2 ok, d]
    exact t.2
