set_option maxRecDepth 100000
/-- the family in the cells f .. f + 6 and that in the cells 1 .. 7 change names -/
def wSw (f i : Nat) : Nat := if 1 ≤ i ∧ i ≤ 7 then f + (i - 1) else if f ≤ i ∧ i < f + 7 then i - f + 1 else i
theorem wSw_inv {f : Nat} (hf : 8 ≤ f) (i : Nat) : wSw f (wSw f i) = i := by
  unfold wSw
  split <;> rename_i h1
  · rw [if_neg (by omega), if_pos (by omega)]; omega
  · split <;> rename_i h2
    · rw [if_pos (by omega)]; omega
    · rfl
theorem wSw_id {f i : Nat} (h : 8 ≤ i) (h2 : i < f) : wSw f i = i := by
  unfold wSw
  rw [if_neg (by omega), if_neg (by omega)]
theorem wSw_0 {f : Nat} (hf : 8 ≤ f) : wSw f 0 = 0 := by
  unfold wSw
  rw [if_neg (by omega), if_neg (by omega)]
theorem wSw_lo {f j : Nat} (h : j < 7) : wSw f (1 + j) = f + j := by
  unfold wSw
  rw [if_pos (by omega)]; omega
theorem wSw_hi {f j : Nat} (hf : 8 ≤ f) (h : j < 7) : wSw f (f + j) = 1 + j := by
  unfold wSw
  rw [if_neg (by omega), if_pos (by omega)]; omega
theorem wSw_lt {f n i : Nat} (hf : 8 ≤ f) (hn : f + 7 ≤ n) (hi : i < n) : wSw f i < n := by
  unfold wSw
  split
  · omega
  · split <;> omega
theorem wSw_inj {f i j : Nat} (hf : 8 ≤ f) (h : wSw f i = wSw f j) : i = j := by
  rw [← wSw_inv hf i, ← wSw_inv hf j, h]
def wRnF (f : Nat) (x : Nat × Nat) : Nat × Nat := if x.1 = 2 then (2, wSw f x.2) else x
def wRn (f : Nat) : wCell → wCell
  | .inl o => .inl (o.1, o.2.map (wRnF f))
  | .inr a => .inr a
def wSwap (f : Nat) (V : List wCell) : List wCell := (List.range V.length).map fun i => wRn f (V.getD (wSw f i) (.inr (0, 0)))
theorem wSwap_len {f : Nat} {V : List wCell} : (wSwap f V).length = V.length := by simp [wSwap]
theorem wSwap_get {f : Nat} {V : List wCell} {i : Nat} {d : wCell} (hi : i < V.length) (h : V[wSw f i]? = some d) : (wSwap f V)[i]? = some (wRn f d) := by
  unfold wSwap
  rw [List.getElem?_map, List.getElem?_range hi]
  simp [h]
/-- no digit of an array of references is a family's cell -/
def wDgF (f : Nat) (V : List wCell) : Prop := ∀ t n, (Sum.inr (t, n) : wCell) ∈ V → 4 < t → ∀ i, i < 16 → wRd t i ≠ 0 → wSw f (wRd t i - 1) = wRd t i - 1
theorem wZip_map {f : Nat} : ∀ (L : List (Nat × Nat)) (x : (Nat × Nat) × (Nat × Nat)), x ∈ (L.map (wRnF f)).zip L → x.1 = wRnF f x.2 := by
  intro L
  induction L with
  | nil => intro x hx; cases hx
  | cons a L ih =>
    intro x hx
    rw [List.map_cons, List.zip_cons_cons] at hx
    rcases List.mem_cons.mp hx with h | h
    · rw [h]
    · exact ih x h
theorem wRn_rel {f : Nat} {d : wCell} (hf : 8 ≤ f) (hd : ∀ t n, d = .inr (t, n) → 4 < t → ∀ i, i < 16 → wRd t i ≠ 0 → wSw f (wRd t i - 1) = wRd t i - 1) : wRelB [] (wSw f) (wRn f d) d = true := by
  cases d with
  | inl o =>
    simp only [wRn, wRelB, Bool.and_eq_true, beq_iff_eq, List.all_eq_true, true_and, List.length_map]
    intro x hx
    have := wZip_map _ _ hx
    obtain ⟨x1, x2⟩ := x
    simp only [] at this ⊢
    subst this
    unfold wRnF
    by_cases h2 : x2.1 = 2
    · rw [if_pos h2]
      simp [h2, wSw_inv hf]
    · rw [if_neg h2]
      simp [h2]
  | inr a =>
    obtain ⟨t, n⟩ := a
    simp only [wRn, wRelB, Bool.and_eq_true, Bool.or_eq_true, beq_iff_eq, decide_eq_true_eq, true_and, true_or]
    by_cases h : t ≤ 4
    · exact Or.inl h
    · refine Or.inr ⟨by omega, by omega, ?_⟩
      rw [List.all_eq_true]
      intro i hi
      by_cases hz : wRd t i = 0
      · simp [hz]
      · simp [hz, hd t n rfl (by omega) i (List.mem_range.mp hi) hz]
theorem wSwap_perm {f : Nat} {V : List wCell} (hf : 8 ≤ f) (hn : f + 7 ≤ V.length) (hd : wDgF f V) (i : Nat) (d' : wCell) (h : (wSwap f V)[i]? = some d') : ∃ d, V[wSw f i]? = some d ∧ wRelB [] (wSw f) d' d = true := by
  have hi : i < V.length := by rw [← wSwap_len (f := f)]; exact (List.getElem?_eq_some_iff.mp h).1
  have hl := wSw_lt hf hn hi
  have h1 := List.getElem?_eq_getElem hl
  rw [wSwap_get hi h1] at h
  cases h
  exact ⟨_, h1, wRn_rel hf (fun t n e => hd t n (e ▸ List.getElem_mem hl))⟩
/-- a world with a family behind, that the object holds -/
def wFam (f : Nat) (V : List wCell) : Prop := V[0]? = some (wXf f) ∧ V[f]? = some (.inl (1, wFf6 (f + 1))) ∧ V[f + 1]? = some (.inr (0, 6)) ∧ V[f + 2]? = some (.inr (0, 6)) ∧ V[f + 3]? = some (.inr (0, 2)) ∧ V[f + 4]? = some (.inr (0, 2)) ∧ V[f + 5]? = some (.inr (0, 2)) ∧ V[f + 6]? = some (.inr (0, 40)) ∧ ∀ i, 8 ≤ i → i < 22 → V[i]? = spX[i]?
theorem wRn_X {f : Nat} (hf : 28 ≤ f) : wRn f (wXf f) = wXf 1 := by
  have h1 : wSw f f = 1 := by have := wSw_hi (f := f) (j := 0) (by omega) (by omega); simpa using this
  simp (disch := omega) [wRn, wRnF, wSw_id, h1]
theorem wRn_F {f : Nat} (hf : 28 ≤ f) : wRn f (.inl (1, wFf6 (f + 1))) = .inl (1, wFf6 2) := by
  have h1 : ∀ j, j < 6 → wSw f (f + 1 + j) = 2 + j := fun j hj => by have := wSw_hi (f := f) (j := 1 + j) (by omega) (by omega); rw [show f + 1 + j = f + (1 + j) by omega, this]; omega
  have g0 := h1 0 (by omega)
  have g1 := h1 1 (by omega)
  have g2 := h1 2 (by omega)
  have g3 := h1 3 (by omega)
  have g4 := h1 4 (by omega)
  have g5 := h1 5 (by omega)
  simp only [Nat.add_zero] at g0
  simp [wRn, wRnF, g0, g1, g2, g3, g4, g5]
theorem wSwap_X {f : Nat} {V : List wCell} (hf : 28 ≤ f) (hn : f + 7 ≤ V.length) (h : wFam f V) : spX ++ (wSwap f V).drop 22 = wSwap f V := by
  obtain ⟨h0, h1, h2, h3, h4, h5, h6, h7, h8⟩ := h
  refine wSplit (S := wSwap f V) ?_
  show (wSwap f V).take 22 = spX
  have hl : ∀ j, j < 7 → wSw f (1 + j) = f + j := fun j hj => wSw_lo hj
  have k0 : (wSwap f V)[0]? = some (wXf 1) := by rw [← wRn_X hf]; exact wSwap_get (by omega) (by rw [wSw_0 (by omega)]; exact h0)
  have k1 : (wSwap f V)[1]? = some (.inl (1, wFf6 2)) := by rw [← wRn_F hf]; exact wSwap_get (by omega) (by rw [show wSw f 1 = f from hl 0 (by omega)]; exact h1)
  have k2 : (wSwap f V)[2]? = some (.inr (0, 6)) := wSwap_get (d := .inr (0, 6)) (by omega) (by rw [show wSw f 2 = f + 1 from hl 1 (by omega)]; exact h2)
  have k3 : (wSwap f V)[3]? = some (.inr (0, 6)) := wSwap_get (d := .inr (0, 6)) (by omega) (by rw [show wSw f 3 = f + 2 from hl 2 (by omega)]; exact h3)
  have k4 : (wSwap f V)[4]? = some (.inr (0, 2)) := wSwap_get (d := .inr (0, 2)) (by omega) (by rw [show wSw f 4 = f + 3 from hl 3 (by omega)]; exact h4)
  have k5 : (wSwap f V)[5]? = some (.inr (0, 2)) := wSwap_get (d := .inr (0, 2)) (by omega) (by rw [show wSw f 5 = f + 4 from hl 4 (by omega)]; exact h5)
  have k6 : (wSwap f V)[6]? = some (.inr (0, 2)) := wSwap_get (d := .inr (0, 2)) (by omega) (by rw [show wSw f 6 = f + 5 from hl 5 (by omega)]; exact h6)
  have k7 : (wSwap f V)[7]? = some (.inr (0, 40)) := wSwap_get (d := .inr (0, 40)) (by omega) (by rw [show wSw f 7 = f + 6 from hl 6 (by omega)]; exact h7)
  have k8 : ∀ i, 8 ≤ i → i < 22 → (wSwap f V)[i]? = spX[i]? := by
    intro i hi hi2
    have hr : ∀ d, spX[i]? = some d → wRn f d = d := by
      intro d hd
      rcases i with _ | _ | _ | _ | _ | _ | _ | _ | _ | _ | _ | _ | _ | _ | _ | _ | _ | _ | _ | _ | _ | _ | i <;> first | omega | (cases hd; first | rfl | (simp [wRn, wRnF, wSw_0 (show 8 ≤ f by omega)]))
    have hsome : ∃ d, spX[i]? = some d := ⟨_, List.getElem?_eq_getElem (show i < spX.length from hi2)⟩
    obtain ⟨d, hd⟩ := hsome
    have := wSwap_get (f := f) (V := V) (i := i) (d := d) (by omega) (by rw [wSw_id hi (by omega), h8 i hi hi2]; exact hd)
    rw [this, hd, hr d hd]
  apply List.ext_getElem?
  intro i
  by_cases hi : i < 22
  · rw [List.getElem?_take_of_lt hi]
    by_cases h9 : 8 ≤ i
    · exact k8 i h9 hi
    · rcases i with _ | _ | _ | _ | _ | _ | _ | _ | i
      · exact k0
      · exact k1
      · exact k2
      · exact k3
      · exact k4
      · exact k5
      · exact k6
      · exact k7
      · omega
  · rw [List.getElem?_eq_none (by rw [List.length_take]; omega), List.getElem?_eq_none (show spX.length ≤ i from Nat.not_lt.mp hi)]
/-- what a family's making adds -/
theorem wFw6_new {sp : List wCell} {b t n : Nat} (h : (Sum.inr (t, n) : wCell) ∈ wFw6 sp b) (h4 : 4 < t) : (Sum.inr (t, n) : wCell) ∈ sp := by
  have key : ∀ {L : List wCell} {m : Nat} {fs : List (Nat × Nat)}, (Sum.inr (t, n) : wCell) ∈ (L ++ [Sum.inr (0, m)]).set b (Sum.inl (1, fs)) → (Sum.inr (t, n) : wCell) ∈ L := by
    intro L m fs h
    rcases List.mem_or_eq_of_mem_set h with h | h
    · rcases List.mem_append.mp h with h | h
      · exact h
      · have := List.mem_singleton.mp h
        cases this
        omega
    · cases h
  exact key (key (key (key (key (key h)))))
theorem wFam_of {sp : List wCell} {fs : List (Nat × Nat)} (h8 : ∀ i, 8 ≤ i → i < 22 → sp[i]? = spX[i]?) (hl : 28 ≤ sp.length) (hfs : fs = wFf0 0) {V : List wCell} (hV : ∀ i, i ≠ 0 → (i < 22 ∨ sp.length ≤ i) → V[i]? = (wFw6 (sp ++ [Sum.inl (1, fs)]) sp.length)[i]?) (h0 : V[0]? = some (wXf sp.length)) : wFam sp.length V := by
  subst hfs
  have hl1 : (sp ++ [Sum.inl (1, wFf0 0)] : List wCell).length = sp.length + 1 := by simp
  have hlt : sp.length < (sp ++ [Sum.inl (1, wFf0 0)] : List wCell).length := by omega
  have hW : (sp ++ [Sum.inl (1, wFf0 0)] : List wCell)[sp.length]? = some (.inl (1, wFf0 0)) := List.getElem?_concat_length
  have hA := wFw6_at hW
  have g0 := wFw6_arr0 hlt
  have g1 := wFw6_arr1 hlt
  have g2 := wFw6_arr2 hlt
  have g3 := wFw6_arr3 hlt
  have g4 := wFw6_arr4 hlt
  have g5 := wFw6_arr5 hlt
  rw [hl1] at hA g0 g1 g2 g3 g4 g5
  refine ⟨h0, ?_, ?_, ?_, ?_, ?_, ?_, ?_, fun i hi hi2 => ?_⟩
  · rw [hV _ (by omega) (Or.inr (by omega))]; exact hA
  · rw [hV _ (by omega) (Or.inr (by omega))]; exact g0
  · rw [hV _ (by omega) (Or.inr (by omega))]; exact g1
  · rw [hV _ (by omega) (Or.inr (by omega))]; exact g2
  · rw [hV _ (by omega) (Or.inr (by omega))]; exact g3
  · rw [hV _ (by omega) (Or.inr (by omega))]; exact g4
  · rw [hV _ (by omega) (Or.inr (by omega))]; exact g5
  · rw [hV _ (by omega) (Or.inl hi2), wFw6_old (by omega) (by omega), List.getElem?_append_left (by omega)]
    exact h8 i hi hi2
