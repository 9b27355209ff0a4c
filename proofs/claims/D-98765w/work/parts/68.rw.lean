set_option maxRecDepth 100000
theorem wFw6_arr0 {sp : List wCell} {b : Nat} (h : b < sp.length) : (wFw6 sp b)[sp.length + 0]? = some (.inr (0, 6)) := by
  have hb : b ≠ sp.length + 0 := by omega
  simp only [wFw6, wFw5, wFw4, wFw3, wFw2, wFw1, wFw0]
  rw [List.getElem?_set_ne hb, List.getElem?_append_left (by first | omega | (simp only [List.length_set, List.length_append, List.length_singleton]; omega))]
  rw [List.getElem?_set_ne hb, List.getElem?_append_left (by first | omega | (simp only [List.length_set, List.length_append, List.length_singleton]; omega))]
  rw [List.getElem?_set_ne hb, List.getElem?_append_left (by first | omega | (simp only [List.length_set, List.length_append, List.length_singleton]; omega))]
  rw [List.getElem?_set_ne hb, List.getElem?_append_left (by first | omega | (simp only [List.length_set, List.length_append, List.length_singleton]; omega))]
  rw [List.getElem?_set_ne hb, List.getElem?_append_left (by first | omega | (simp only [List.length_set, List.length_append, List.length_singleton]; omega))]
  rw [List.getElem?_set_ne hb, List.getElem?_append_right (by first | omega | (simp only [List.length_set, List.length_append, List.length_singleton]; omega))]
  try simp only [List.length_set, List.length_append, List.length_singleton]
  rw [show ∀ z, z = 0 → ([Sum.inr (0, 6)] : List wCell)[z]? = some (.inr (0, 6)) from fun z hz => by rw [hz]; rfl]
  omega
theorem wFw6_arr1 {sp : List wCell} {b : Nat} (h : b < sp.length) : (wFw6 sp b)[sp.length + 1]? = some (.inr (0, 6)) := by
  have hb : b ≠ sp.length + 1 := by omega
  simp only [wFw6, wFw5, wFw4, wFw3, wFw2, wFw1, wFw0]
  rw [List.getElem?_set_ne hb, List.getElem?_append_left (by first | omega | (simp only [List.length_set, List.length_append, List.length_singleton]; omega))]
  rw [List.getElem?_set_ne hb, List.getElem?_append_left (by first | omega | (simp only [List.length_set, List.length_append, List.length_singleton]; omega))]
  rw [List.getElem?_set_ne hb, List.getElem?_append_left (by first | omega | (simp only [List.length_set, List.length_append, List.length_singleton]; omega))]
  rw [List.getElem?_set_ne hb, List.getElem?_append_left (by first | omega | (simp only [List.length_set, List.length_append, List.length_singleton]; omega))]
  rw [List.getElem?_set_ne hb, List.getElem?_append_right (by first | omega | (simp only [List.length_set, List.length_append, List.length_singleton]; omega))]
  try simp only [List.length_set, List.length_append, List.length_singleton]
  rw [show ∀ z, z = 0 → ([Sum.inr (0, 6)] : List wCell)[z]? = some (.inr (0, 6)) from fun z hz => by rw [hz]; rfl]
  omega
theorem wFw6_arr2 {sp : List wCell} {b : Nat} (h : b < sp.length) : (wFw6 sp b)[sp.length + 2]? = some (.inr (0, 2)) := by
  have hb : b ≠ sp.length + 2 := by omega
  simp only [wFw6, wFw5, wFw4, wFw3, wFw2, wFw1, wFw0]
  rw [List.getElem?_set_ne hb, List.getElem?_append_left (by first | omega | (simp only [List.length_set, List.length_append, List.length_singleton]; omega))]
  rw [List.getElem?_set_ne hb, List.getElem?_append_left (by first | omega | (simp only [List.length_set, List.length_append, List.length_singleton]; omega))]
  rw [List.getElem?_set_ne hb, List.getElem?_append_left (by first | omega | (simp only [List.length_set, List.length_append, List.length_singleton]; omega))]
  rw [List.getElem?_set_ne hb, List.getElem?_append_right (by first | omega | (simp only [List.length_set, List.length_append, List.length_singleton]; omega))]
  try simp only [List.length_set, List.length_append, List.length_singleton]
  rw [show ∀ z, z = 0 → ([Sum.inr (0, 2)] : List wCell)[z]? = some (.inr (0, 2)) from fun z hz => by rw [hz]; rfl]
  omega
theorem wFw6_arr3 {sp : List wCell} {b : Nat} (h : b < sp.length) : (wFw6 sp b)[sp.length + 3]? = some (.inr (0, 2)) := by
  have hb : b ≠ sp.length + 3 := by omega
  simp only [wFw6, wFw5, wFw4, wFw3, wFw2, wFw1, wFw0]
  rw [List.getElem?_set_ne hb, List.getElem?_append_left (by first | omega | (simp only [List.length_set, List.length_append, List.length_singleton]; omega))]
  rw [List.getElem?_set_ne hb, List.getElem?_append_left (by first | omega | (simp only [List.length_set, List.length_append, List.length_singleton]; omega))]
  rw [List.getElem?_set_ne hb, List.getElem?_append_right (by first | omega | (simp only [List.length_set, List.length_append, List.length_singleton]; omega))]
  try simp only [List.length_set, List.length_append, List.length_singleton]
  rw [show ∀ z, z = 0 → ([Sum.inr (0, 2)] : List wCell)[z]? = some (.inr (0, 2)) from fun z hz => by rw [hz]; rfl]
  omega
theorem wFw6_arr4 {sp : List wCell} {b : Nat} (h : b < sp.length) : (wFw6 sp b)[sp.length + 4]? = some (.inr (0, 2)) := by
  have hb : b ≠ sp.length + 4 := by omega
  simp only [wFw6, wFw5, wFw4, wFw3, wFw2, wFw1, wFw0]
  rw [List.getElem?_set_ne hb, List.getElem?_append_left (by first | omega | (simp only [List.length_set, List.length_append, List.length_singleton]; omega))]
  rw [List.getElem?_set_ne hb, List.getElem?_append_right (by first | omega | (simp only [List.length_set, List.length_append, List.length_singleton]; omega))]
  try simp only [List.length_set, List.length_append, List.length_singleton]
  rw [show ∀ z, z = 0 → ([Sum.inr (0, 2)] : List wCell)[z]? = some (.inr (0, 2)) from fun z hz => by rw [hz]; rfl]
  omega
theorem wFw6_arr5 {sp : List wCell} {b : Nat} (h : b < sp.length) : (wFw6 sp b)[sp.length + 5]? = some (.inr (0, 40)) := by
  have hb : b ≠ sp.length + 5 := by omega
  simp only [wFw6, wFw5, wFw4, wFw3, wFw2, wFw1, wFw0]
  rw [List.getElem?_set_ne hb, List.getElem?_append_right (by first | omega | (simp only [List.length_set, List.length_append, List.length_singleton]; omega))]
  try simp only [List.length_set, List.length_append, List.length_singleton]
  rw [show ∀ z, z = 0 → ([Sum.inr (0, 40)] : List wCell)[z]? = some (.inr (0, 40)) from fun z hz => by rw [hz]; rfl]
  omega
theorem wW_is {E : List wCell} {r f a : Nat} (h1 : spX.length ≤ r) : (spX ++ E).set r (wRdr f a) = wW E r f a := by
  rw [wW, List.set_append_right _ _ h1]
theorem wRW_t {S : List wCell} {b a : Nat} (hS : S.take spX.length = spX) (h1 : spX.length ≤ b) (h2 : b < S.length) : (wRW S b a).take spX.length = spX := by
  rw [wRW, List.take_set_of_le h1, wFw6_take (by simp only [List.length_append]; omega) (by omega), List.take_append_of_le_length (by omega)]
  exact hS
/-- the reader's worlds behind its constructor: all of one tail -/
theorem wRW_W {S : List wCell} {b a0 : Nat} (hS : S.take spX.length = spX) (h1 : spX.length ≤ b) (h2 : b < S.length) (a : Nat) : wW ((wRW S b a0).drop spX.length) b S.length a = wRW S b a := by
  rw [← wW_is h1, wSplit (wRW_t hS h1 h2)]
  unfold wRW
  rw [List.set_set]
theorem wRW_F {S : List wCell} {b a0 : Nat} (hS : S.take spX.length = spX) (h1 : spX.length ≤ b) (h2 : b < S.length) : wRF ((wRW S b a0).drop spX.length) b S.length (S.length + 1) := fun a => by
  rw [wRW_W hS h1 h2]
  have hl : (S ++ [wF00]).length = S.length + 1 := by simp
  have hW : (S ++ [wF00])[S.length]? = some wF00 := List.getElem?_concat_length
  have hlt : S.length < (S ++ [wF00]).length := by omega
  unfold wRW
  refine ⟨?_, ?_, ?_, ?_, ?_, ?_⟩
  · rw [List.getElem?_set_ne (by omega), ← hl]
    exact wFw6_at hW
  · rw [List.getElem?_set_ne (by omega), ← hl]
    exact wFw6_arr0 hlt
  · rw [List.getElem?_set_ne (by omega), ← hl]
    exact wFw6_arr1 hlt
  · rw [List.getElem?_set_ne (by omega), ← hl]
    exact wFw6_arr2 hlt
  · rw [List.getElem?_set_ne (by omega), ← hl]
    exact wFw6_arr3 hlt
  · rw [List.getElem?_set_ne (by omega), ← hl]
    exact wFw6_arr4 hlt
theorem wRW_cl {S : List wCell} {b : Nat} (hc : wClosed S) (h0 : 0 < S.length) (a : Nat) : wClosed (wRW S b a) := by
  unfold wRW
  have hl : (wFw6 (S ++ [wF00]) S.length).length = S.length + 1 + 6 := by rw [wFw6_len]; simp
  refine (wFw6_cl (hc.addF (by decide))).set (fun f hf h2 => ?_)
  rw [hl]
  simp only [List.mem_cons, List.not_mem_nil, or_false] at hf
  rcases hf with e | e | e | e | e | e | e <;> rw [e] <;> simp only [] <;> omega
theorem wRW_no {S : List wCell} {b a0 : Nat} (hS : S.take spX.length = spX) (h1 : spX.length ≤ b) (h2 : b < S.length) (hc : wClosed S) : ∀ a, wNoRef (wW ((wRW S b a0).drop spX.length) b S.length a) (wW ((wRW S b a0).drop spX.length) b S.length a).length = true := fun a => by
  rw [wRW_W hS h1 h2]
  exact (wRW_cl hc (by omega) a).at rfl
