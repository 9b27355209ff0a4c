set_option maxRecDepth 100000
/-! comparing, by risk: nodes (a person, the sides of the others) -/
/-- two places at the same person with the others on the same sides: to and fro once, or not at all -/
theorem Cg_node {φ : Nat → Nat → Nat} (O : yOk φ) {c1 c2 c3 : Nat → Nat → Nat} {x : CgS} {T : Nat} {l : List Nat} (W : Cg_W φ c1 c2 c3 x T l) {i j : Nat} (h1 : 1 ≤ i) (hij : i < j) (hj : j ≤ l.length)
    (ht : Cg_t (Cg_at x l i) = Cg_t (Cg_at x l j)) (hs : Cg_s (Cg_at x l j) = Cg_s (Cg_at x l i) ^^^ 2 ^ (Cg_t (Cg_at x l i) - 1)) {k : Nat} (hk : k < φ 0 3) (fit : φ 5 k ≤ Cg_r (Cg_at x l i)) (hr : Cg_r (Cg_at x l j) ≤ min 3 (Cg_r (Cg_at x l i) + 1)) :
    Cg_lx (Cg_S c1 (Cg_at x l i) ((l.drop i).take (j - i))) (Cg_S c2 (Cg_at x l i) ((l.drop i).take (j - i))) (Cg_S c3 (Cg_at x l i) ((l.drop i).take (j - i))) (c1 0 (100 * k + (Cg_t (Cg_at x l i) - 1))) (c2 0 (100 * k + (Cg_t (Cg_at x l i) - 1))) (c3 0 (100 * k + (Cg_t (Cg_at x l i) - 1))) := by
  have gi := Cg_at_g W.1.1 h1 (by omega : i ≤ l.length)
  have gj := Cg_at_g W.1.1 (by omega : 1 ≤ j) hj
  have p6 := O.persons
  have p2 := O.posts
  have p7 := gi.2.2.1.1
  have e1 : (100 * k + (Cg_t (Cg_at x l i) - 1)) % 10 = Cg_t (Cg_at x l i) - 1 := by omega
  have e2 : (100 * k + (Cg_t (Cg_at x l i) - 1)) / 100 = k := by omega
  have e3 : (100 * k + (Cg_t (Cg_at x l i) - 1)) % 100 / 10 = 0 := by omega
  have ar : Cg_ar (Cg_at x l i) = yBit (Cg_s (Cg_at x l i)) (Cg_t (Cg_at x l i) - 1) := by unfold Cg_ar; rw [if_neg gi.1]
  have can : Cg_can φ (Cg_at x l i) (100 * k + (Cg_t (Cg_at x l i) - 1)) = true := by
    refine Cg_can_iff.mpr ⟨by omega, by rw [e2]; exact hk, by rw [e1]; exact gi.2.2.1, by rw [e3]; exact Nat.zero_le _, Or.inl e3, ?_, Or.inr (Or.inr ⟨by rw [e1, ar], by rw [e2]; exact fit⟩)⟩
    rw [e1, e2]
    unfold yBeh
    have := gi.1
    have : Cg_t (Cg_at x l i) = Cg_t (Cg_at x l i) - 1 + 1 := by omega
    simp [← this]
  have gm := Cg_g_go can
  have lf : Cg_lf (Cg_at x l i) (100 * k + (Cg_t (Cg_at x l i) - 1)) = 0 := by unfold Cg_lf; rw [e1, gi.2.1, ar, if_pos rfl]
  have t1 : Cg_t (Cg_at x l j) = Cg_t (Cg_go (Cg_at x l i) (100 * k + (Cg_t (Cg_at x l i) - 1))) := by
    show _ = (100 * k + (Cg_t (Cg_at x l i) - 1)) % 10 + 1
    have := gi.1
    rw [e1, ← ht]; omega
  have s1 : Cg_s (Cg_at x l j) = Cg_s (Cg_go (Cg_at x l i) (100 * k + (Cg_t (Cg_at x l i) - 1))) := by rw [Cg_s_go e3, e1, hs]
  have := Cg_wn W (i := i) (j := j) (by omega) (m := [100 * k + (Cg_t (Cg_at x l i) - 1)]) ⟨can, trivial⟩ ⟨t1, s1, by
      show Cg_d _ = Cg_d (Cg_go _ _)
      rw [gj.2.1, gm.2.1]; unfold Cg_ar; rw [if_neg gj.1, if_neg gm.1, t1, s1], by
      show _ ≤ Cg_r (Cg_go _ _)
      rw [Cg_r_go]
      have : Cg_cx (Cg_at x l i) (100 * k + (Cg_t (Cg_at x l i) - 1)) = false := by unfold Cg_cx; rw [e1, ar]; simp
      rw [if_neg (by rw [this]; decide)]; exact hr⟩
  have z : ∀ c : Nat → Nat → Nat, Cg_S c (Cg_at x l i) [100 * k + (Cg_t (Cg_at x l i) - 1)] = c 0 (100 * k + (Cg_t (Cg_at x l i) - 1)) := fun c => by
    show c (Cg_lf _ _) _ + 0 = _; rw [lf]; rfl
  rw [z, z, z] at this
  exact this
/-- what the last act of a window costs is part of what the window costs -/
theorem Cg_S_last (c : Nat → Nat → Nat) {x : CgS} {l : List Nat} {i j : Nat} (hij : i ≤ j) (hj : j < l.length) :
    c (Cg_lf (Cg_at x l j) (ac l j)) (ac l j) ≤ Cg_S c (Cg_at x l i) ((l.drop i).take (j + 1 - i)) := by
  have e : (l.drop i).take (j + 1 - i) = (l.drop i).take (j - i) ++ [ac l j] := by
    rw [show j + 1 - i = (j - i) + 1 by omega, List.take_succ_eq_append_getElem (by rw [List.length_drop]; omega), ac_get hj]
    congr 2
    rw [List.getElem_drop]
    congr 1; omega
  rw [e, Cg_S_app]
  have en : Cg_end (Cg_at x l i) ((l.drop i).take (j - i)) = Cg_at x l j := by
    unfold Cg_at
    rw [← Cg_end_app, ← List.take_add]
    congr 2; omega
  rw [en]
  show _ ≤ _ + (c (Cg_lf (Cg_at x l j) (ac l j)) (ac l j) + 0)
  omega
/-- the order of the rows: risk, loafs, length -/
def Cg_R (φ : Nat → Nat → Nat) (x : CgS) (T : Nat) (l : List Nat) : Prop := Cg_W φ (fun _ a => yPr1 φ 1 a) (fun f _ => f) (fun _ _ => 1) x T l
theorem yPr1_1 {φ : Nat → Nat → Nat} {a : Nat} (h : a < 200) : yPr1 φ 1 a = yRisk φ (a % 10) (a / 100) := by
  unfold yPr1
  rw [if_neg (by decide), if_neg (by omega), if_pos rfl]
/-- each node is come to against the boat once -/
theorem Cg_cross1 {φ : Nat → Nat → Nat} (O : yOk φ) {x : CgS} {T : Nat} {l : List Nat} (W : Cg_R φ x T l) {i j : Nat} (hij : i < j) (hj : j < l.length) (ci : Cg_C x l i = true) (cj : Cg_C x l j = true) (ht : Cg_tk l i = Cg_tk l j)
    (hs : Cg_s (Cg_at x l (i + 1)) = Cg_s (Cg_at x l (j + 1)) ∨ Cg_s (Cg_at x l (j + 1)) = Cg_s (Cg_at x l (i + 1)) ^^^ 2 ^ Cg_tk l i) : False := by
  have k := W.1.1
  have ti := Cg_at_t (x := x) (l := l) (i := i) (by omega)
  have tj := Cg_at_t (x := x) (l := l) (i := j) hj
  have rj : Cg_r (Cg_at x l (j + 1)) = 1 := by rw [Cg_at_succ hj, Cg_r_go, if_pos (show Cg_cx (Cg_at x l j) (ac l j) = true from cj)]
  have ri : Cg_r (Cg_at x l (i + 1)) = 1 := by rw [Cg_at_succ (by omega), Cg_r_go, if_pos (show Cg_cx (Cg_at x l i) (ac l i) = true from ci)]
  rcases hs with hs | hs
  · exact Cg_hot_ne W (i := i + 1) (j := j + 1) (by omega) (by omega) (by omega) (by omega) (by rw [ti, tj, ht]) hs
  · have cn := Cg_at_can k hj
    obtain ⟨h1, h2, h3, h4, h5, h6, h7⟩ := Cg_can_iff.mp cn
    have gj := Cg_at_g k (i := j) (by omega) (by omega)
    have lf : Cg_lf (Cg_at x l j) (ac l j) = 1 := by
      have := Cg_cx_lf gj (a := ac l j)
      have c : Cg_cx (Cg_at x l j) (ac l j) = true := cj
      rw [c] at this
      simpa using this.symm
    have l0 : φ 5 (ac l j / 100) = 0 := by
      rcases h7 with h | h | h
      · exact h
      · exact absurd h gj.1
      · exfalso
        have c : Cg_cx (Cg_at x l j) (ac l j) = true := cj
        unfold Cg_cx at c
        rw [h.1] at c
        simp at c
    have te : Cg_t (Cg_at x l (i + 1)) - 1 = Cg_tk l j := by rw [ti, ht]; omega
    have lx := Cg_node O W (i := i + 1) (j := j + 1) (by omega) (by omega) (by omega) (by rw [ti, tj, ht]) (by rw [hs, ti]; rfl) (k := ac l j / 100) h2 (by rw [l0]; exact Nat.zero_le _) (by rw [rj]; exact Nat.le_min.mpr ⟨by decide, by omega⟩)
    rw [te] at lx
    have w1 := Cg_S_last (x := x) (l := l) (fun _ a => yPr1 φ 1 a) (i := i + 1) (j := j) (by omega) hj
    have w2 := Cg_S_last (x := x) (l := l) (fun f _ => f) (i := i + 1) (j := j) (by omega) hj
    rw [lf] at w2
    have p6 := O.persons
    have := h3.1
    have d : (100 * (ac l j / 100) + Cg_tk l j) % 10 = ac l j % 10 ∧ (100 * (ac l j / 100) + Cg_tk l j) / 100 = ac l j / 100 := by unfold Cg_tk; omega
    have d3 : 100 * (ac l j / 100) + Cg_tk l j < 200 := by have := O.posts; unfold Cg_tk; omega
    have e : yPr1 φ 1 (100 * (ac l j / 100) + Cg_tk l j) = yPr1 φ 1 (ac l j) := by rw [yPr1_1 d3, yPr1_1 h1, d.1, d.2]
    unfold Cg_lx at lx
    rw [e] at lx
    omega
/-- a node that is hot is come to in one stop, where the cheap post is nowhere dearer and looks no more than the charge -/
theorem Cg_hot1 {φ : Nat → Nat → Nat} (O : yOk φ) {B : Nat} (hB : B < φ 0 3) (ch : ∀ k, k < φ 0 3 → φ 3 B ≤ φ 3 k) {x : CgS} {T : Nat} {l : List Nat} (W : Cg_R φ x T l) {i j : Nat} (h1 : 1 ≤ i) (hij : i < j) (hj : j ≤ l.length)
    (fit : φ 5 B ≤ Cg_r (Cg_at x l i)) (hr : Cg_r (Cg_at x l j) ≤ min 3 (Cg_r (Cg_at x l i) + 1)) (ht : Cg_t (Cg_at x l i) = Cg_t (Cg_at x l j)) (hs : Cg_s (Cg_at x l j) = Cg_s (Cg_at x l i) ^^^ 2 ^ (Cg_t (Cg_at x l i) - 1)) : j = i + 1 := by
  have k := W.1.1
  obtain ⟨j, rfl⟩ : ∃ j', j = j' + 1 := ⟨j - 1, by omega⟩
  have lx := Cg_node O W h1 hij hj ht hs hB fit hr
  have w1 := Cg_S_last (x := x) (l := l) (fun _ a => yPr1 φ 1 a) (i := i) (j := j) (by omega) (by omega)
  obtain ⟨a1, a2, a3, _⟩ := Cg_can_iff.mp (Cg_at_can k (show j < l.length by omega))
  have tj := Cg_at_t (x := x) (l := l) (i := j) (by omega)
  have p6 := O.persons
  have p2 := O.posts
  have := a3.1
  have te : Cg_t (Cg_at x l i) - 1 = ac l j % 10 := by rw [ht, tj]; unfold Cg_tk; omega
  rw [te, Cg_len_win (by omega) hj] at lx
  have d3 : 100 * B + ac l j % 10 < 200 := by omega
  have e : yPr1 φ 1 (100 * B + ac l j % 10) ≤ yPr1 φ 1 (ac l j) := by
    rw [yPr1_1 d3, yPr1_1 a1, show (100 * B + ac l j % 10) % 10 = ac l j % 10 by omega, show (100 * B + ac l j % 10) / 100 = B by omega]
    unfold yRisk
    exact Nat.div_le_div_right (Nat.mul_le_mul_left _ (ch _ a2))
  unfold Cg_lx at lx
  omega
