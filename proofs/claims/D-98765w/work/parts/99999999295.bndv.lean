set_option maxRecDepth 100000
/-! comparing: a word is hot in one run: no loaf is eaten between -/
theorem nPar {φ : Nat → Nat → Nat} {p : Nat} (hp : yAd φ p) : ∀ (l : List Nat) (x y : ySt), yRun φ x l = some y → yBit y.ov p = (yBit x.ov p + nCt p l) % 2 := by
  intro l
  induction l with
  | nil =>
    intro x y r
    cases r
    have := yBit_lt x.ov p
    show _ = (_ + 0) % 2
    omega
  | cons a l ih =>
    intro x y r
    replace r : (if yEb φ x a = true then yRun φ (yDo φ x a) l else none) = some y := r
    by_cases g : yEb φ x a = true
    · rw [if_pos g] at r
      rw [ih _ _ r]
      show _ = (_ + ((if a ≠ 200 ∧ a % 10 = p then 1 else 0) + nCt p l)) % 2
      have b := yBit_lt x.ov p
      by_cases ha : a = 200
      · rw [if_neg (fun z => z.1 ha)]
        subst ha
        rw [bDo_200]
        show (yBit x.ov p + _) % 2 = _
        omega
      · rw [bOv g ha hp]
        by_cases e : p = a % 10
        · rw [if_pos e, if_pos ⟨ha, e.symm⟩]; omega
        · rw [if_neg e, if_neg (fun z => e z.2.symm)]; omega
    · rw [if_neg g] at r; cases r
def s6 (f : Nat → Nat) : Nat := f 0 + f 1 + f 2 + f 3 + f 4 + f 5
theorem s6_le {f g : Nat → Nat} (h : ∀ u, f u ≤ g u) : s6 f ≤ s6 g := by
  unfold s6
  have := h 0
  have := h 1
  have := h 2
  have := h 3
  have := h 4
  have := h 5
  omega
theorem s6_step {v : Nat} (hv : v < 6) (f : Nat → Nat) (c : Nat → Nat) : s6 (fun u => ((if v = u then 1 else 0) + f u) * c u) = c v + s6 (fun u => f u * c u) := by
  unfold s6
  have : v = 0 ∨ v = 1 ∨ v = 2 ∨ v = 3 ∨ v = 4 ∨ v = 5 := by omega
  rcases this with h | h | h | h | h | h <;> subst h <;> simp [Nat.add_mul] <;> omega
theorem nCt_cons (u a : Nat) (l : List Nat) : nCt u (a :: l) = (if a ≠ 200 ∧ a % 10 = u then 1 else 0) + nCt u l := rfl
theorem nSum {φ : Nat → Nat → Nat} (O : yOk φ) : ∀ (l : List Nat) (x y : ySt), yRun φ x l = some y → cr l = s6 (fun u => nCt u l) := by
  intro l
  induction l with
  | nil => intro x y _; rfl
  | cons a l ih =>
    intro x y r
    replace r : (if yEb φ x a = true then yRun φ (yDo φ x a) l else none) = some y := r
    by_cases g : yEb φ x a = true
    · rw [if_pos g] at r
      have e := ih _ _ r
      show (if a = 200 then 0 else 1) + cr l = s6 (fun u => (if a ≠ 200 ∧ a % 10 = u then 1 else 0) + nCt u l)
      by_cases ha : a = 200
      · rw [if_pos ha, e]
        unfold s6
        simp [ha]
      · rw [if_neg ha, e]
        have v6 : a % 10 < 6 := by have := (bCross g ha).2.2.1.1; have := O.persons; omega
        have := s6_step v6 (fun u => nCt u l) (fun _ => 1)
        simp only [Nat.mul_one] at this
        rw [← this]
        unfold s6
        simp [ha]
    · rw [if_neg g] at r; cases r
theorem nRisk_ge {φ : Nat → Nat → Nat} (O : yOk φ) {k : Nat} (hs : ∀ k', k' < φ 0 3 → φ 3 k ≤ φ 3 k') : ∀ (l : List Nat) (x y : ySt), yRun φ x l = some y → s6 (fun u => nCt u l * yRisk φ u k) ≤ yPr φ 1 l := by
  intro l
  induction l with
  | nil => intro x y _; unfold s6; simp [nCt]
  | cons a l ih =>
    intro x y r
    replace r : (if yEb φ x a = true then yRun φ (yDo φ x a) l else none) = some y := r
    by_cases g : yEb φ x a = true
    · rw [if_pos g] at r
      have e := ih _ _ r
      show s6 (fun u => ((if a ≠ 200 ∧ a % 10 = u then 1 else 0) + nCt u l) * yRisk φ u k) ≤ yPr1 φ 1 a + yPr φ 1 l
      by_cases ha : a = 200
      · have : s6 (fun u => ((if a ≠ 200 ∧ a % 10 = u then 1 else 0) + nCt u l) * yRisk φ u k) = s6 (fun u => nCt u l * yRisk φ u k) := by
          unfold s6
          simp [ha]
        rw [this]; omega
      · have v6 : a % 10 < 6 := by have := (bCross g ha).2.2.1.1; have := O.persons; omega
        have t := s6_step v6 (fun u => nCt u l) (fun u => yRisk φ u k)
        have : s6 (fun u => ((if a ≠ 200 ∧ a % 10 = u then 1 else 0) + nCt u l) * yRisk φ u k) = s6 (fun u => ((if a % 10 = u then 1 else 0) + nCt u l) * yRisk φ u k) := by
          unfold s6
          simp [ha]
        rw [this, t]
        have e1 : yPr1 φ 1 a = yRisk φ (a % 10) (a / 100) := by
          unfold yPr1
          rw [if_neg (by decide), if_neg ha, if_pos rfl]
        have le : yRisk φ (a % 10) k ≤ yRisk φ (a % 10) (a / 100) := by
          unfold yRisk
          exact Nat.div_le_div_right (Nat.mul_le_mul_left _ (hs _ (bCross g ha).2.1))
        omega
    · rw [if_neg g] at r; cases r
theorem nRisk_eq {φ : Nat → Nat → Nat} {k : Nat} : ∀ (D : List Nat), (∀ a, a ∈ D → a ≠ 200 ∧ a / 100 = k ∧ a % 10 < 6) → yPr φ 1 D = s6 (fun u => nCt u D * yRisk φ u k) ∧ cr D = s6 (fun u => nCt u D) ∧ lo D = 0 := by
  intro D
  induction D with
  | nil => intro _; unfold s6; simp [nCt, yPr, cr, lo]
  | cons a D ih =>
    intro h
    obtain ⟨ha, hk, v6⟩ := h a (List.mem_cons_self ..)
    obtain ⟨e1, e2, e3⟩ := ih fun b hb => h b (List.mem_cons_of_mem _ hb)
    refine ⟨?_, ?_, ?_⟩
    · show yPr1 φ 1 a + yPr φ 1 D = s6 (fun u => ((if a ≠ 200 ∧ a % 10 = u then 1 else 0) + nCt u D) * yRisk φ u k)
      have t := s6_step v6 (fun u => nCt u D) (fun u => yRisk φ u k)
      have : s6 (fun u => ((if a ≠ 200 ∧ a % 10 = u then 1 else 0) + nCt u D) * yRisk φ u k) = s6 (fun u => ((if a % 10 = u then 1 else 0) + nCt u D) * yRisk φ u k) := by
        unfold s6
        simp [ha]
      rw [this, t, e1]
      have e1 : yPr1 φ 1 a = yRisk φ (a % 10) (a / 100) := by
        unfold yPr1
        rw [if_neg (by decide), if_neg ha, if_pos rfl]
      rw [e1, hk]
    · show (if a = 200 then 0 else 1) + cr D = s6 (fun u => (if a ≠ 200 ∧ a % 10 = u then 1 else 0) + nCt u D)
      have := s6_step v6 (fun u => nCt u D) (fun _ => 1)
      simp only [Nat.mul_one] at this
      rw [if_neg ha, e2, ← this]
      unfold s6
      simp [ha]
    · show (if a = 200 then 1 else 0) + lo D = 0
      rw [if_neg ha, e3]
theorem nDays (φ : Nat → Nat → Nat) : ∀ l, ySc φ 1 l = cr l + lo l * φ 0 0 := by
  intro l
  induction l with
  | nil => show 0 = 0 + 0 * _; omega
  | cons a l ih =>
    show ySc1 φ 1 a + ySc φ 1 l = ((if a = 200 then 0 else 1) + cr l) + ((if a = 200 then 1 else 0) + lo l) * φ 0 0
    rw [ih]
    unfold ySc1 yDay
    rw [if_pos (by decide), Nat.add_mul]
    by_cases ha : a = 200
    · rw [if_pos ha, if_pos ha, if_pos ha]; omega
    · rw [if_neg ha, if_neg ha, if_neg ha]; omega
/-- a walk that leaves a set steps out of it -/
theorem nGap {φ : Nat → Nat → Nat} (hc : φ 0 7 ≠ 0) (Lf : Nat → Bool) {r : Nat} (hr : Lf r = false) : ∀ (l : List Nat) (x y : ySt) (p : Nat), x.z0 = p + 1 → x.z1 = p + 1 → yRun φ x l = some y → Lf p = true → y.z0 = r + 1 →
    ∃ u w k', k' < φ 0 3 ∧ yBeh φ (u + 1) w k' = true ∧ Lf u = true ∧ Lf w = false ∧ (u = p ∨ 0 < nCt u l) ∧ 0 < nCt w l := by
  intro l
  induction l with
  | nil =>
    intro x y p h0 h1 rr hp hy
    cases rr
    have : p = r := by omega
    rw [this, hr] at hp
    cases hp
  | cons a l ih =>
    intro x y p h0 h1 rr hp hy
    replace rr : (if yEb φ x a = true then yRun φ (yDo φ x a) l else none) = some y := rr
    by_cases g : yEb φ x a = true
    · rw [if_pos g] at rr
      by_cases ha : a = 200
      · subst ha
        rw [bDo_200] at rr
        obtain ⟨u, w, k', e1, e2, e3, e4, e5, e6⟩ := ih (ySt.of x.ov (1 - x.sd) x.z0 x.z1 x.mk) y p h0 h1 rr hp hy
        refine ⟨u, w, k', e1, e2, e3, e4, ?_, ?_⟩
        · rcases e5 with e5 | e5
          · exact Or.inl e5
          · exact Or.inr (by rw [nCt_cons]; omega)
        · rw [nCt_cons]; omega
      · obtain ⟨c1, c2, c3, c5, c4, c6, c7⟩ := bCross g ha
        have zz : x.z (a / 100) = p + 1 := by unfold ySt.z; split <;> assumption
        rw [zz] at c6
        have me : 0 < nCt (a % 10) (a :: l) := by rw [nCt_cons, if_pos ⟨ha, rfl⟩]; omega
        by_cases hv : Lf (a % 10) = true
        · have z0 : (yDo φ x a).z0 = a % 10 + 1 := by rw [bDo ha]; show (if _ then _ else _) = _; rw [if_pos (Or.inr hc)]
          have z1 : (yDo φ x a).z1 = a % 10 + 1 := by rw [bDo ha]; show (if _ then _ else _) = _; rw [if_pos (Or.inr hc)]
          obtain ⟨u, w, k', e1, e2, e3, e4, e5, e6⟩ := ih _ y (a % 10) z0 z1 rr hv hy
          refine ⟨u, w, k', e1, e2, e3, e4, ?_, ?_⟩
          · rcases e5 with e5 | e5
            · exact Or.inr (by rw [e5]; exact me)
            · exact Or.inr (by rw [nCt_cons]; omega)
          · rw [nCt_cons]; omega
        · exact ⟨p, a % 10, a / 100, c2, c6, hp, by cases h : Lf (a % 10) <;> simp_all, Or.inl rfl, me⟩
    · rw [if_neg g] at rr; cases rr
theorem nCh_of {x y : ySt} : ∀ (B : List Nat) (p r : Nat), (B ++ [r]).map (fun q => yBit x.ov q) = (p :: B).map (fun q => yBit y.ov q) → nCh y x p (B ++ [r]) := by
  intro B
  induction B with
  | nil =>
    intro p r h
    refine ⟨?_, trivial⟩
    have := (List.cons.inj h).1
    exact this.symm
  | cons b B ih =>
    intro p r h
    obtain ⟨h1, h2⟩ := List.cons.inj h
    exact ⟨h1.symm, ih b r h2⟩
/-- visited neighbours in the order are near -/
theorem nAj_of {φ : Nat → Nat → Nat} {k : Nat} {ν : Nat → Nat} {vis : Nat → Bool} {p r : Nat} {C : List Nat}
    (h1 : ∀ u w, (ν u ≤ ν w + φ 4 k ∧ ν w ≤ ν u + φ 4 k) → yBeh φ (u + 1) w k = true)
    (gap : ∀ Lf : Nat → Bool, Lf p = true → Lf r = false → ∃ u w, Lf u = true ∧ Lf w = false ∧ (u = p ∨ vis u = true) ∧ vis w = true ∧ (ν u ≤ ν w + φ 4 k ∧ ν w ≤ ν u + φ 4 k)) :
    ∀ (rest PRE : List Nat) (v : Nat), p ∈ PRE → (∀ q, rest.getLast? = some q → q = r) → v ∈ PRE → (∀ u, u ∈ PRE → (u = p ∨ vis u = true) → ν u ≤ ν v) → (PRE ++ (rest ++ C)).Pairwise (fun a b => ν a ≤ ν b) → (PRE ++ (rest ++ C)).Nodup →
      (∀ u, vis u = true → u ∈ PRE ++ (rest ++ C)) → nAj φ k vis v rest := by
  intro rest
  induction rest with
  | nil => intro PRE v _ _ _ _ _ _ _; trivial
  | cons w t ih =>
    intro PRE v hp hr hv hmax pw nd mem
    have ea : PRE ++ (w :: t ++ C) = (PRE ++ [w]) ++ (t ++ C) := by simp
    obtain ⟨pw1, pw2, pw3⟩ := List.pairwise_append.mp pw
    have lw : ∀ u, u ∈ PRE → ν u ≤ ν w := fun u hu => pw3 u hu w (by simp)
    have nd3 : ∀ u, u ∈ PRE → u ∉ w :: t ++ C := fun u hu h => by
      have := (List.nodup_append.mp nd).2.2 u hu u h
      exact this rfl
    show (if vis w = true then yBeh φ (v + 1) w k = true ∧ nAj φ k vis w t else nAj φ k vis v t)
    have hr' : ∀ q, t.getLast? = some q → q = r := fun q hq => by
      cases t with
      | nil => cases hq
      | cons a t => exact hr q (by rw [List.getLast?_cons_cons]; exact hq)
    have rin : r ∈ w :: t := by
      obtain ⟨q, hq⟩ : ∃ q, (w :: t).getLast? = some q := ⟨_, List.getLast?_eq_some_getLast (by simp)⟩
      have := hr q hq
      rw [← this]
      exact List.mem_of_getLast? hq
    by_cases vw : vis w = true
    · rw [if_pos vw]
      refine ⟨?_, ?_⟩
      · obtain ⟨u, w', e1, e2, e3, e4, e5⟩ := gap (fun q => decide (q ∈ PRE)) (by simpa using hp) (by
          have : r ∉ PRE := fun h => nd3 r h (List.mem_append_left _ rin)
          simpa using this)
        have uin : u ∈ PRE := by simpa using e1
        have win : w' ∉ PRE := by simpa using e2
        have w2 : w' ∈ w :: t ++ C := by
          rcases List.mem_append.mp (mem w' e4) with h | h
          · exact absurd h win
          · exact h
        have le1 := hmax u uin e3
        have le2 : ν w ≤ ν w' := by
          rcases List.mem_cons.mp w2 with h | h
          · rw [h]; exact Nat.le_refl _
          · exact (List.pairwise_cons.mp pw2).1 w' h
        have le3 := lw v hv
        exact h1 v w ⟨by omega, by omega⟩
      · refine ih (PRE ++ [w]) w (List.mem_append_left _ hp) hr' (by simp) (fun u hu _ => ?_) (by rw [← ea]; exact pw) (by rw [← ea]; exact nd) (by rw [← ea]; exact mem)
        rcases List.mem_append.mp hu with h | h
        · exact lw u h
        · rw [List.mem_singleton.mp h]; exact Nat.le_refl _
    · rw [if_neg vw]
      refine ih (PRE ++ [w]) v (List.mem_append_left _ hp) hr' (List.mem_append_left _ hv) (fun u hu h2 => ?_) (by rw [← ea]; exact pw) (by rw [← ea]; exact nd) (by rw [← ea]; exact mem)
      rcases List.mem_append.mp hu with h | h
      · exact hmax u h h2
      · rw [List.mem_singleton.mp h] at h2
        rcases h2 with h2 | h2
        · exact absurd (List.mem_append_left C (List.mem_cons_self ..)) (nd3 w (by rw [h2]; exact hp))
        · exact absurd h2 vw
theorem nCt_ad {φ : Nat → Nat → Nat} {u : Nat} : ∀ (l : List Nat) (x y : ySt), yRun φ x l = some y → 0 < nCt u l → yAd φ u := by
  intro l
  induction l with
  | nil => intro x y _ h; exact absurd h (by show ¬ 0 < 0; omega)
  | cons a l ih =>
    intro x y r h
    replace r : (if yEb φ x a = true then yRun φ (yDo φ x a) l else none) = some y := r
    by_cases g : yEb φ x a = true
    · rw [if_pos g] at r
      by_cases e : a ≠ 200 ∧ a % 10 = u
      · rw [← e.2]; exact (bCross g e.1).2.2.1
      · rw [nCt_cons, if_neg e] at h
        exact ih _ _ r (by omega)
    · rw [if_neg g] at r; cases r
theorem nCt_app (u : Nat) : ∀ (l m : List Nat), nCt u (l ++ m) = nCt u l + nCt u m := by
  intro l
  induction l with
  | nil => intro m; show nCt u m = 0 + _; omega
  | cons a l ih => intro m; show _ + nCt u (l ++ m) = _ + nCt u l + _; rw [ih]; omega
theorem nOv {a b : Nat} (h : ∀ t, yBit a t = yBit b t) : a = b := by
  apply Nat.eq_of_testBit_eq
  intro t
  have := h t
  rw [bBit, bBit] at this
  cases h1 : a.testBit t <;> cases h2 : b.testBit t <;> simp_all
/-- A WORD IS HOT IN ONE RUN (the post k is nowhere dearer, looks most and reaches farthest): no loaf between a hot place and a later place of the same word -/
theorem nWordT {φ : Nat → Nat → Nat} (O : yOk φ) (hl : 0 < φ 0 0) (hc : φ 0 7 ≠ 0) {k : Nat} (hk : k < φ 0 3) (hs : ∀ k', k' < φ 0 3 → φ 3 k ≤ φ 3 k') (LL : ∀ k', k' < φ 0 3 → φ 5 k' ≤ φ 5 k) (hn : ∀ k', k' < φ 0 3 → φ 4 k' ≤ φ 4 k)
    {σ : ySt} (S : ySok φ σ) {l : List Nat} (W : bLe φ 1 σ l) {i j p r : Nat} (hij : i < j) (hj : j ≤ l.length) (h : nHot φ k p (bAt φ σ l i)) (g : kAt φ r (bAt φ σ l j))
    {ν : Nat → Nat} (n1 : ∀ u w, (ν u ≤ ν w + φ 4 k ∧ ν w ≤ ν u + φ 4 k) → yBeh φ (u + 1) w k = true) (n2 : ∀ u w k', k' < φ 0 3 → yBeh φ (u + 1) w k' = true → u = w ∨ (ν u ≤ ν w + φ 4 k' ∧ ν w ≤ ν u + φ 4 k'))
    {A B C : List Nat} (pw : (A ++ p :: (B ++ r :: C)).Pairwise (fun a b => ν a ≤ ν b)) (nd : (A ++ p :: (B ++ r :: C)).Nodup) (ad : ∀ q, q ∈ A ++ p :: (B ++ r :: C) ↔ yAd φ q)
    (word : (A ++ (B ++ r :: C)).map (fun q => yBit (bAt φ σ l i).ov q) = (A ++ (p :: B ++ C)).map (fun q => yBit (bAt φ σ l j).ov q))
    (kids : ∀ q, ¬ yAd φ q → yBit (bAt φ σ l i).ov q = yBit (bAt φ σ l j).ov q) : lo ((l.drop i).take (j - i)) = 0 := by
  obtain ⟨τ, rr, E⟩ := W.1
  have Si := bAt_ok O S rr i
  have Sj := bAt_ok O S rr j
  have hL : φ 5 k < 4 := by have := O.looks k hk; omega
  have p6 := O.persons
  obtain ⟨ρ, r1, r2⟩ := yRun_take rr i
  rw [bAt_run rr i] at r1
  cases r1
  have rw' : yRun φ (bAt φ σ l i) ((l.drop i).take (j - i)) = some (bAt φ σ l j) := by
    have t := bAt_run rr j
    have e1 : l.take j = l.take i ++ (l.drop i).take (j - i) := by
      conv => lhs; rw [show j = i + (j - i) by omega]
      rw [List.take_add]
    rw [e1, yRun_append, bAt_run rr i] at t
    exact t
  generalize hM : (l.drop i).take (j - i) = M at *
  generalize hx : bAt φ σ l i = x at *
  generalize hy : bAt φ σ l j = y at *
  -- the parts of the word
  have e1 : B ++ r :: C = (B ++ [r]) ++ C := by simp
  have w1 : A.map (fun q => yBit x.ov q) ++ (B ++ r :: C).map (fun q => yBit x.ov q) = A.map (fun q => yBit y.ov q) ++ (p :: B ++ C).map (fun q => yBit y.ov q) := by
    rw [← List.map_append, ← List.map_append]; exact word
  obtain ⟨wA, w2⟩ := List.append_inj w1 (by rw [List.length_map, List.length_map])
  have w3 : (B ++ [r]).map (fun q => yBit x.ov q) ++ C.map (fun q => yBit x.ov q) = (p :: B).map (fun q => yBit y.ov q) ++ C.map (fun q => yBit y.ov q) := by
    rw [← List.map_append, ← List.map_append, ← e1]; exact w2
  obtain ⟨wB, wC⟩ := List.append_inj w3 (by rw [List.length_map, List.length_map]; simp)
  have chain := nCh_of B p r wB
  have pr : p ≠ r := fun e => by
    have := (List.nodup_append.mp nd).2.1
    rw [e] at this
    exact (List.nodup_cons.mp this).1 (by simp)
  have px := h.1
  have rv : 0 < nCt r M := by
    obtain ⟨u, w, k', _, _, _, e4, _, e6⟩ := nGap hc (fun q => decide (q ≠ r)) (by simp) M x y p px.2.1 px.2.2.1 rw' (by simpa using pr) g.2.1
    have : w = r := by simpa using e4
    rwa [this] at e6
  have stay : ∀ w, yAd φ w → nCt w M = 0 → yBit y.ov w = yBit x.ov w := fun w hw h0 => by
    have := nPar hw M x y rw'
    have b := yBit_lt x.ov w
    rw [h0] at this
    omega
  have mem : ∀ w, w ∈ B ++ [r] → yAd φ w := fun w hw => (ad w).mp (by
    rcases List.mem_append.mp hw with z | z
    · simp [z]
    · simp [List.mem_singleton.mp z])
  have nd2 : (p :: (B ++ [r])).Nodup := by
    have := (List.nodup_append.mp nd).2.1
    rw [e1] at this
    have := this.sublist (List.Sublist.cons_cons p (List.sublist_append_left (B ++ [r]) C))
    exact this
  have ea : (A ++ [p]) ++ ((B ++ [r]) ++ C) = A ++ p :: (B ++ r :: C) := by simp
  have aj : nAj φ k (fun u => decide (0 < nCt u M)) p (B ++ [r]) := by
    refine nAj_of (r := r) (p := p) (C := C) n1 (fun Lf h1 h2 => ?_) (B ++ [r]) (A ++ [p]) p (by simp) (fun q hq => by simpa using hq.symm) (by simp) (fun u hu _ => ?_) (by rw [ea]; exact pw) (by rw [ea]; exact nd) (fun u hu => by rw [ea]; exact (ad u).mpr (nCt_ad M x y rw' (of_decide_eq_true hu)))
    · obtain ⟨u, w, k', e1, e2, e3, e4, e5, e6⟩ := nGap hc Lf h2 M x y p px.2.1 px.2.2.1 rw' h1 g.2.1
      refine ⟨u, w, e3, e4, ?_, by simpa using e6, ?_⟩
      · rcases e5 with e5 | e5
        · exact Or.inl e5
        · exact Or.inr (by simpa using e5)
      · rcases n2 u w k' e1 e2 with z | z
        · rw [z, e4] at e3; cases e3
        · have := hn k' e1
          omega
    · rcases List.mem_append.mp hu with z | z
      · exact (List.pairwise_append.mp pw).2.2 u z p (by simp)
      · rw [List.mem_singleton.mp z]; exact Nat.le_refl _
  obtain ⟨D, z, r', d1, d2, d3, d4, d5, d6, d9, d7, d8⟩ := nSlide O hc hk (fun u => decide (0 < nCt u M)) y (B ++ [r]) p x Si h nd2 mem chain (fun w hw hv => stay w (mem w hw) (by simpa using hv)) aj (fun hh => by simpa using rv)
  have er : r' = r := by
    have : (p :: (B ++ [r])).getLast? = some r := by
      rw [← List.cons_append, List.getLast?_append]
      rfl
    rw [this] at d3
    exact (Option.some.inj d3).symm
  subst er
  have Sz := bRun_ok O _ _ _ Si d1
  -- all sides but r's are right
  have rest : ∀ q, q ≠ r' → yBit z.ov q = yBit y.ov q := by
    intro q hq
    by_cases in1 : q = p ∨ q ∈ B ++ [r']
    · exact d7 q hq in1
    · have n1 : q ≠ p := fun e => in1 (Or.inl e)
      have n2 : q ∉ B ++ [r'] := fun e => in1 (Or.inr e)
      rw [d8 q n1 n2]
      by_cases qa : yAd φ q
      · have := (ad q).mpr qa
        have qAC : q ∈ A ∨ q ∈ C := by
          rcases List.mem_append.mp this with t | t
          · exact Or.inl t
          · rcases List.mem_cons.mp t with t | t
            · exact absurd t n1
            · rw [e1] at t
              rcases List.mem_append.mp t with t | t
              · exact absurd t n2
              · exact Or.inr t
        rcases qAC with t | t
        · exact List.map_inj_left.mp wA q t
        · exact List.map_inj_left.mp wC q t
      · exact kids q qa
  have bz := yBit_lt z.ov r'
  have by' := yBit_lt y.ov r'
  -- one more crossing by r, if need be
  obtain ⟨D2, z2, f1, f2, f3, f4⟩ : ∃ D2 z2, yRun φ x D2 = some z2 ∧ nHot φ k r' z2 ∧ (∀ q, yBit z2.ov q = yBit y.ov q) ∧ (∀ a, a ∈ D2 → a ≠ 200 ∧ a / 100 = k ∧ (a % 10 = p ∨ (a % 10 ∈ B ++ [r'] ∧ 0 < nCt (a % 10) M))) ∧ (∀ u, nCt u D2 ≤ 2) ∧ nCt p D2 ≤ 1 := by
    have d4' : ∀ a, a ∈ D → a ≠ 200 ∧ a / 100 = k ∧ (a % 10 = p ∨ (a % 10 ∈ B ++ [r'] ∧ 0 < nCt (a % 10) M)) := fun a ha => by
      obtain ⟨a1, a2, a3⟩ := d4 a ha
      refine ⟨a1, a2, ?_⟩
      rcases a3 with a3 | a3
      · exact Or.inl a3
      · exact Or.inr ⟨a3.1, by simpa using a3.2⟩
    by_cases same : yBit z.ov r' = yBit y.ov r'
    · refine ⟨D, z, d1, d2, fun q => ?_, d4', d5, d6⟩
      by_cases e : q = r'
      · rw [e]; exact same
      · exact rest q e
    · have hb : yBit z.ov r' = z.sd := d2.1.2.2.2.1.symm
      obtain ⟨s1, s2, s3, s4, s5, s6, s7⟩ := nStep O hc hk Sz d2 d2.1.1 hb (nBeh_self φ r' k)
      refine ⟨D ++ [100 * k + r'], yDo φ z (100 * k + r'), ?_, s2, fun q => ?_, fun a ha => ?_, fun u => ?_, ?_⟩
      · rw [yRun_snoc, d1]
        show (if yEb φ z (100 * k + r') = true then some (yDo φ z (100 * k + r')) else none) = _
        rw [if_pos s1]
      · rw [s4]
        by_cases e : q = r'
        · rw [if_pos e, e]; omega
        · rw [if_neg e]; exact rest q e
      · rcases List.mem_append.mp ha with t | t
        · exact d4' a t
        · rw [List.mem_singleton.mp t]
          exact ⟨s5, s7, Or.inr ⟨by rw [s6]; simp, by rw [s6]; exact rv⟩⟩
      · rw [nCt_app]
        show nCt u D + ((if 100 * k + r' ≠ 200 ∧ (100 * k + r') % 10 = u then 1 else 0) + 0) ≤ 2
        by_cases e : u = r'
        · have := d9.1
          rw [e]; split <;> omega
        · rw [if_neg (fun t => e (by rw [← t.2, s6]))]
          have := d5 u
          omega
      · rw [nCt_app]
        show nCt p D + ((if 100 * k + r' ≠ 200 ∧ (100 * k + r') % 10 = p then 1 else 0) + 0) ≤ 1
        rw [if_neg (fun t => pr (by rw [← t.2, s6]))]
        omega
  -- as good as y
  have sim : nSim (φ 5 k) y z2 := by
    have sd : y.sd = z2.sd := by rw [g.2.2.2.1, f2.1.2.2.2.1, f3]
    have S2 := bRun_ok O _ _ _ Si f1
    refine ⟨?_, sd, by rw [g.2.1, f2.1.2.1], by rw [g.2.2.1, f2.1.2.2.1], ?_⟩
    · exact nOv fun t => (f3 t).symm
    · exact (nHot0 hL S2.mk1 Sj.mk1 S2.sd f2.1.2.2.2.2.1 g.2.2.2.2.1 f2.1.2.2.2.2.2 f2.2).1 (by rw [g.2.2.2.2.2, sd])
  have win := nWin O hL LL S W (Nat.le_of_lt hij) (m := D2) (y := z2) (by rw [hx]; exact f1) (by rw [hy]; exact sim)
  rw [hM] at win
  -- fewer letters, person by person
  have few : ∀ u, nCt u D2 ≤ nCt u M := by
    intro u
    by_cases u0 : nCt u D2 = 0
    · omega
    · have ua : yAd φ u := nCt_ad D2 x z2 f1 (by omega)
      have p1 := nPar ua D2 x z2 f1
      have p2 := nPar ua M x y rw'
      rw [f3 u] at p1
      have b := yBit_lt x.ov u
      have c := f4.2.1 u
      by_cases up : u = p
      · have c2 := f4.2.2
        rw [← up] at c2
        omega
      · have : 0 < nCt u M := by
          obtain ⟨a, ha, h2, h3⟩ : ∃ a, a ∈ D2 ∧ a ≠ 200 ∧ a % 10 = u := by
            refine Classical.byContradiction fun n => u0 ?_
            exact nCt_0 fun a ha h2 h3 => n ⟨a, ha, h2, h3⟩
          rcases (f4.1 a ha).2.2 with t | t
          · exact absurd (h3.symm.trans t) up
          · rw [← h3]; exact t.2
        omega
  have q6 : ∀ a, a ∈ D2 → a ≠ 200 ∧ a / 100 = k ∧ a % 10 < 6 := fun a ha => by
    obtain ⟨a1, a2, a3⟩ := f4.1 a ha
    have : yAd φ (a % 10) := by
      rcases a3 with t | t
      · rw [t]; exact px.1
      · exact mem _ t.1
    exact ⟨a1, a2, by have := this.1; omega⟩
  obtain ⟨v1, v2, v3⟩ := nRisk_eq (φ := φ) (k := k) D2 q6
  have v4 := nRisk_ge O hs M x y rw'
  have v5 : s6 (fun u => nCt u D2 * yRisk φ u k) ≤ s6 (fun u => nCt u M * yRisk φ u k) := s6_le fun u => Nat.mul_le_mul_right _ (few u)
  have v6 := nSum O M x y rw'
  have v7 : s6 (fun u => nCt u D2) ≤ s6 (fun u => nCt u M) := s6_le few
  have v8 := nDays φ M
  have v9 := nDays φ D2
  rw [v3] at v9
  have : lo M * φ 0 0 = 0 := by omega
  rcases Nat.mul_eq_zero.mp this with t | t
  · exact t
  · omega
