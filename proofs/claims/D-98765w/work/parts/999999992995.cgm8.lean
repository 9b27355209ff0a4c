set_option maxRecDepth 100000
/-! children: each carried at most once -/
theorem lo_cDrop : ∀ (l : List Nat) (D : Nat), (∀ a, a ∈ l → a ≤ 200) → lo (cDrop D l) = lo l ∧ cr (cDrop D l) = cr l := by
  intro l
  induction l with
  | nil => intro D _; exact ⟨rfl, rfl⟩
  | cons a l ih =>
    intro D h
    have ha := h a List.mem_cons_self
    have h' : ∀ b, b ∈ l → b ≤ 200 := fun b hb => h b (List.mem_cons_of_mem _ hb)
    have e : cNo a = 200 ↔ a = 200 := by
      unfold cNo
      by_cases g : a = 200
      · simp [g]
      · rw [if_neg g]; omega
    unfold cDrop
    split
    · show (if a = 200 then 1 else 0) + lo (cDrop _ l) = (if a = 200 then 1 else 0) + lo l ∧ (if a = 200 then 0 else 1) + cr (cDrop _ l) = (if a = 200 then 0 else 1) + cr l
      rw [(ih _ h').1, (ih _ h').2]; exact ⟨rfl, rfl⟩
    · show (if cNo a = 200 then 1 else 0) + lo (cDrop _ l) = (if a = 200 then 1 else 0) + lo l ∧ (if cNo a = 200 then 0 else 1) + cr (cDrop _ l) = (if a = 200 then 0 else 1) + cr l
      rw [(ih _ h').1, (ih _ h').2]
      by_cases g : a = 200
      · rw [if_pos (e.mpr g), if_pos g, if_pos (e.mpr g), if_pos g]; exact ⟨rfl, rfl⟩
      · rw [if_neg (fun w => g (e.mp w)), if_neg g, if_neg (fun w => g (e.mp w)), if_neg g]; exact ⟨rfl, rfl⟩
theorem nCl_filter : ∀ l : List Nat, nCl (l.filter (· ≠ 200)) = nCl l := by
  intro l
  induction l with
  | nil => rfl
  | cons a l ih =>
    by_cases h : a = 200
    · subst h
      have : (200 :: l).filter (· ≠ 200) = l.filter (· ≠ 200) := by simp
      rw [this, ih]
      show _ = (if cCh 200 ≠ 0 then 1 else 0) + nCl l
      simp [cCh]
    · have : (a :: l).filter (· ≠ 200) = a :: l.filter (· ≠ 200) := by simp [h]
      rw [this]
      show (if cCh a ≠ 0 then 1 else 0) + nCl _ = (if cCh a ≠ 0 then 1 else 0) + nCl l
      rw [ih]
/-- as Cg_bd, for rows that carry each child at most once -/
theorem Cg_bdK {φ : Nat → Nat → Nat} (O : yOk φ) (hl : 0 < φ 0 0) (hc : φ 0 7 ≠ 0) {l0 : List Nat} {σ : ySt} (r0 : yRun φ yFirst l0 = some σ) {b : Nat} (hb : b < 2)
    (H : ∀ v, Cg_W φ (fun _ a => yPr1 φ b a) (fun f _ => f) (fun _ _ => 1) (Cg_of σ) (yEnd φ) v → nAd φ + nCl v ≤ 6 → v.length + Cg_lo (Cg_of σ) v ≤ 400 ∧ v.length + 9 * Cg_lo (Cg_of σ) v < 1000) : yBd1 φ b σ := by
  refine Cg_bdE O hl hc r0 hb fun ⟨m0, m1, m2⟩ => ?_
  have S := bRun_ok O _ _ _ (yFirst_ok φ) r0
  have I := Cg_in_run O hc _ _ _ (yFirst_ok φ) ⟨fun _ => rfl, fun h => absurd rfl h⟩ r0
  have hz := uZ_run _ _ _ (uZ_first φ) r0 hc
  have R := Cg_of_rel S I hz
  obtain ⟨v, ⟨v1, v2⟩, vl⟩ := Cg_W_ex (φ := φ) (fun _ a => yPr1 φ b a) (fun f _ => f) (fun _ _ => 1) m1 m2
  obtain ⟨τ, t1, t2, t3⟩ := Cg_raw_run O hc v σ _ _ S R rfl ((Cg_run_iff _ _ _).mpr ⟨v1, rfl⟩)
  have lt := Cg_ok_lt v _ v1
  obtain ⟨p1, p2, p3⟩ := Cg_raw_pr φ b v (Cg_of σ) fun a ha e => by have := lt a ha; omega
  have hch := O.children
  have q6 : ∀ q, yBit (φ 0 4) q = 1 → q < 6 := fun q hq => by
    rcases Nat.lt_or_ge q 6 with h | h
    · exact h
    · exfalso
      have := bBit_1.mp hq
      rw [Nat.testBit_lt_two_pow (Nat.lt_of_lt_of_le hch (Nat.pow_le_pow_right (n := 2) (by decide) h))] at this
      cases this
  have le := yEb_le' _ σ τ t1
  obtain ⟨τ', u1, ⟨k1, k2, k3, k4, k5⟩, u3⟩ := cDrop_run (Cg_raw (Cg_of σ) v) (cOdd (Cg_raw (Cg_of σ) v) 6) σ σ τ t1 (cLike_refl φ σ) (fun q hq => by
    have lt := q6 q hq
    unfold cKid
    rw [cOdd_bit]
    have b := yBit_lt σ.ov q
    by_cases h : cCnt q (Cg_raw (Cg_of σ) v) % 2 = 1
    · simp [h, lt]
    · have h0 : cCnt q (Cg_raw (Cg_of σ) v) % 2 = 0 := by omega
      refine ⟨fun g => by simp [h] at g, fun _ => by omega⟩)
  have eov : τ'.ov = τ.ov := by
    apply Nat.eq_of_testBit_eq
    intro q
    have : yBit τ'.ov q = yBit τ.ov q := by
      by_cases h : yBit (φ 0 4) q = 1
      · exact u3 q h
      · exact (k5 q h).symm
    rw [bBit, bBit] at this
    cases h1 : τ'.ov.testBit q <;> cases h2 : τ.ov.testBit q <;> simp_all
  have cost := cDrop_cost φ b (Cg_raw (Cg_of σ) v) (cOdd (Cg_raw (Cg_of σ) v) 6) le
  obtain ⟨d1, d2⟩ := lo_cDrop (Cg_raw (Cg_of σ) v) (cOdd (Cg_raw (Cg_of σ) v) 6) le
  generalize hm : cDrop (cOdd (Cg_raw (Cg_of σ) v) 6) (Cg_raw (Cg_of σ) v) = m at *
  have cnt : ∀ q, cCnt q m ≤ 1 := fun q => by
    have := cDrop_cnt (Cg_raw (Cg_of σ) v) (cOdd (Cg_raw (Cg_of σ) v) 6) q
    rw [hm] at this
    split at this <;> omega
  obtain ⟨y, y1, y2, y3⟩ := Cg_of_run O hc m σ τ' _ S R u1
  rw [if_pos (show σ.sd = Cg_d (Cg_of σ) from rfl)] at y3
  obtain ⟨w1, w2⟩ := (Cg_run_iff _ _ _).mp y1
  obtain ⟨f1, f2⟩ := Cg_filter_pr φ b m (Cg_of σ)
  have W2 : Cg_W φ (fun _ a => yPr1 φ b a) (fun f _ => f) (fun _ _ => 1) (Cg_of σ) (yEnd φ) (m.filter (· ≠ 200)) := by
    refine ⟨⟨w1, by rw [← w2, ← y2.2.2.1, eov, t2.2.2.1]; exact v2⟩, fun n n1 n2 => Cg_lx_tr ?_ (vl n n1 n2)⟩
    unfold Cg_lx
    rw [f1, cost.1, p1, ← Cg_lo_S, ← Cg_lo_S, ← Cg_len_S, ← Cg_len_S, f2, d2, p3]
    right
    refine ⟨rfl, ?_⟩
    omega
  have nc := nAd_nCa O u1 cnt
  rw [nCa_take m _ (Nat.le_refl _), List.take_length] at nc
  exact ⟨_, W2, H _ W2 (by rw [nCl_filter]; exact nc)⟩
/-- loafs of rows with children -/
theorem Cg_lo_kid {φ : Nat → Nat → Nat} (O : yOk φ) {A : Nat} (hA : A < φ 0 3) (h0 : φ 5 A = 0) {c1 : Nat → Nat → Nat} (Z : Cg_zr c1) {x : CgS} {T : Nat} : ∀ (l p q : List Nat), Cg_W φ c1 (fun f _ => f) (fun _ _ => 1) x T (p ++ (q ++ l)) → Cg_kid q → Cg_g φ (Cg_end x p) →
    Cg_lo (Cg_end x p) (q ++ l) ≤ 7 * nCl l + 6 := by
  have short : ∀ (l p q : List Nat), Cg_W φ c1 (fun f _ => f) (fun _ _ => 1) x T (p ++ (q ++ l)) → Cg_kid q → Cg_g φ (Cg_end x p) → Cg_lo (Cg_end x p) q ≤ 6 := by
    intro l p q W kd g
    by_cases h7 : 7 ≤ Cg_lo (Cg_end x p) q
    · exfalso
      have k := ((Cg_ok_app _ _ _).mp ((Cg_ok_app _ _ _).mp W.1.1).2).1
      obtain ⟨m, m1, m2, m3, m4⟩ := Cg_seven O hA h0 g k kd h7
      have := Cg_win W (m := m) m1 m2
      unfold Cg_lx at this
      rw [Z, Z, ← Cg_lo_S, ← Cg_lo_S] at this
      omega
    · omega
  intro l
  induction l with
  | nil =>
    intro p q W kd g
    have := short [] p q W kd g
    rw [List.append_nil]
    show _ ≤ 7 * 0 + 6
    omega
  | cons a l ih =>
    intro p q W kd g
    by_cases ka : a % 100 / 10 = 0
    · have e : q ++ a :: l = (q ++ [a]) ++ l := by simp
      rw [e] at W ⊢
      have := ih p (q ++ [a]) W (fun b hb => by
        rcases List.mem_append.mp hb with h | h
        · exact kd b h
        · rcases List.mem_cons.mp h with h | h
          · rw [h]; exact ka
          · cases h) g
      show _ ≤ 7 * ((if cCh a ≠ 0 then 1 else 0) + nCl l) + 6
      omega
    · have k := W.1.1
      have s := short (a :: l) p q W kd g
      have e : p ++ (q ++ a :: l) = (p ++ q ++ [a]) ++ ([] ++ l) := by simp
      have ka2 := ((Cg_ok_app _ _ _).mp ((Cg_ok_app _ _ _).mp k).2).2
      have ca : Cg_can φ (Cg_end (Cg_end x p) q) a = true := ka2.1
      have en : Cg_end x (p ++ q ++ [a]) = Cg_go (Cg_end (Cg_end x p) q) a := by rw [Cg_end_app, Cg_end_app]; rfl
      have g' : Cg_g φ (Cg_end x (p ++ q ++ [a])) := by rw [en]; exact Cg_g_go ca
      rw [e] at W
      have i := ih (p ++ q ++ [a]) [] W (fun b hb => nomatch hb) g'
      rw [en] at i
      have fl : Cg_lf (Cg_end (Cg_end x p) q) a ≤ 1 := by unfold Cg_lf; split <;> omega
      have t : Cg_lo (Cg_end x p) (q ++ a :: l) = Cg_lo (Cg_end x p) q + (Cg_lf (Cg_end (Cg_end x p) q) a + Cg_lo (Cg_go (Cg_end (Cg_end x p) q) a) l) := by
        rw [Cg_lo_S, Cg_lo_S, Cg_lo_S, Cg_S_app]; rfl
      have lt := (Cg_can_iff.mp ca).1
      have cc : cCh a ≠ 0 := by unfold cCh; rw [if_neg (by omega)]; exact ka
      show _ ≤ 7 * ((if cCh a ≠ 0 then 1 else 0) + nCl l) + 6
      rw [if_pos cc, t]
      have i' : Cg_lo (Cg_go (Cg_end (Cg_end x p) q) a) l ≤ 7 * nCl l + 6 := i
      omega
/-- hot places, by grown-ups -/
theorem Cg_hot_ad {φ : Nat → Nat → Nat} (O : yOk φ) {c1 c2 : Nat → Nat → Nat} {x : CgS} (s6 : Cg_s x < 64) {T : Nat} {l : List Nat} (W : Cg_W φ c1 c2 (fun _ _ => 1) x T l) : yCn (Cg_H x l) l.length ≤ 64 * nAd φ := by
  have k := W.1.1
  have p6 := O.persons
  have ad : ∀ i, i < l.length → (decide (Cg_tk l i < φ 0 2) && !(φ 0 4).testBit (Cg_tk l i)) = true := fun i hi => by
    have := (Cg_can_iff.mp (Cg_at_can k hi)).2.2.1
    have b := bBit_0.mp this.2
    show (decide (ac l i % 10 < φ 0 2) && !(φ 0 4).testBit (ac l i % 10)) = true
    rw [b]; simp [this.1]
  refine yPig2 (g := fun i => 64 * yCn (fun p => decide (p < φ 0 2) && !(φ 0 4).testBit p) (Cg_tk l i) + Cg_s (Cg_at x l (i + 1))) (fun i hi _ => ?_) (fun i j hij hj h h' e => ?_)
  · have a := ad i hi
    have := Cg_at_s O k s6 (i + 1)
    have t6 : Cg_tk l i < 6 := by have := (Cg_can_iff.mp (Cg_at_can k hi)).2.2.1.1; unfold Cg_tk; omega
    have := bCn_lt (fun p => decide (p < φ 0 2) && !(φ 0 4).testBit p) t6 a
    unfold nAd
    omega
  · have s1 := Cg_at_s O k s6 (i + 1)
    have s2 := Cg_at_s O k s6 (j + 1)
    refine Cg_hot_ne W (i := i + 1) (j := j + 1) (by omega) (by omega) (by omega) (by rw [Cg_H_iff.mp h, Cg_H_iff.mp h']; exact Nat.le_refl _) ?_ (by omega)
    rw [Cg_at_t (by omega), Cg_at_t hj]
    have := yCn_inj (fun p => decide (p < φ 0 2) && !(φ 0 4).testBit p) (ad i (by omega)) (ad j hj) (by omega)
    rw [this]
theorem nAd_all {φ : Nat → Nat → Nat} (h : 6 ≤ nAd φ) : ∀ p, p < 6 → p < φ 0 2 ∧ (φ 0 4).testBit p = false := by
  intro p hp
  refine Classical.byContradiction fun n => ?_
  have : (decide (p < φ 0 2) && !(φ 0 4).testBit p) = false := by
    cases z : (decide (p < φ 0 2) && !(φ 0 4).testBit p)
    · rfl
    · exfalso; apply n; simpa using z
  have e : yCn (fun p => decide (p < φ 0 2) && !(φ 0 4).testBit p) 6 = 0 + (if (decide (0 < φ 0 2) && !(φ 0 4).testBit 0) = true then 1 else 0) + (if (decide (1 < φ 0 2) && !(φ 0 4).testBit 1) = true then 1 else 0) + (if (decide (2 < φ 0 2) && !(φ 0 4).testBit 2) = true then 1 else 0) + (if (decide (3 < φ 0 2) && !(φ 0 4).testBit 3) = true then 1 else 0) + (if (decide (4 < φ 0 2) && !(φ 0 4).testBit 4) = true then 1 else 0) + (if (decide (5 < φ 0 2) && !(φ 0 4).testBit 5) = true then 1 else 0) := rfl
  unfold nAd at h
  rw [e] at h
  have c : p = 0 ∨ p = 1 ∨ p = 2 ∨ p = 3 ∨ p = 4 ∨ p = 5 := by omega
  have le : ∀ b : Bool, (if b = true then 1 else 0) ≤ 1 := fun b => by cases b <;> decide
  have l0 := le (decide (0 < φ 0 2) && !(φ 0 4).testBit 0)
  have l1 := le (decide (1 < φ 0 2) && !(φ 0 4).testBit 1)
  have l2 := le (decide (2 < φ 0 2) && !(φ 0 4).testBit 2)
  have l3 := le (decide (3 < φ 0 2) && !(φ 0 4).testBit 3)
  have l4 := le (decide (4 < φ 0 2) && !(φ 0 4).testBit 4)
  have l5 := le (decide (5 < φ 0 2) && !(φ 0 4).testBit 5)
  rcases c with c | c | c | c | c | c <;> subst c <;> rw [this] at h <;> simp only [Bool.false_eq_true, if_false] at h <;> omega
/-- THE BOUND BY DAYS, COMPARING, where a post asks for no looks -/
theorem Cg_bd0 {φ : Nat → Nat → Nat} (O : yOk φ) (hl : 0 < φ 0 0) (hc : φ 0 7 ≠ 0) {A : Nat} (hA : A < φ 0 3) (h0 : φ 5 A = 0) {l0 : List Nat} {σ : ySt} (r0 : yRun φ yFirst l0 = some σ) : yBd1 φ 0 σ := by
  have S := bRun_ok O _ _ _ (yFirst_ok φ) r0
  have I := Cg_in_run O hc _ _ _ (yFirst_ok φ) ⟨fun _ => rfl, fun h => absurd rfl h⟩ r0
  have hz := uZ_run _ _ _ (uZ_first φ) r0 hc
  have R := Cg_of_rel S I hz
  have s6 : Cg_s (Cg_of σ) < 64 := yOv64 O S
  have r1 : 1 ≤ Cg_r (Cg_of σ) := by
    show 1 ≤ (if _ then _ else _)
    split
    · decide
    · split
      · decide
      · split <;> decide
  have r3 := R.2.2.2.2.2.2.2
  have Z : Cg_zr (fun _ a => yPr1 φ 0 a) := by
    intro x l
    induction l generalizing x with
    | nil => rfl
    | cons a l ih => show yPr1 φ 0 a + Cg_S _ _ l = 0; rw [ih]; rfl
  refine Cg_bdK O hl hc r0 (by decide) fun v W nk => ?_
  by_cases n6 : 6 ≤ nAd φ
  · have all := nAd_all n6
    refine Cg_days0 O hA h0 Z r1 r3 s6 W fun a ha => ?_
    have : ∀ (l : List Nat) (x : CgS), Cg_ok φ x l → ∀ a, a ∈ l → a % 100 / 10 = 0 := by
      intro l
      induction l with
      | nil => intro x _ a h; cases h
      | cons b l ih =>
        intro x k a h
        rcases List.mem_cons.mp h with e | e
        · rw [e]
          obtain ⟨h1, h2, h3, h4, h5, _⟩ := Cg_can_iff.mp k.1
          rcases h5 with h5 | h5
          · exact h5
          · refine Classical.byContradiction fun n => ?_
            have p6 := O.persons
            have := (all (b % 100 / 10 - 1) (by omega)).2
            have w := h5.1
            rw [bBit, this] at w
            simp at w
        · exact ih _ k.2 a e
    exact this _ _ W.1.1 a ha
  · have h1 := Cg_hot_ad O s6 W
    have h2 := Cg_cold W.1.1 r1 r3
    have h3 := Cg_C_lo W.1.1
    have h5 := yCn_not (Cg_H (Cg_of σ) v) v.length
    have h4 : Cg_lo (Cg_of σ) v ≤ 7 * nCl v + 7 := by
      cases v with
      | nil => exact Nat.zero_le _
      | cons a v =>
        have fl : Cg_lf (Cg_of σ) a ≤ 1 := by unfold Cg_lf; split <;> omega
        have i := Cg_lo_kid O hA h0 Z v [a] [] W (fun b hb => nomatch hb) (Cg_g_go W.1.1.1)
        have i' : Cg_lo (Cg_go (Cg_of σ) a) v ≤ 7 * nCl v + 6 := i
        show Cg_lf (Cg_of σ) a + Cg_lo (Cg_go (Cg_of σ) a) v ≤ 7 * ((if cCh a ≠ 0 then 1 else 0) + nCl v) + 7
        omega
    omega
