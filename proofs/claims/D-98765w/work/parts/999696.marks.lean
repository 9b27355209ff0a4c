set_option maxRecDepth 100000
/-! part 999696: the component marks the states of the cheapest rows -/
/-- the state i is on a cheapest row, whose cost is T -/
def yRw (φ : Nat → Nat → Nat) (b T : Nat) (f : Nat → Nat) (u : Nat → ySt) (i : Nat) : Prop := ∃ p s, yDx φ b (u i) p s ∧ f i + (1000 * p + s) = T
/-- some act from a on leads to a marked one as cheaply as can be -/
def yLk (φ : Nat → Nat → Nat) (b n : Nat) (f : Nat → Nat) (u : Nat → ySt) (o : Nat → Bool) (i a : Nat) : Prop :=
  ∃ x j, a ≤ x ∧ yEb φ (u i) x = true ∧ j < n ∧ u j = yDo φ (u i) x ∧ o j = true ∧ f j = f i + yCst φ 1000 b x
theorem yRe_set {φ : Nat → Nat → Nat} {b n : Nat} {σ : ySt} {f : Nat → Nat} {u : Nat → ySt} (Z : ySet φ b σ n f u) (R : yRe φ σ) {i : Nat} (hi : i < n) : yRe φ (u i) := by
  obtain ⟨l, r⟩ := R
  obtain ⟨m, q, _⟩ := (Z.1 i hi).2.1
  refine ⟨l ++ m, ?_⟩
  rw [yRun_append, r]
  exact q
theorem yRw_end {φ : Nat → Nat → Nat} (W : yBnd) (O : yOk φ) (hl : 0 < φ 0 0) {b n T : Nat} (hb : b < 3) {σ : ySt} {f : Nat → Nat} {u : Nat → ySt} (Z : ySet φ b σ n f u) (R : yRe φ σ) {i : Nat} (hi : i < n) (e : yIsE φ (u i)) : yRw φ b T f u i ↔ f i = T := by
  obtain ⟨p, s, D⟩ := yDx_ex W O hl hb (yRe_set Z R hi) ⟨[], u i, rfl, e⟩
  obtain ⟨rfl, rfl⟩ := yDx_end D e
  constructor
  · rintro ⟨p, s, D2, h⟩
    obtain ⟨rfl, rfl⟩ := yDx_end D2 e
    omega
  · intro h
    exact ⟨0, 0, D, by omega⟩
theorem yRw_iff {φ : Nat → Nat → Nat} (W : yBnd) (O : yOk φ) (hl : 0 < φ 0 0) {b n p0 s0 : Nat} (hb : b < 3) {σ : ySt} {f : Nat → Nat} {u : Nat → ySt} (Z : ySet φ b σ n f u) (R : yRe φ σ) (D0 : yDx φ b σ p0 s0) {o : Nat → Bool} {i : Nat} (hi : i < n)
    (ho : ∀ j, i < j → j < n → (o j = true ↔ yRw φ b (1000 * p0 + s0) f u j)) : ((yIsE φ (u i) ∧ f i = 1000 * p0 + s0) ∨ yLk φ b n f u o i 0) ↔ yRw φ b (1000 * p0 + s0) f u i := by
  have Ri := yRe_set Z R hi
  have w0 := (Z.1 i hi).2.1
  have low : ∀ k, k < n → ∀ p s, yDx φ b (u k) p s → 1000 * p0 + s0 ≤ f k + (1000 * p + s) := fun k hk p s D => by
    obtain ⟨⟨ρ, e, w⟩, _⟩ := D.2.2 1000 (by decide)
    exact (D0.2.2 1000 (by decide)).2 ρ _ e ((Z.1 k hk).2.1.trans w)
  have later : ∀ j x, j < n → f j = f i + yCst φ 1000 b x → i < j := fun j x hj e => by
    have := yCst_pos hl 1000 b x
    rcases Nat.lt_or_ge i j with q | q
    · exact q
    · have := Z.2.2.2 j i q hi
      omega
  constructor
  · rintro (⟨e, h⟩ | ⟨x, j, _, ex, hj, ej, oj, fj⟩)
    · exact (yRw_end W O hl hb Z R hi e).mpr h
    · obtain ⟨p, s, D, h⟩ := (ho j (later j x hj fj) hj).mp oj
      rw [ej] at D
      obtain ⟨p2, s2, D2⟩ := yDx_ex W O hl hb Ri (yHo.cons ex D.ho)
      have a := D2.step ex D (H := 1000) (by decide)
      have c := low i hi p2 s2 D2
      exact ⟨p2, s2, D2, by omega⟩
  · rintro ⟨p, s, D, h⟩
    by_cases e : yIsE φ (u i)
    · left
      exact ⟨e, (yRw_end W O hl hb Z R hi e).mp ⟨p, s, D, h⟩⟩
    · right
      obtain ⟨l, y1, y2, y3, ρ, y4, y5⟩ := yRow_ex W O hl hb s p (u i) Ri D
      cases l with
      | nil => exact absurd y1 e
      | cons x l =>
        obtain ⟨_, ⟨⟨ex, p1, s1, p2, s2, D1, D2, ti⟩, _⟩, _⟩ := y1
        obtain ⟨rfl, rfl⟩ := D.uniq D1
        obtain ⟨j, hj, ej⟩ := Z.next hi ex
        have t := (D.tight O hb ex D2).1.mpr ti
        rw [← ej] at D2
        have c := low j hj p2 s2 D2
        have d := (Z.1 j hj).2.2.1 _ (by rw [ej]; exact w0.snoc ex)
        have fj : f j = f i + yCst φ 1000 b x := by omega
        exact ⟨x, j, Nat.zero_le _, ex, hj, ej, (ho j (later j x hj fj) hj).mpr ⟨p2, s2, D2, by omega⟩, fj⟩
theorem yc_mark_loop {φ : Nat → Nat → Nat} (O : yOk φ) {N : Nat} (hN : 200000 ≤ N) {b n : Nat} (hb : b < 3) {σ : ySt} {f : Nat → Nat} {u : Nat → ySt} (Z : ySet φ b σ n f u) {i : Nat} (hi : i < n) {o : Nat → Bool} (x2 : Int32) (K : Int32 → wMem → Option (Int32 × wMem)) : ∀ (d M a : Nat) (ν : wMem), 201 - a ≤ d → d + 1 < M → a ≤ 201 →
    yFC φ ν → ySeM n f u ν → yOn n u o ν → ∃ r : Bool, gX0_marks_106 N (19 + b) x2 (nI (yNum (u i))) K M 0 (nI (yNx φ (u i) a)) (yPut ν (u i)) = K (yB r) (yPut ν (u i)) ∧ (r = true ↔ yLk φ b n f u o i a) := by
  intro d
  induction d with
  | zero =>
    intro M a ν hd hM ha F C H
    obtain ⟨M, rfl⟩ : ∃ q, M = q + 1 := ⟨M - 1, by omega⟩
    have : a = 201 := by omega
    subst this
    have e : yNx φ (u i) 201 = 201 := rfl
    refine ⟨false, ?_, ⟨fun h => absurd h (by decide), fun ⟨x, j, h1, ex, _⟩ => by have := yEb_le ex; omega⟩⟩
    rw [e]
    show gbX0_marks_106 N _ _ _ _ _ _ _ _ = _
    unfold gbX0_marks_106
    rw [if_pos (by decide)]
    rfl
  | succ d ih =>
    intro M a ν hd hM ha F C H
    obtain ⟨M, rfl⟩ : ∃ q, M = q + 1 := ⟨M - 1, by omega⟩
    obtain ⟨l1, l2⟩ := yNx_le φ (u i) ha
    have on := yNx_on φ (u i) ha
    have off : ∀ y, a ≤ y → y < yNx φ (u i) a → yEb φ (u i) y = false := fun y h1 h2 => yNx_off φ (u i) ha h1 h2
    generalize yNx φ (u i) a = x at *
    have e200 : ((200 : Int32) < nI x) = (200 < x) := xI_lt (a := 200) (by decide) (by omega)
    by_cases gx : x = 201
    · subst gx
      refine ⟨false, ?_, ⟨fun h => absurd h (by decide), fun ⟨y, j, h1, ey, _⟩ => ?_⟩⟩
      · show gbX0_marks_106 N _ _ _ _ _ _ _ _ = _
        unfold gbX0_marks_106
        rw [yIf e200, if_pos (by omega)]
        rfl
      · have := yEb_le ey
        rw [off y h1 (by omega)] at ey
        cases ey
    · have ex := on gx
      obtain ⟨hx, hc⟩ := yEb_act ex
      have U := (Z.1 i hi).1
      have fi := (Z.1 i hi).2.2.2
      have lti := yNum_lt O U
      obtain ⟨j, hj, ej⟩ := Z.next hi ex
      have fj := (Z.1 j hj).2.2.2
      have ltj := yNum_lt O (Z.1 j hj).1
      have dd := yc_does O F U N hx
      rw [← ej] at dd
      have un : yUn (yNum (u i)) = u i := yUn_num O U
      have add1 : nI x + (1 : Int32) = nI (x + 1) := nI_add x 1
      have nx := yc_nx O F U (N := N) (by omega) (a := x + 1) (by omega)
      have cc := yCst_le O (H := 1000) (b := b) (by decide) hx
      have ofj := yc_of O (yFC_put F (u j)) N hx hb
      have ce : (nI (f j) = nI (f i + yCst φ 1000 b x)) = (f j = f i + yCst φ 1000 b x) := xI_eq (by omega) (by omega)
      have step : gX0_marks_106 N (19 + b) x2 (nI (yNum (u i))) K (M + 1) 0 (nI x) (yPut ν (u i)) = gX0_marks_106 N (19 + b) x2 (nI (yNum (u i))) K M (yB (o j && decide (f j = f i + yCst φ 1000 b x))) (nI (yNx φ (u i) (x + 1))) (yPut ν (u i)) := by
        show gbX0_marks_106 N _ _ _ _ _ _ _ _ = _
        unfold gbX0_marks_106 fX0_nextBy wLet
        dsimp only
        rw [yIf e200, if_neg (by omega), if_pos rfl, dd, yBV, yc_state, yBd, yBd, yG (xI_in ltj (by decide)), xI_cl (by omega), yPut_c ν _ (by decide) (by decide), H j hj]
        by_cases g : o j = true
        · rw [g, if_neg (by decide), yG (xI_in ltj (by decide)), yG (xI_in lti (by decide)), ofj, yBd, yPut_c ν _ (by decide) (by decide), (C.2.1 j hj).2, xI_cl (by omega), yPut_c ν _ (by decide) (by decide), (C.2.1 i hi).2, nI_add, yIf ce]
          by_cases g2 : f j = f i + yCst φ 1000 b x
          · rw [if_pos g2, yc_be _ (s := yNum (u i)) (by omega) N, yBV, un, yPut_put, add1, nx, yBd]
            simp [g2]
            rfl
          · rw [if_neg g2, yc_be _ (s := yNum (u i)) (by omega) N, yBV, un, yPut_put, add1, nx, yBd]
            simp [g2]
            rfl
        · have g2 : o j = false := by simpa using g
          rw [g2, if_pos (by decide), yc_be _ (s := yNum (u i)) (by omega) N, yBV, un, yPut_put, add1, nx, yBd]
          rfl
      rw [step]
      by_cases g : (o j && decide (f j = f i + yCst φ 1000 b x)) = true
      · obtain ⟨g1, g2⟩ := Bool.and_eq_true .. ▸ g
        refine ⟨true, ?_, ⟨fun _ => ⟨x, j, l1, ex, hj, ej, g1, of_decide_eq_true g2⟩, fun _ => rfl⟩⟩
        obtain ⟨M, rfl⟩ : ∃ q, M = q + 1 := ⟨M - 1, by omega⟩
        rw [g]
        show gbX0_marks_106 N _ _ _ _ _ _ _ _ = _
        unfold gbX0_marks_106
        by_cases q : (200 : Int32) < nI (yNx φ (u i) (x + 1))
        · rw [if_pos q]
        · rw [if_neg q, if_neg (by decide)]
      · have g0 : (o j && decide (f j = f i + yCst φ 1000 b x)) = false := by simpa using g
        rw [g0]
        obtain ⟨r, i1, i2⟩ := ih M (x + 1) ν (by omega) (by omega) (by omega) F C H
        refine ⟨r, i1, i2.trans ⟨fun ⟨y, k, h1, ey, r1⟩ => ⟨y, k, by omega, ey, r1⟩, fun ⟨y, k, h1, ey, hk, ek, ok, fk⟩ => ?_⟩⟩
        refine ⟨y, k, ?_, ey, hk, ek, ok, fk⟩
        by_cases q : y < x
        · rw [off y h1 q] at ey; cases ey
        · by_cases q2 : y = x
          · subst q2
            have : k = j := Z.2.2.1 k j hk hj (ek.trans ej.symm)
            subst this
            exact absurd (by rw [ok, decide_eq_true fk]; rfl) g
          · omega
theorem yc_mark_back {φ : Nat → Nat → Nat} (W : yBnd) (O : yOk φ) (hl : 0 < φ 0 0) {N : Nat} (hN : 200000 ≤ N) {b n p0 s0 : Nat} (hb : b < 3) {σ : ySt} {f : Nat → Nat} {u : Nat → ySt} (Z : ySet φ b σ n f u) (R : yRe φ σ) (D0 : yDx φ b σ p0 s0) (K : wMem → Option (Int32 × wMem)) : ∀ (k M : Nat) (o : Nat → Bool) (ν : wMem), k < M → k ≤ n →
    yFC φ ν → ySeM n f u ν → yOn n u o ν → ν.1 0 23 = nI (1000 * p0 + s0) → (∀ i, k ≤ i → i < n → (o i = true ↔ yRw φ b (1000 * p0 + s0) f u i)) →
    ∃ o1 ν1, gX0_marks_56 N (19 + b) K M (nI k - 1) ν = K ν1 ∧ yOn n u o1 ν1 ∧ yKo ν ν1 ∧ ∀ i, i < n → (o1 i = true ↔ yRw φ b (1000 * p0 + s0) f u i) := by
  intro k
  induction k with
  | zero =>
    intro M o ν hM hk F C H t s
    obtain ⟨M, rfl⟩ : ∃ q, M = q + 1 := ⟨M - 1, by omega⟩
    refine ⟨o, ν, ?_, H, yKo.rfl' _, fun i hi => s i (Nat.zero_le _) hi⟩
    show gbX0_marks_56 N _ _ _ _ _ = _
    unfold gbX0_marks_56
    rw [if_pos (by decide)]
  | succ k ih =>
    intro M o ν hM hk F C H t s
    obtain ⟨M, rfl⟩ : ∃ q, M = q + 1 := ⟨M - 1, by omega⟩
    have hk' : k < n := by omega
    have hn := C.1
    have U := (Z.1 k hk').1
    have fk := (Z.1 k hk').2.2.2
    have lt := yNum_lt O U
    obtain ⟨c13, c10⟩ := C.2.1 k hk'
    have pk : nI (k + 1) - (1 : Int32) = nI k := xI_pred (z := k + 1) (by omega)
    have m2 := xI_m2 k
    rw [pk] at m2
    have un : yUn (yNum (u k)) = u k := yUn_num O U
    have p1 := D0.1
    have p2 := D0.2.1
    have ce : (nI (f k) = nI (1000 * p0 + s0)) = (f k = 1000 * p0 + s0) := xI_eq (by omega) (by omega)
    have nx := yc_nx O F U (N := N) (by omega) (a := 0) (by omega)
    obtain ⟨r0, i1, i2⟩ := yc_mark_loop O hN hb Z hk' (o := o) (nI k) (fun (x48 : Int32) (μ47 : wMem) => wG (ok_in (nI (yNum (u k))) 100352) (wG (ok_b x48) (wLet (wSI μ47 14 (Int32.toNatClampNeg (nI (yNum (u k)))) x48) fun μ51 => wLet (nI k + (-1) : Int32) fun x52 => gX0_marks_56 N (19 + b) K M x52 μ51))) 201 N 0 ν (by omega) (by omega) (by omega) F C H
    have iff := yRw_iff W O hl hb Z R D0 hk' (o := o) (fun j h1 h2 => s j (by omega) h2)
    -- the value that is written
    have wr : ∃ r : Bool, gX0_marks_56 N (19 + b) K (M + 1) (nI (k + 1) - 1) ν = gX0_marks_56 N (19 + b) K M (nI k - 1) (wSI (yPut ν (u k)) 14 (yNum (u k)) (yB r)) ∧ (r = true ↔ yRw φ b (1000 * p0 + s0) f u k) := by
      by_cases g : (u k).ov = yEnd φ ∧ f k = 1000 * p0 + s0
      · refine ⟨true, ?_, ⟨fun _ => iff.mp (Or.inl g), fun _ => rfl⟩⟩
        obtain ⟨N1, eN⟩ : ∃ q, N = q + 1 := ⟨N - 1, by omega⟩
        have fin : ∀ x, gX0_marks_106 N (19 + b) (nI k) (nI (yNum (u k))) (fun (x48 : Int32) (μ47 : wMem) => wG (ok_in (nI (yNum (u k))) 100352) (wG (ok_b x48) (wLet (wSI μ47 14 (Int32.toNatClampNeg (nI (yNum (u k)))) x48) fun μ51 => wLet (nI k + (-1) : Int32) fun x52 => gX0_marks_56 N (19 + b) K M x52 μ51))) N 1 x (yPut ν (u k)) = gX0_marks_56 N (19 + b) K M (nI k - 1) (wSI (yPut ν (u k)) 14 (yNum (u k)) (yB true)) := by
          intro x
          have st : ∀ K2, gX0_marks_106 N (19 + b) (nI k) (nI (yNum (u k))) K2 N 1 x (yPut ν (u k)) = K2 1 (yPut ν (u k)) := fun K2 => by
            have : ∀ M2, gX0_marks_106 N (19 + b) (nI k) (nI (yNum (u k))) K2 (M2 + 1) 1 x (yPut ν (u k)) = K2 1 (yPut ν (u k)) := fun M2 => by
              show gbX0_marks_106 N _ _ _ _ _ _ _ _ = _
              unfold gbX0_marks_106
              by_cases q : (200 : Int32) < x
              · rw [if_pos q]
              · rw [if_neg q, if_neg (by decide)]
            have h2 := this N1
            rw [← eN] at h2
            exact h2
          rw [st, yG (xI_in lt (by decide)), yG (show ok_b (1 : Int32) = true by decide)]
          unfold wLet
          dsimp only
          rw [xI_cl (by omega), m2]
          rfl
        show gbX0_marks_56 N _ _ _ _ _ = _
        unfold gbX0_marks_56 wLet
        dsimp only
        rw [yIf (xI_neg1 (k := k + 1) (by omega)), if_neg (by omega), pk, yG (xI_in (by omega) (by decide)), xI_cl (by omega), c13, yc_be ν (s := yNum (u k)) (by omega) N, yBV, un, yc_end O F U N, yBd, yIf (yB_0 _), if_neg (by simp [g.1]), yG (xI_in lt (by decide)), xI_cl (by omega), yPut_c ν _ (by decide) (by decide), c10, yPut_o ν _ (by decide) (by decide), t, yIf ce, if_pos g.2]
        refine Eq.trans (congrArg (fun z => wBind z _) nx) ?_
        rw [yBd]
        have := fin (nI (yNx φ (u k) 0))
        unfold wLet at this
        dsimp only at this
        rw [xI_cl (by omega)] at this
        exact this
      · refine ⟨r0, ?_, ?_⟩
        · have fin : gX0_marks_106 N (19 + b) (nI k) (nI (yNum (u k))) (fun (x48 : Int32) (μ47 : wMem) => wG (ok_in (nI (yNum (u k))) 100352) (wG (ok_b x48) (wLet (wSI μ47 14 (Int32.toNatClampNeg (nI (yNum (u k)))) x48) fun μ51 => wLet (nI k + (-1) : Int32) fun x52 => gX0_marks_56 N (19 + b) K M x52 μ51))) N 0 (nI (yNx φ (u k) 0)) (yPut ν (u k)) = gX0_marks_56 N (19 + b) K M (nI k - 1) (wSI (yPut ν (u k)) 14 (yNum (u k)) (yB r0)) := by
            refine i1.trans ?_
            rw [yG (xI_in lt (by decide)), yG (yB_ok r0)]
            unfold wLet
            dsimp only
            rw [xI_cl (by omega), m2]
          unfold wLet at fin
          dsimp only at fin
          rw [xI_cl (by omega)] at fin
          show gbX0_marks_56 N _ _ _ _ _ = _
          unfold gbX0_marks_56 wLet
          dsimp only
          rw [yIf (xI_neg1 (k := k + 1) (by omega)), if_neg (by omega), pk, yG (xI_in (by omega) (by decide)), xI_cl (by omega), c13, yc_be ν (s := yNum (u k)) (by omega) N, yBV, un, yc_end O F U N, yBd, yIf (yB_0 _)]
          by_cases g1 : (u k).ov = yEnd φ
          · rw [if_neg (by simp [g1]), yG (xI_in lt (by decide)), xI_cl (by omega), yPut_c ν _ (by decide) (by decide), c10, yPut_o ν _ (by decide) (by decide), t, yIf ce, if_neg (fun h => g ⟨g1, h⟩)]
            refine Eq.trans (congrArg (fun z => wBind z _) nx) ?_
            rw [yBd]
            exact fin
          · rw [if_pos (by simp [g1])]
            refine Eq.trans (congrArg (fun z => wBind z _) nx) ?_
            rw [yBd, xI_cl (by omega)]
            exact fin
        · rw [i2, ← iff]
          constructor
          · exact fun h => Or.inr h
          · rintro (h | h)
            · exact absurd h g
            · exact h
    obtain ⟨r, e1, e2⟩ := wr
    have k1 : yKo ν (wSI (yPut ν (u k)) 14 (yNum (u k)) (yB r)) := (yKo_put _ _).trans (yKo_14 _ _ _)
    obtain ⟨o1, ν1, j1, j2, j3, j4⟩ := ih M (yOu o k r) (wSI (yPut ν (u k)) 14 (yNum (u k)) (yB r)) (by omega) (by omega) (k1.fc F) (k1.seM C) (yOn_set O Z (yOn_put H _) hk' r) (by rw [k1.1 0 23 (by decide) (by decide) (by decide)]; exact t) (fun i h1 h2 => by
      by_cases q : i = k
      · subst q; rw [yOu_s]; exact e2
      · rw [yOu_o o r q]; exact s i (by omega) h2)
    exact ⟨o1, ν1, by rw [e1]; exact j1, j2, k1.trans j3, j4⟩
theorem yc_mark_clear {φ : Nat → Nat → Nat} (O : yOk φ) (N : Nat) {b n : Nat} {σ : ySt} {f : Nat → Nat} {u : Nat → ySt} (Z : ySet φ b σ n f u) (b1 : Nat) (K : wMem → Option (Int32 × wMem)) : ∀ (d M i : Nat) (ν : wMem), i + d = n → d < M → ySeM n f u ν → (∀ j, j < i → ν.1 14 (yNum (u j)) = yB false) →
    ∃ ν1, yKo ν ν1 ∧ gX0_marks_23 N b1 K M (nI i) ν = K ν1 ∧ yOn n u (fun _ => false) ν1 := by
  intro d
  induction d with
  | zero =>
    intro M i ν hd hM C H
    obtain ⟨M, rfl⟩ : ∃ q, M = q + 1 := ⟨M - 1, by omega⟩
    have : i = n := by omega
    subst this
    refine ⟨ν, yKo.rfl' _, ?_, H⟩
    show gbX0_marks_23 N _ _ _ _ _ = _
    unfold gbX0_marks_23
    rw [C.2.2, if_pos Int32.le_rfl]
  | succ d ih =>
    intro M i ν hd hM C H
    obtain ⟨M, rfl⟩ : ∃ q, M = q + 1 := ⟨M - 1, by omega⟩
    have hn := C.1
    have hi' : i < n := by omega
    have e : (nI n ≤ nI i) = (n ≤ i) := xI_le (by omega) (by omega)
    have U := (Z.1 i hi').1
    have lt := yNum_lt O U
    obtain ⟨c13, c10⟩ := C.2.1 i hi'
    have add1 : nI i + (1 : Int32) = nI (i + 1) := nI_add i 1
    obtain ⟨ν1, j1, j2, j3⟩ := ih M (i + 1) (wSI ν 14 (yNum (u i)) 0) (by omega) (by omega) ((yKo_14 _ _ _).seM C) (fun j hj => by
      rw [yS_get]
      by_cases q : j = i
      · subst q; rw [if_pos ⟨rfl, rfl⟩]; rfl
      · rw [if_neg (fun y => q (Z.nu O (by omega) hi' y.2))]; exact H j (by omega))
    refine ⟨ν1, (yKo_14 _ _ _).trans j1, ?_, j3⟩
    refine Eq.trans ?_ j2
    show gbX0_marks_23 N _ _ _ _ _ = _
    unfold gbX0_marks_23 wLet
    dsimp only
    rw [C.2.2, yIf e, if_neg (by omega), yG (xI_in (by omega) (by decide)), xI_cl (by omega), c13, yG (xI_in lt (by decide)), xI_cl (by omega), add1]
