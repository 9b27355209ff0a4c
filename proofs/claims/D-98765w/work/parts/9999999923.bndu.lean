set_option maxRecDepth 100000
/-! no post looks: letters can be left out -/
def cr : List Nat → Nat
  | [] => 0
  | a :: l => (if a = 200 then 0 else 1) + cr l
def lo : List Nat → Nat
  | [] => 0
  | a :: l => (if a = 200 then 1 else 0) + lo l
theorem cr_app : ∀ l m, cr (l ++ m) = cr l + cr m := by
  intro l
  induction l with
  | nil => intro m; show cr m = 0 + _; omega
  | cons x l ih => intro m; show _ + cr (l ++ m) = _ + cr l + _; rw [ih m]; omega
theorem lo_app : ∀ l m, lo (l ++ m) = lo l + lo m := by
  intro l
  induction l with
  | nil => intro m; show lo m = 0 + _; omega
  | cons x l ih => intro m; show _ + lo (l ++ m) = _ + lo l + _; rw [ih m]; omega
theorem cCnt_app (q : Nat) : ∀ l m, cCnt q (l ++ m) = cCnt q l + cCnt q m := by
  intro l
  induction l with
  | nil => intro m; show cCnt q m = 0 + _; omega
  | cons x l ih => intro m; show _ + cCnt q (l ++ m) = _ + cCnt q l + _; rw [ih m]; omega
theorem cr_lo : ∀ l : List Nat, cr l + lo l = l.length := by
  intro l
  induction l with
  | nil => rfl
  | cons x l ih =>
    show _ + cr l + (_ + lo l) = l.length + 1
    split <;> omega
theorem ySc_crlo {φ : Nat → Nat → Nat} (O : yOk φ) (b : Nat) : ∀ l, ySc φ b l ≤ cr l + 9 * lo l := by
  intro l
  induction l with
  | nil => exact Nat.le_refl _
  | cons x l ih =>
    show ySc1 φ b x + ySc φ b l ≤ _ + cr l + 9 * (_ + lo l)
    have := O.loaf
    have : ySc1 φ b x ≤ (if x = 200 then 0 else 1) + 9 * (if x = 200 then 1 else 0) := by
      unfold ySc1 yDay
      repeat' split
      all_goals omega
    omega
/-- the walk of an act: where posts compare there is one only -/
def wk (φ : Nat → Nat → Nat) (a : Nat) : Nat := if φ 0 7 ≠ 0 then 0 else a / 100
/-- compared: both posts know the same last -/
def uZ (φ : Nat → Nat → Nat) (σ : ySt) : Prop := φ 0 7 ≠ 0 → σ.z0 = σ.z1
theorem uZ_first (φ : Nat → Nat → Nat) : uZ φ yFirst := fun _ => rfl
theorem uZ_do {φ : Nat → Nat → Nat} {σ : ySt} (h : uZ φ σ) (a : Nat) : uZ φ (yDo φ σ a) := by
  intro c
  by_cases ha : a = 200
  · rw [ha, bDo_200]; exact h c
  · rw [bDo ha]
    show (if a / 100 = 0 ∨ φ 0 7 ≠ 0 then a % 10 + 1 else σ.z0) = (if a / 100 = 1 ∨ φ 0 7 ≠ 0 then a % 10 + 1 else σ.z1)
    rw [if_pos (Or.inr c), if_pos (Or.inr c)]
theorem uZ_run {φ : Nat → Nat → Nat} : ∀ (l : List Nat) (σ τ : ySt), uZ φ σ → yRun φ σ l = some τ → uZ φ τ := by
  intro l
  induction l with
  | nil => intro σ τ X r; cases r; exact X
  | cons a l ih =>
    intro σ τ X r
    replace r : (if yEb φ σ a = true then yRun φ (yDo φ σ a) l else none) = some τ := r
    by_cases g : yEb φ σ a = true
    · rw [if_pos g] at r; exact ih _ τ (uZ_do X a) r
    · rw [if_neg g] at r; cases r
theorem uZ_z {φ : Nat → Nat → Nat} {σ : ySt} (h : uZ φ σ) {a : Nat} (ha : a / 100 < 2) : σ.z (a / 100) = σ.z (wk φ a) := by
  unfold wk
  by_cases c : φ 0 7 ≠ 0
  · rw [if_pos c]
    have := h c
    unfold ySt.z
    split <;> simp_all
  · rw [if_neg c]
theorem wk_lt {φ : Nat → Nat → Nat} {a : Nat} (ha : a / 100 < 2) : wk φ a < 2 := by
  unfold wk; split <;> omega
/-- the token of a walk behind a crossing -/
theorem uTok {φ : Nat → Nat → Nat} {σ : ySt} {a w : Nat} (ha : a ≠ 200) (h1 : a / 100 < 2) (hw : w < 2) :
    (yDo φ σ a).z w = if wk φ a = w ∨ φ 0 7 ≠ 0 then a % 10 + 1 else σ.z w := by
  rw [bDo ha]
  unfold wk ySt.z
  have e : w = 0 ∨ w = 1 := by omega
  have e1 : a / 100 = 0 ∨ a / 100 = 1 := by omega
  show (if w = 0 then (if a / 100 = 0 ∨ φ 0 7 ≠ 0 then a % 10 + 1 else σ.z0) else (if a / 100 = 1 ∨ φ 0 7 ≠ 0 then a % 10 + 1 else σ.z1)) = _
  by_cases c : φ 0 7 ≠ 0
  · simp [c]
  · have c0 : φ 0 7 = 0 := by omega
    rcases e with e | e <;> rcases e1 with e1 | e1 <;> simp [c0, e, e1]
theorem uTok_200 {φ : Nat → Nat → Nat} {σ : ySt} (w : Nat) : (yDo φ σ 200).z w = σ.z w := by
  rw [bDo_200]; rfl
/-- how often a person crosses in a list -/
def nP (p : Nat) : List Nat → Nat
  | [] => 0
  | a :: l => (if a ≠ 200 ∧ a % 10 = p then 1 else 0) + nP p l
def ac (l : List Nat) (i : Nat) : Nat := l.getD i 200
theorem ac_get {l : List Nat} {i : Nat} (h : i < l.length) : ac l i = l[i] := by
  unfold ac
  rw [List.getD_eq_getElem?_getD, List.getElem?_eq_getElem h]
  rfl
/-- the token of a walk when some letters are left out -/
def uT (φ : Nat → Nat → Nat) (σ : ySt) (l : List Nat) (del : Nat → Bool) (w : Nat) : Nat → Nat
  | 0 => σ.z w
  | i + 1 => if ac l i = 200 ∨ del i = true then uT φ σ l del w i else if wk φ (ac l i) = w ∨ φ 0 7 ≠ 0 then ac l i % 10 + 1 else uT φ σ l del w i
/-- how often a person's letters are left out before a place -/
def nD (del : Nat → Bool) (l : List Nat) (p : Nat) : Nat → Nat
  | 0 => 0
  | i + 1 => nD del l p i + (if del i = true ∧ ac l i % 10 = p then 1 else 0)
def nDel (del : Nat → Bool) : Nat → Nat
  | 0 => 0
  | i + 1 => nDel del i + (if del i = true then 1 else 0)
theorem uFit0 (now left : Nat) : yFit 0 now left = true := rfl
theorem uDel {φ : Nat → Nat → Nat} (O : yOk φ) (L0 : ∀ k, k < φ 0 3 → φ 5 k = 0) (b : Nat) {σ τ : ySt} (S : ySok φ σ) (U : uZ φ σ) {l : List Nat} (r : yRun φ σ l = some τ) (del : Nat → Bool)
    (hd : ∀ i, i < l.length → del i = true → ac l i ≠ 200 ∧ cCh (ac l i) = 0)
    (ht : ∀ i, i < l.length → del i = false → ac l i ≠ 200 → yBeh φ (uT φ σ l del (wk φ (ac l i)) i) (ac l i % 10) (ac l i / 100) = true)
    (hc : ∀ i, i < l.length → del i = false → ac l i ≠ 200 → cCh (ac l i) ≠ 0 → nD del l (ac l i % 10) i % 2 = 0) :
    ∀ i, i ≤ l.length → ∃ V T, yRun φ σ V = some T ∧ (∀ p, yAd φ p → yBit T.ov p = (yBit (bAt φ σ l i).ov p + nD del l p i) % 2) ∧ (∀ q, yBit (φ 0 4) q = 1 → yBit T.ov q = yBit (bAt φ σ l i).ov q) ∧
      (∀ w, w < 2 → T.z w = uT φ σ l del w i) ∧ yPr φ b V ≤ yPr φ b (l.take i) ∧ lo V ≤ cr V ∧ cr V + nDel del i = cr (l.take i) ∧ ∀ q, cCnt q V = cCnt q (l.take i) := by
  intro i
  induction i with
  | zero =>
    intro _
    refine ⟨[], σ, rfl, fun p _ => ?_, fun q _ => rfl, fun w _ => rfl, Nat.le_refl _, Nat.le_refl _, rfl, fun q => rfl⟩
    have := yBit_lt σ.ov p
    show yBit σ.ov p = (yBit σ.ov p + 0) % 2
    omega
  | succ i ih =>
    intro hi
    have hi' : i < l.length := hi
    obtain ⟨V, T, r1, a1, k1, z1, p1, lo1, cr1, c1⟩ := ih (by omega)
    obtain ⟨e1, e2⟩ := bAt_step r hi'
    have ea := ac_get hi'
    rw [← ea] at e1 e2
    have tk : l.take (i + 1) = l.take i ++ [ac l i] := by rw [List.take_succ_eq_append_getElem hi', ea]
    have ST := bRun_ok O _ _ _ S r1
    have UT := uZ_run _ _ _ U r1
    by_cases h200 : ac l i = 200
    · -- a loaf: nothing to do
      have nd : del i = false := by
        cases h : del i with
        | false => rfl
        | true => exact absurd h200 (hd i hi' h).1
      refine ⟨V, T, r1, fun p hp => ?_, fun q hq => ?_, fun w hw => ?_, ?_, lo1, ?_, fun q => ?_⟩
      · rw [a1 p hp, e2, h200, bDo_200]
        show _ = (yBit (bAt φ σ l i).ov p + (nD del l p i + (if del i = true ∧ ac l i % 10 = p then 1 else 0))) % 2
        rw [nd, if_neg (by simp)]
        rfl
      · rw [k1 q hq, e2, h200, bDo_200]; rfl
      · rw [z1 w hw]
        show _ = if ac l i = 200 ∨ del i = true then uT φ σ l del w i else _
        rw [if_pos (Or.inl h200)]
      · rw [tk, yPr_app]; omega
      · rw [tk, cr_app, h200]
        show cr V + (nDel del i + (if del i = true then 1 else 0)) = cr (l.take i) + 0
        rw [nd]
        simpa using cr1
      · rw [tk, cCnt_app, c1 q, h200]
        show _ = _ + ((if cCh 200 = q + 1 then 1 else 0) + 0)
        have : cCh 200 = 0 := rfl
        rw [this, if_neg (by omega)]
        rfl
    · obtain ⟨q1, q2, q3, q5, q4, q6, q7⟩ := bCross e1 h200
      have posts := O.posts
      cases hdel : del i with
      | true =>
        -- left out
        have hno := (hd i hi' hdel).2
        refine ⟨V, T, r1, fun p hp => ?_, fun q hq => ?_, fun w hw => ?_, ?_, lo1, ?_, fun q => ?_⟩
        · rw [a1 p hp, e2, bOv e1 h200 hp]
          show _ = (_ + (nD del l p i + (if del i = true ∧ ac l i % 10 = p then 1 else 0))) % 2
          rw [hdel]
          have b2 := yBit_lt (bAt φ σ l i).ov p
          by_cases g : p = ac l i % 10
          · rw [if_pos g, if_pos ⟨rfl, g.symm⟩]; omega
          · rw [if_neg g, if_neg (fun h => g h.2.symm)]; omega
        · rw [k1 q hq, e2, cBit_do e1 h200]
          have : ¬ (q = ac l i % 10 ∨ cCh (ac l i) = q + 1) := by
            intro h
            rcases h with h | h
            · rw [h, q3.2] at hq; cases hq
            · rw [hno] at h; cases h
          rw [if_neg this]
        · rw [z1 w hw]
          show _ = if ac l i = 200 ∨ del i = true then uT φ σ l del w i else _
          rw [if_pos (Or.inr hdel)]
        · rw [tk, yPr_app]; omega
        · rw [tk, cr_app]
          show cr V + (nDel del i + (if del i = true then 1 else 0)) = cr (l.take i) + ((if ac l i = 200 then 0 else 1) + 0)
          rw [if_neg h200, hdel]
          simp
          omega
        · rw [tk, cCnt_app, c1 q]
          show _ = _ + ((if cCh (ac l i) = q + 1 then 1 else 0) + 0)
          rw [hno, if_neg (by omega)]
          rfl
      | false =>
        -- kept, a loaf before it if need be
        have hb := ht i hi' hdel h200
        have kid : cCh (ac l i) = ac l i % 100 / 10 := by unfold cCh; rw [if_neg h200]
        have step : ∀ T' : ySt, T'.ov = T.ov → T'.z0 = T.z0 → T'.z1 = T.z1 → T'.mk = T.mk → T'.sd = yBit T.ov (ac l i % 10) → yEb φ T' (ac l i) = true := by
          intro T' t1 t2 t3 t4 t5
          have tz : ∀ k, T'.z k = T.z k := fun k => by unfold ySt.z; rw [t2, t3]
          refine cEb_of q1 q2 q3.1 (((yEb_act e1).1.resolve_left h200).2.2.1) (by rw [t1, t5]) (by rw [q3.2]; decide) (fun hc0 => ?_) ?_ ?_
          · refine ⟨(q4 hc0).1, ?_⟩
            have ev := hc i hi' hdel h200 (by rw [kid]; exact hc0)
            rw [t1, t5, k1 _ (q4 hc0).1, (q4 hc0).2, a1 _ q3, q5]
            have := (bAt_ok O S r i).sd
            omega
          · rw [tz, uZ_z UT (by omega), z1 _ (wk_lt (by omega))]
            exact hb
          · rw [L0 _ q2]; exact uFit0 _ _
        -- the state behind it
        have fin : ∀ (V' : List Nat) (T' : ySt), yRun φ σ V' = some T' → T'.ov = T.ov → T'.z0 = T.z0 → T'.z1 = T.z1 → yEb φ T' (ac l i) = true → yPr φ b V' = yPr φ b V → lo V' ≤ cr V' + 1 → cr V' = cr V → (∀ q, cCnt q V' = cCnt q V) →
            ∃ V T, yRun φ σ V = some T ∧ (∀ p, yAd φ p → yBit T.ov p = (yBit (bAt φ σ l (i + 1)).ov p + nD del l p (i + 1)) % 2) ∧ (∀ q, yBit (φ 0 4) q = 1 → yBit T.ov q = yBit (bAt φ σ l (i + 1)).ov q) ∧
              (∀ w, w < 2 → T.z w = uT φ σ l del w (i + 1)) ∧ yPr φ b V ≤ yPr φ b (l.take (i + 1)) ∧ lo V ≤ cr V ∧ cr V + nDel del (i + 1) = cr (l.take (i + 1)) ∧ ∀ q, cCnt q V = cCnt q (l.take (i + 1)) := by
          intro V' T' r' t1 t2 t3 te tp tl tc tn
          refine ⟨V' ++ [ac l i], yDo φ T' (ac l i), ?_, fun p hp => ?_, fun q hq => ?_, fun w hw => ?_, ?_, ?_, ?_, fun q => ?_⟩
          · rw [yRun_snoc, r']
            show (if yEb φ T' (ac l i) = true then some (yDo φ T' (ac l i)) else none) = _
            rw [if_pos te]
          · rw [bOv te h200 hp, t1, a1 p hp, e2, bOv e1 h200 hp]
            show _ = (_ + (nD del l p i + (if del i = true ∧ ac l i % 10 = p then 1 else 0))) % 2
            rw [hdel, if_neg (fun h : false = true ∧ ac l i % 10 = p => by cases h.1)]
            have b2 := yBit_lt (bAt φ σ l i).ov p
            split <;> omega
          · rw [cBit_do te h200, t1, k1 q hq, e2, cBit_do e1 h200]
          · rw [uTok h200 (by omega) hw]
            show _ = if ac l i = 200 ∨ del i = true then uT φ σ l del w i else if wk φ (ac l i) = w ∨ φ 0 7 ≠ 0 then ac l i % 10 + 1 else uT φ σ l del w i
            rw [if_neg (fun h : ac l i = 200 ∨ del i = true => h.elim h200 (fun g => by rw [hdel] at g; cases g))]
            split
            · rfl
            · have := z1 w hw
              unfold ySt.z at this ⊢
              rw [t2, t3]
              exact this
          · rw [tk, yPr_app, yPr_app, tp]; omega
          · rw [cr_app, lo_app]
            show lo V' + ((if ac l i = 200 then 1 else 0) + 0) ≤ cr V' + ((if ac l i = 200 then 0 else 1) + 0)
            rw [if_neg h200, if_neg h200]
            omega
          · rw [tk, cr_app, cr_app, tc]
            show cr V + _ + (nDel del i + (if del i = true then 1 else 0)) = cr (l.take i) + _
            rw [hdel]
            simp
            omega
          · rw [tk, cCnt_app, cCnt_app, tn, c1 q]
        by_cases hs : T.sd = yBit T.ov (ac l i % 10)
        · exact fin V T r1 rfl rfl rfl (step T rfl rfl rfl rfl hs) rfl (by omega) rfl (fun _ => rfl)
        · have sd2 := ST.sd
          have b2 := yBit_lt T.ov (ac l i % 10)
          refine fin (V ++ [200]) (yDo φ T 200) ?_ ?_ ?_ ?_ (step _ ?_ ?_ ?_ ?_ ?_) ?_ ?_ ?_ ?_
          · rw [yRun_snoc, r1]
            show (if yEb φ T 200 = true then some (yDo φ T 200) else none) = _
            rw [if_pos (yEb_200 φ T)]
          all_goals first | (rw [bDo_200]; rfl) | skip
          · rw [bDo_200]
            show 1 - T.sd = _
            omega
          · rw [yPr_app]
            show _ + (yPr1 φ b 200 + 0) = _
            have : yPr1 φ b 200 = 0 := by unfold yPr1; simp
            omega
          · rw [lo_app, cr_app]
            show lo V + 1 ≤ cr V + 0 + 1
            omega
          · rw [cr_app]; rfl
          · intro q
            rw [cCnt_app]
            show _ + ((if cCh 200 = q + 1 then 1 else 0) + 0) = _
            have : cCh 200 = 0 := rfl
            rw [this, if_neg (by omega)]
            rfl

/-- the letters of a walk in a stretch of a row -/
def uIn (φ : Nat → Nat → Nat) (l : List Nat) (w s e i : Nat) : Bool := decide (s ≤ i) && decide (i < e) && decide (i < l.length) && !decide (ac l i = 200) && decide (wk φ (ac l i) = w)
theorem uIn_iff {φ : Nat → Nat → Nat} {l : List Nat} {w s e i : Nat} : uIn φ l w s e i = true ↔ s ≤ i ∧ i < e ∧ i < l.length ∧ ac l i ≠ 200 ∧ wk φ (ac l i) = w := by
  unfold uIn
  simp [and_assoc]
/-- a stretch that can be left out: it comes back, or is the last of its walk; nobody is carried in it -/
def uSeg (φ : Nat → Nat → Nat) (σ : ySt) (l : List Nat) (x : Nat × Nat × Nat) : Prop :=
  x.1 < 2 ∧ x.2.1 < x.2.2 ∧ x.2.2 ≤ l.length ∧ ((bAt φ σ l x.2.1).z x.1 = (bAt φ σ l x.2.2).z x.1 ∨ x.2.2 = l.length) ∧
  (∀ i, uIn φ l x.1 x.2.1 x.2.2 i = true → cCh (ac l i) = 0) ∧ ∃ i, uIn φ l x.1 x.2.1 x.2.2 i = true
def uDis (x y : Nat × Nat × Nat) : Prop := x.1 = y.1 → x.2.2 ≤ y.2.1 ∨ y.2.2 ≤ x.2.1
/-- grown-ups -/
def nAd (φ : Nat → Nat → Nat) : Nat := yCn (fun p => decide (p < φ 0 2) && !(φ 0 4).testBit p) 6
/-- carried so far -/
def nCa (l : List Nat) : Nat → Nat
  | 0 => 0
  | i + 1 => nCa l i + (if cCh (ac l i) ≠ 0 then 1 else 0)
/-- tokens: nobody yet, or a grown-up -/
def uTk (φ : Nat → Nat → Nat) (t : Nat) : Prop := t = 0 ∨ yAd φ (t - 1)
theorem yCn_card (p : Nat → Bool) : ∀ (m : Nat) (ts : List Nat), ts.Nodup → (∀ t, t ∈ ts → t < m ∧ p t = true) → ts.length ≤ yCn p m := by
  intro m
  induction m with
  | zero =>
    intro ts _ h
    cases ts with
    | nil => exact Nat.le_refl _
    | cons t ts => exact absurd (h t List.mem_cons_self).1 (by omega)
  | succ m ih =>
    intro ts nd h
    have e : yCn p (m + 1) = yCn p m + (if p m = true then 1 else 0) := rfl
    by_cases g : m ∈ ts
    · have pm := (h m g).2
      have nd2 : (ts.erase m).Nodup := nd.erase m
      have := ih (ts.erase m) nd2 fun t ht => by
        have h1 := h t (List.mem_of_mem_erase ht)
        have : t ≠ m := fun z => by
          subst z
          exact (List.Nodup.not_mem_erase nd) ht
        exact ⟨by omega, h1.2⟩
      rw [List.length_erase_of_mem g] at this
      rw [e, if_pos pm]
      omega
    · have := ih ts nd fun t ht => by
        have h1 := h t ht
        have : t ≠ m := fun z => g (z ▸ ht)
        exact ⟨by omega, h1.2⟩
      rw [e]
      omega
theorem uTk_len {φ : Nat → Nat → Nat} (O : yOk φ) {ts : List Nat} (nd : ts.Nodup) (h : ∀ t, t ∈ ts → uTk φ t) : ts.length ≤ nAd φ + (if 0 ∈ ts then 1 else 0) := by
  have h6 := O.persons
  have key : ∀ ts : List Nat, ts.Nodup → (∀ t, t ∈ ts → t ≠ 0 ∧ yAd φ (t - 1)) → ts.length ≤ nAd φ := by
    intro ts nd h
    have := yCn_card (fun p => decide (p < φ 0 2) && !(φ 0 4).testBit p) 6 (ts.map fun t => t - 1)
      (by
        show List.Pairwise (· ≠ ·) _
        rw [List.pairwise_map]
        refine List.Pairwise.imp_of_mem (fun {a b} ha hb hne => ?_) nd
        have h1 := (h a ha).1
        have h2 := (h b hb).1
        intro e
        exact hne (by omega))
      (fun t ht => by
        obtain ⟨s, hs, e⟩ := List.mem_map.mp ht
        have := (h s hs).2
        rw [e] at this
        have b := bAd_bit.mp this
        exact ⟨by omega, by simp [b.1, b.2]⟩)
    rw [List.length_map] at this
    exact this
  by_cases g : 0 ∈ ts
  · rw [if_pos g]
    have := key (ts.erase 0) (nd.erase 0) fun t ht => by
      have nz : t ≠ 0 := fun z => by
        subst z
        exact (List.Nodup.not_mem_erase nd) ht
      exact ⟨nz, (h t (List.mem_of_mem_erase ht)).resolve_left nz⟩
    rw [List.length_erase_of_mem g] at this
    omega
  · rw [if_neg g]
    exact key ts nd fun t ht => ⟨fun z => g (z ▸ ht), (h t ht).resolve_left fun z => g (z ▸ ht)⟩

/-- the stretch of a walk that is open: its tokens are all different -/
def uBlk (φ : Nat → Nat → Nat) (σ : ySt) (l : List Nat) (w s : Nat) (ts : List Nat) (i : Nat) : Prop :=
  s ≤ i ∧ ts ≠ [] ∧ ts.Nodup ∧ (∀ t, t ∈ ts → uTk φ t) ∧ (¬ (φ 0 7 ≠ 0 ∧ w = 1) → (bAt φ σ l i).z w ∈ ts ∧ ∀ t, t ∈ ts → ∃ j, s ≤ j ∧ j ≤ i ∧ (bAt φ σ l j).z w = t) ∧
  (∀ j, uIn φ l w s i j = true → cCh (ac l j) = 0) ∧ (2 ≤ ts.length → ∃ j, uIn φ l w s i j = true)
def u0 (ts : List Nat) : Nat := if 0 ∈ ts then 1 else 0
theorem uIn_mono {φ : Nat → Nat → Nat} {l : List Nat} {w s s' e e' i : Nat} (h : uIn φ l w s e i = true) (h1 : s' ≤ s) (h2 : e ≤ e') : uIn φ l w s' e' i = true := by
  obtain ⟨a, b, c, d, f⟩ := uIn_iff.mp h
  exact uIn_iff.mpr ⟨by omega, by omega, c, d, f⟩
theorem uGreedy {φ : Nat → Nat → Nat} (O : yOk φ) {σ τ : ySt} {l : List Nat} (r : yRun φ σ l = some τ) (hz : ∀ w, w < 2 → uTk φ (σ.z w)) :
    ∀ i, i ≤ l.length → ∃ (F : List (Nat × Nat × Nat)) (sb : Nat → Nat) (tb : Nat → List Nat), (∀ x, x ∈ F → uSeg φ σ l x) ∧ F.Pairwise uDis ∧ (∀ x, x ∈ F → x.2.2 ≤ sb x.1) ∧ (∀ w, w < 2 → uBlk φ σ l w (sb w) (tb w) i) ∧
      cr (l.take i) + u0 (tb 0) + u0 (tb 1) + 2 ≤ nAd φ * (F.length + nCa l i) + (tb 0).length + (tb 1).length + 2 := by
  intro i
  induction i with
  | zero =>
    intro _
    refine ⟨[], (fun _ => 0), (fun w => [σ.z w]), (fun x h => nomatch h), List.Pairwise.nil, (fun x h => nomatch h), (fun w hw => ?_), ?_⟩
    · refine ⟨Nat.le_refl _, by simp, by simp, fun t ht => ?_, fun _ => ⟨by simp [bAt_0], fun t ht => ⟨0, Nat.le_refl _, Nat.le_refl _, ?_⟩⟩, fun j hj => ?_, fun h => absurd h (by simp)⟩
      · rw [List.mem_singleton.mp ht]; exact hz w hw
      · rw [List.mem_singleton.mp ht]; rfl
      · have := (uIn_iff.mp hj).2.1; omega
    · show 0 + u0 [σ.z 0] + u0 [σ.z 1] + 2 ≤ nAd φ * 0 + 1 + 1 + 2
      have h : ∀ ts : List Nat, u0 ts ≤ 1 := fun ts => by unfold u0; split <;> omega
      have := h [σ.z 0]
      have := h [σ.z 1]
      omega
  | succ i ih =>
    intro hi
    have hi' : i < l.length := hi
    obtain ⟨F, sb, tb, f1, f2, f3, B, pot⟩ := ih (by omega)
    obtain ⟨e1, e2⟩ := bAt_step r hi'
    have ea := ac_get hi'
    rw [← ea] at e1 e2
    have tk : l.take (i + 1) = l.take i ++ [ac l i] := by rw [List.take_succ_eq_append_getElem hi', ea]
    by_cases h200 : ac l i = 200
    · refine ⟨F, sb, tb, f1, f2, f3, fun w hw => ?_, ?_⟩
      · obtain ⟨b1, b2, b3, b4, b5, b6, b7⟩ := B w hw
        have un : ∀ j, uIn φ l w (sb w) (i + 1) j = true → uIn φ l w (sb w) i j = true := fun j hj => by
          obtain ⟨a, b, c, d, f⟩ := uIn_iff.mp hj
          have : j ≠ i := fun z => by rw [z] at d; exact d h200
          exact uIn_iff.mpr ⟨a, by omega, c, d, f⟩
        refine ⟨by omega, b2, b3, b4, fun c => ⟨?_, fun t ht => ?_⟩, fun j hj => b6 j (un j hj), fun h => ?_⟩
        · rw [e2, h200, uTok_200]; exact (b5 c).1
        · obtain ⟨j, j1, j2, j3⟩ := (b5 c).2 t ht
          exact ⟨j, j1, by omega, j3⟩
        · obtain ⟨j, hj⟩ := b7 h
          exact ⟨j, uIn_mono hj (Nat.le_refl _) (by omega)⟩
      · rw [tk, cr_app, h200]
        show cr (l.take i) + 0 + _ + _ + 2 ≤ nAd φ * (F.length + (nCa l i + (if cCh (ac l i) ≠ 0 then 1 else 0))) + _ + _ + 2
        have : cCh (ac l i) = 0 := by rw [h200]; rfl
        rw [this, if_neg (by simp)]
        exact pot
    · obtain ⟨q1, q2, q3, q5, q4, q6, q7⟩ := bCross e1 h200
      have posts := O.posts
      have hw := wk_lt (φ := φ) (a := ac l i) (by omega)
      have nc : ¬ (φ 0 7 ≠ 0 ∧ wk φ (ac l i) = 1) := fun h => by
        have : wk φ (ac l i) = 0 := by unfold wk; rw [if_pos h.1]
        omega
      have tnew : (bAt φ σ l (i + 1)).z (wk φ (ac l i)) = ac l i % 10 + 1 := by rw [e2, uTok h200 (by omega) hw, if_pos (Or.inl rfl)]
      have told : ∀ v, v < 2 → v ≠ wk φ (ac l i) → ¬ (φ 0 7 ≠ 0 ∧ v = 1) → (bAt φ σ l (i + 1)).z v = (bAt φ σ l i).z v := by
        intro v hv nv na
        rw [e2, uTok h200 (by omega) hv]
        have : ¬ (wk φ (ac l i) = v ∨ φ 0 7 ≠ 0) := by
          intro h
          rcases h with h | h
          · exact nv h.symm
          · have w0 : wk φ (ac l i) = 0 := by unfold wk; rw [if_pos h]
            exact na ⟨h, by omega⟩
        rw [if_neg this]
      -- the other walk
      have other : ∀ v, v < 2 → v ≠ wk φ (ac l i) → uBlk φ σ l v (sb v) (tb v) (i + 1) := by
        intro v hv nv
        obtain ⟨b1, b2, b3, b4, b5, b6, b7⟩ := B v hv
        have un : ∀ j, uIn φ l v (sb v) (i + 1) j = true → uIn φ l v (sb v) i j = true := fun j hj => by
          obtain ⟨a, b, c, d, f⟩ := uIn_iff.mp hj
          have : j ≠ i := fun z => by rw [z] at f; exact nv f.symm
          exact uIn_iff.mpr ⟨a, by omega, c, d, f⟩
        refine ⟨by omega, b2, b3, b4, fun c => ⟨?_, fun t ht => ?_⟩, fun j hj => b6 j (un j hj), fun h => ?_⟩
        · rw [told v hv nv c]; exact (b5 c).1
        · obtain ⟨j, j1, j2, j3⟩ := (b5 c).2 t ht
          exact ⟨j, j1, by omega, j3⟩
        · obtain ⟨j, hj⟩ := b7 h
          exact ⟨j, uIn_mono hj (Nat.le_refl _) (by omega)⟩
      obtain ⟨b1, b2, b3, b4, b5, b6, b7⟩ := B _ hw
      have crs : cr (l.take (i + 1)) = cr (l.take i) + 1 := by
        rw [tk, cr_app]
        show _ + ((if ac l i = 200 then 0 else 1) + 0) = _
        rw [if_neg h200]
      have lenw := uTk_len O b3 b4
      have tkp : uTk φ (ac l i % 10 + 1) := Or.inr (by simpa using q3)
      -- a block begun anew behind i
      have fresh : uBlk φ σ l (wk φ (ac l i)) (i + 1) [ac l i % 10 + 1] (i + 1) := by
        refine ⟨Nat.le_refl _, by simp, by simp, fun t ht => by rw [List.mem_singleton.mp ht]; exact tkp, fun _ => ⟨by rw [tnew]; simp, fun t ht => ⟨i + 1, Nat.le_refl _, Nat.le_refl _, by rw [tnew, List.mem_singleton.mp ht]⟩⟩, fun j hj => ?_, fun h => absurd h (by simp)⟩
        have := (uIn_iff.mp hj)
        omega
      have f0 : u0 [ac l i % 10 + 1] = 0 := by unfold u0; simp
      have upd : ∀ (ts : List Nat), let tb' := fun v => if v = wk φ (ac l i) then ts else tb v
          (tb' 0).length + (tb' 1).length + (tb (wk φ (ac l i))).length = (tb 0).length + (tb 1).length + ts.length ∧ u0 (tb' 0) + u0 (tb' 1) + u0 (tb (wk φ (ac l i))) = u0 (tb 0) + u0 (tb 1) + u0 ts := by
        intro ts
        have : wk φ (ac l i) = 0 ∨ wk φ (ac l i) = 1 := by omega
        rcases this with h | h <;> simp [h] <;> omega
      have done : ∀ (F' : List (Nat × Nat × Nat)) (s' : Nat) (ts : List Nat), (∀ x, x ∈ F' → uSeg φ σ l x) → F'.Pairwise uDis → (∀ x, x ∈ F' → x.2.2 ≤ if x.1 = wk φ (ac l i) then s' else sb x.1) →
          uBlk φ σ l (wk φ (ac l i)) s' ts (i + 1) → cr (l.take i) + 1 + u0 (tb 0) + u0 (tb 1) + u0 ts + (tb (wk φ (ac l i))).length ≤ nAd φ * (F'.length + nCa l (i + 1)) + (tb 0).length + (tb 1).length + ts.length + u0 (tb (wk φ (ac l i))) →
          ∃ (F : List (Nat × Nat × Nat)) (sb : Nat → Nat) (tb : Nat → List Nat), (∀ x, x ∈ F → uSeg φ σ l x) ∧ F.Pairwise uDis ∧ (∀ x, x ∈ F → x.2.2 ≤ sb x.1) ∧ (∀ w, w < 2 → uBlk φ σ l w (sb w) (tb w) (i + 1)) ∧
            cr (l.take (i + 1)) + u0 (tb 0) + u0 (tb 1) + 2 ≤ nAd φ * (F.length + nCa l (i + 1)) + (tb 0).length + (tb 1).length + 2 := by
        intro F' s' ts g1 g2 g3 g4 g5
        refine ⟨F', fun v => if v = wk φ (ac l i) then s' else sb v, fun v => if v = wk φ (ac l i) then ts else tb v, g1, g2, g3, fun v hv => ?_, ?_⟩
        · by_cases h : v = wk φ (ac l i)
          · show uBlk φ σ l v (if v = wk φ (ac l i) then s' else sb v) (if v = wk φ (ac l i) then ts else tb v) (i + 1)
            rw [if_pos h, if_pos h, h]; exact g4
          · show uBlk φ σ l v (if v = wk φ (ac l i) then s' else sb v) (if v = wk φ (ac l i) then ts else tb v) (i + 1)
            rw [if_neg h, if_neg h]; exact other v hv h
        · obtain ⟨u1, u2⟩ := upd ts
          rw [crs]
          dsimp only at u1 u2 ⊢
          omega
      have nca : nCa l (i + 1) = nCa l i + (if cCh (ac l i) ≠ 0 then 1 else 0) := rfl
      have u01 : ∀ ts : List Nat, u0 ts ≤ 1 := fun ts => by unfold u0; split <;> omega
      have lenw' : (tb (wk φ (ac l i))).length ≤ nAd φ + u0 (tb (wk φ (ac l i))) := lenw
      by_cases hc : cCh (ac l i) ≠ 0
      · -- somebody is carried: begin anew
        refine done F (i + 1) [ac l i % 10 + 1] f1 f2 (fun x hx => ?_) fresh ?_
        · have := f3 x hx
          split
          · rename_i h; rw [h] at this; omega
          · exact this
        · rw [nca, if_pos hc, f0, show F.length + (nCa l i + 1) = F.length + nCa l i + 1 by omega, Nat.mul_add, Nat.mul_one]
          show _ ≤ _ + _ + _ + _ + 1 + _
          omega
      · have hc0 : cCh (ac l i) = 0 := by omega
        replace nca : nCa l (i + 1) = nCa l i := by rw [nca, if_neg hc]; rfl
        by_cases hin : ac l i % 10 + 1 ∈ tb (wk φ (ac l i))
        · -- the token comes back: a stretch
          obtain ⟨j, j1, j2, j3⟩ := (b5 nc).2 _ hin
          refine done (F ++ [(wk φ (ac l i), j, i + 1)]) (i + 1) [ac l i % 10 + 1] (fun x hx => ?_) ?_ (fun x hx => ?_) fresh ?_
          · rcases List.mem_append.mp hx with h | h
            · exact f1 x h
            · rw [List.mem_singleton.mp h]
              refine ⟨hw, by show j < i + 1; omega, hi, Or.inl (by show (bAt φ σ l j).z _ = (bAt φ σ l (i + 1)).z _; rw [j3, tnew]), fun k hk => ?_, i, uIn_iff.mpr ⟨j2, by show i < i + 1; omega, hi', h200, rfl⟩⟩
              obtain ⟨a, b, c, d, f⟩ := uIn_iff.mp hk
              by_cases ki : k = i
              · rw [ki]; exact hc0
              · exact b6 k (uIn_iff.mpr ⟨Nat.le_trans j1 a, by have : k < i + 1 := b; omega, c, d, f⟩)
          · rw [List.pairwise_append]
            refine ⟨f2, List.pairwise_singleton _ _, fun x hx y hy => ?_⟩
            rw [List.mem_singleton.mp hy]
            intro e
            left
            have := f3 x hx
            have e' : x.1 = wk φ (ac l i) := e
            rw [e'] at this
            show x.2.2 ≤ j
            omega
          · rcases List.mem_append.mp hx with h | h
            · have := f3 x h
              split
              · rename_i h; rw [h] at this; omega
              · exact this
            · rw [List.mem_singleton.mp h, if_pos rfl]
              exact Nat.le_refl _
          · rw [nca, f0, List.length_append]
            show _ ≤ nAd φ * (F.length + 1 + nCa l i) + _ + _ + 1 + _
            rw [show F.length + 1 + nCa l i = F.length + nCa l i + 1 by omega, Nat.mul_add, Nat.mul_one]
            omega
        · -- a new token
          refine done F (sb (wk φ (ac l i))) ((ac l i % 10 + 1) :: tb (wk φ (ac l i))) f1 f2 (fun x hx => ?_) ?_ ?_
          · have := f3 x hx
            split
            · rename_i h; rw [h] at this; exact this
            · exact this
          · refine ⟨by omega, by simp, List.nodup_cons.mpr ⟨hin, b3⟩, fun t ht => ?_, fun _ => ⟨by rw [tnew]; simp, fun t ht => ?_⟩, fun k hk => ?_, fun _ => ⟨i, uIn_iff.mpr ⟨b1, by omega, hi', h200, rfl⟩⟩⟩
            · rcases List.mem_cons.mp ht with h | h
              · rw [h]; exact tkp
              · exact b4 t h
            · rcases List.mem_cons.mp ht with h | h
              · exact ⟨i + 1, by omega, Nat.le_refl _, by rw [tnew, h]⟩
              · obtain ⟨j, j1, j2, j3⟩ := (b5 nc).2 t h
                exact ⟨j, j1, by omega, j3⟩
            · obtain ⟨a, b, c, d, f⟩ := uIn_iff.mp hk
              by_cases ki : k = i
              · rw [ki]; exact hc0
              · exact b6 k (uIn_iff.mpr ⟨a, by omega, c, d, f⟩)
          · have : u0 ((ac l i % 10 + 1) :: tb (wk φ (ac l i))) = u0 (tb (wk φ (ac l i))) := by
              unfold u0
              by_cases h : 0 ∈ tb (wk φ (ac l i))
              · rw [if_pos h, if_pos (List.mem_cons_of_mem _ h)]
              · rw [if_neg h, if_neg (fun z => (List.mem_cons.mp z).elim (fun y => by omega) h)]
            rw [nca, this]
            show _ ≤ _ + _ + _ + (_ + 1) + _
            omega
/-- the letters of the chosen stretches -/
def uDl (φ : Nat → Nat → Nat) (l : List Nat) (G : Nat → Nat × Nat × Nat) (s : Nat) (i : Nat) : Bool := (List.range 7).any fun k => s.testBit k && uIn φ l (G k).1 (G k).2.1 (G k).2.2 i
theorem uDl_iff {φ : Nat → Nat → Nat} {l : List Nat} {G : Nat → Nat × Nat × Nat} {s i : Nat} : uDl φ l G s i = true ↔ ∃ k, k < 7 ∧ s.testBit k = true ∧ uIn φ l (G k).1 (G k).2.1 (G k).2.2 i = true := by
  unfold uDl
  simp [List.any_eq_true]
theorem uDis_symm {x y : Nat × Nat × Nat} (h : uDis x y) : uDis y x := fun e => (h e.symm).symm
/-- a letter lies in one stretch at most -/
theorem uIn_one {φ : Nat → Nat → Nat} {l : List Nat} {x y : Nat × Nat × Nat} (h : uDis x y) {i : Nat} (hx : uIn φ l x.1 x.2.1 x.2.2 i = true) (hy : uIn φ l y.1 y.2.1 y.2.2 i = true) : False := by
  obtain ⟨a1, b1, _, _, f1⟩ := uIn_iff.mp hx
  obtain ⟨a2, b2, _, _, f2⟩ := uIn_iff.mp hy
  rcases h (by rw [← f1, ← f2]) with g | g <;> omega
theorem uDl_xor {φ : Nat → Nat → Nat} {l : List Nat} {G : Nat → Nat × Nat × Nat} (D : ∀ k k', k < 7 → k' < 7 → k ≠ k' → uDis (G k) (G k')) (s t i : Nat) : uDl φ l G (s ^^^ t) i = (uDl φ l G s i ^^ uDl φ l G t i) := by
  by_cases h : ∃ k, k < 7 ∧ uIn φ l (G k).1 (G k).2.1 (G k).2.2 i = true
  · obtain ⟨k, hk, u⟩ := h
    have e : ∀ s, uDl φ l G s i = s.testBit k := by
      intro s
      cases hs : s.testBit k with
      | true => exact uDl_iff.mpr ⟨k, hk, hs, u⟩
      | false =>
        cases hd : uDl φ l G s i with
        | false => rfl
        | true =>
          obtain ⟨k', hk', b, u'⟩ := uDl_iff.mp hd
          by_cases q : k = k'
          · subst q; rw [hs] at b; cases b
          · exact (uIn_one (D k k' hk hk' q) u u').elim
    rw [e, e, e, Nat.testBit_xor]
  · have e : ∀ s, uDl φ l G s i = false := by
      intro s
      cases hd : uDl φ l G s i with
      | false => rfl
      | true =>
        obtain ⟨k, hk, b, u⟩ := uDl_iff.mp hd
        exact absurd ⟨k, hk, u⟩ h
    rw [e, e, e]; rfl
theorem nD_xor {d1 d2 d3 : Nat → Bool} (h : ∀ i, d3 i = (d1 i ^^ d2 i)) (l : List Nat) (p : Nat) : ∀ i, nD d3 l p i % 2 = (nD d1 l p i + nD d2 l p i) % 2 := by
  intro i
  induction i with
  | zero => rfl
  | succ i ih =>
    show (nD d3 l p i + (if d3 i = true ∧ ac l i % 10 = p then 1 else 0)) % 2 = (nD d1 l p i + (if d1 i = true ∧ ac l i % 10 = p then 1 else 0) + (nD d2 l p i + (if d2 i = true ∧ ac l i % 10 = p then 1 else 0))) % 2
    rw [h i]
    by_cases g : ac l i % 10 = p <;> cases d1 i <;> cases d2 i <;> simp [g] <;> omega
/-- the tokens without the chosen stretches -/
theorem uTok_claim {φ : Nat → Nat → Nat} (O : yOk φ) {σ τ : ySt} {l : List Nat} (r : yRun φ σ l = some τ) {G : Nat → Nat × Nat × Nat} {s : Nat}
    (HG : ∀ k, k < 7 → s.testBit k = true → uSeg φ σ l (G k)) (D : ∀ k k', k < 7 → k' < 7 → k ≠ k' → s.testBit k = true → s.testBit k' = true → uDis (G k) (G k')) {w : Nat} (hw : w < 2) (nw : φ 0 7 ≠ 0 → w = 0) :
    ∀ i, i < l.length → (∀ k, k < 7 → s.testBit k = true → (G k).1 = w → (G k).2.1 ≤ i → i < (G k).2.2 → uT φ σ l (uDl φ l G s) w i = (bAt φ σ l (G k).2.1).z w) ∧
      ((∀ k, k < 7 → s.testBit k = true → (G k).1 = w → (G k).2.1 ≤ i → i < (G k).2.2 → False) → uT φ σ l (uDl φ l G s) w i = (bAt φ σ l i).z w) := by
  intro i
  induction i with
  | zero =>
    intro _
    refine ⟨fun k hk b e h1 h2 => ?_, fun _ => rfl⟩
    have : (G k).2.1 = 0 := by omega
    rw [this]; rfl
  | succ i ih =>
    intro hi
    obtain ⟨in1, out1⟩ := ih (by omega)
    have posts := O.posts
    obtain ⟨e1, e2⟩ := bAt_step r (show i < l.length by omega)
    rw [← ac_get (show i < l.length by omega)] at e1 e2
    -- what is true at i + 1 if the token of the walk is the right one
    have fin : (∀ k, k < 7 → s.testBit k = true → (G k).1 = w → (G k).2.1 ≤ i → i + 1 < (G k).2.2 → uT φ σ l (uDl φ l G s) w (i + 1) = (bAt φ σ l (G k).2.1).z w) →
        ((∀ k, k < 7 → s.testBit k = true → (G k).1 = w → (G k).2.1 ≤ i → i + 1 < (G k).2.2 → False) → uT φ σ l (uDl φ l G s) w (i + 1) = (bAt φ σ l (i + 1)).z w) →
        (∀ k, k < 7 → s.testBit k = true → (G k).1 = w → (G k).2.1 ≤ i + 1 → i + 1 < (G k).2.2 → uT φ σ l (uDl φ l G s) w (i + 1) = (bAt φ σ l (G k).2.1).z w) ∧
        ((∀ k, k < 7 → s.testBit k = true → (G k).1 = w → (G k).2.1 ≤ i + 1 → i + 1 < (G k).2.2 → False) → uT φ σ l (uDl φ l G s) w (i + 1) = (bAt φ σ l (i + 1)).z w) := by
      intro f1 f2
      refine ⟨fun k hk b e h1 h2 => ?_, fun h => f2 fun k hk b e h1 h2 => h k hk b e (by omega) h2⟩
      by_cases q : (G k).2.1 ≤ i
      · exact f1 k hk b e q h2
      · have eq : (G k).2.1 = i + 1 := by omega
        rw [eq]
        apply f2
        intro k' hk' b' e' h1' h2'
        by_cases kk : k = k'
        · subst kk; omega
        · rcases D k k' hk hk' kk b b' (by rw [e, e']) with g | g <;> omega
    by_cases inside : ∃ k, k < 7 ∧ s.testBit k = true ∧ (G k).1 = w ∧ (G k).2.1 ≤ i ∧ i < (G k).2.2
    · obtain ⟨k, hk, b, e, h1, h2⟩ := inside
      have ti := in1 k hk b e h1 h2
      -- the token stays
      have st : uT φ σ l (uDl φ l G s) w (i + 1) = uT φ σ l (uDl φ l G s) w i := by
        show (if ac l i = 200 ∨ uDl φ l G s i = true then uT φ σ l (uDl φ l G s) w i else if wk φ (ac l i) = w ∨ φ 0 7 ≠ 0 then ac l i % 10 + 1 else uT φ σ l (uDl φ l G s) w i) = _
        by_cases a2 : ac l i = 200
        · rw [if_pos (Or.inl a2)]
        · by_cases ww : wk φ (ac l i) = w
          · have : uDl φ l G s i = true := uDl_iff.mpr ⟨k, hk, b, uIn_iff.mpr ⟨h1, h2, by omega, a2, by rw [ww, e]⟩⟩
            rw [if_pos (Or.inr this)]
          · have nc : ¬ (wk φ (ac l i) = w ∨ φ 0 7 ≠ 0) := by
              intro h
              rcases h with h | h
              · exact ww h
              · have w0 : wk φ (ac l i) = 0 := by unfold wk; rw [if_pos h]
                have := nw h
                exact ww (by omega)
            rw [if_neg nc]
            split <;> rfl
      refine fin (fun k' hk' b' e' h1' h2' => ?_) (fun h => ?_)
      · rw [st]; exact in1 k' hk' b' e' h1' (by omega)
      · have sk := HG k hk b
        have : (G k).2.2 = i + 1 := by
          by_cases q : i + 1 < (G k).2.2
          · exact (h k hk b e h1 q).elim
          · omega
        rw [st, ti]
        rcases sk.2.2.2.1 with g | g
        · rw [e, this] at g; exact g
        · omega
    · have no : ∀ k, k < 7 → s.testBit k = true → (G k).1 = w → (G k).2.1 ≤ i → i < (G k).2.2 → False := fun k hk b e h1 h2 => inside ⟨k, hk, b, e, h1, h2⟩
      have ti := out1 no
      refine fin (fun k hk b e h1 h2 => (no k hk b e h1 (by omega)).elim) (fun _ => ?_)
      show (if ac l i = 200 ∨ uDl φ l G s i = true then uT φ σ l (uDl φ l G s) w i else if wk φ (ac l i) = w ∨ φ 0 7 ≠ 0 then ac l i % 10 + 1 else uT φ σ l (uDl φ l G s) w i) = _
      by_cases a2 : ac l i = 200
      · rw [if_pos (Or.inl a2), ti, e2, a2, uTok_200]
      · obtain ⟨q1, q2, q3, _⟩ := bCross e1 a2
        rw [e2, uTok a2 (by omega) hw]
        by_cases ww : wk φ (ac l i) = w ∨ φ 0 7 ≠ 0
        · have ww' : wk φ (ac l i) = w := by
            rcases ww with h | h
            · exact h
            · have w0 : wk φ (ac l i) = 0 := by unfold wk; rw [if_pos h]
              have := nw h
              omega
          have nd : ¬ uDl φ l G s i = true := by
            intro h
            obtain ⟨k, hk, b, u⟩ := uDl_iff.mp h
            obtain ⟨a, bb, _, _, f⟩ := uIn_iff.mp u
            exact no k hk b (by rw [← f, ww']) a bb
          rw [if_neg (fun h : ac l i = 200 ∨ uDl φ l G s i = true => h.elim a2 nd), if_pos ww, if_pos ww]
        · rw [if_neg ww, if_neg ww]
          split <;> exact ti
/-- who is carried, of a list -/
def nCl : List Nat → Nat
  | [] => 0
  | a :: l => (if cCh a ≠ 0 then 1 else 0) + nCl l
theorem nCl_app : ∀ l m, nCl (l ++ m) = nCl l + nCl m := by
  intro l
  induction l with
  | nil => intro m; show nCl m = 0 + _; omega
  | cons x l ih => intro m; show _ + nCl (l ++ m) = _ + nCl l + _; rw [ih m]; omega
theorem nCa_take (l : List Nat) : ∀ i, i ≤ l.length → nCa l i = nCl (l.take i) := by
  intro i
  induction i with
  | zero => intro _; rfl
  | succ i ih =>
    intro hi
    have hi' : i < l.length := hi
    rw [List.take_succ_eq_append_getElem hi', nCl_app, ← ih (by omega), ← ac_get hi']
    rfl
theorem cCh_le {φ : Nat → Nat → Nat} (O : yOk φ) {σ : ySt} {a : Nat} (h : yEb φ σ a = true) : cCh a ≤ 6 := by
  have h6 := O.persons
  unfold cCh
  by_cases ha : a = 200
  · rw [if_pos ha]; omega
  · rw [if_neg ha]
    have := ((yEb_act h).1.resolve_left ha).2.2.1
    omega
/-- only children are carried -/
theorem nCl_sum {φ : Nat → Nat → Nat} (O : yOk φ) : ∀ (l : List Nat) (σ τ : ySt), yRun φ σ l = some τ → nCl l ≤ cCnt 0 l + cCnt 1 l + cCnt 2 l + cCnt 3 l + cCnt 4 l + cCnt 5 l ∧ ∀ q, (φ 0 4).testBit q = false → cCnt q l = 0 := by
  intro l
  induction l with
  | nil => intro σ τ _; exact ⟨Nat.le_refl _, fun q _ => rfl⟩
  | cons a l ih =>
    intro σ τ r
    replace r : (if yEb φ σ a = true then yRun φ (yDo φ σ a) l else none) = some τ := r
    by_cases g : yEb φ σ a = true
    · rw [if_pos g] at r
      obtain ⟨i1, i2⟩ := ih _ τ r
      have c6 := cCh_le O g
      refine ⟨?_, fun q hq => ?_⟩
      · show (if cCh a ≠ 0 then 1 else 0) + nCl l ≤ ((if cCh a = 0 + 1 then 1 else 0) + cCnt 0 l) + ((if cCh a = 1 + 1 then 1 else 0) + cCnt 1 l) + ((if cCh a = 2 + 1 then 1 else 0) + cCnt 2 l) + ((if cCh a = 3 + 1 then 1 else 0) + cCnt 3 l) + ((if cCh a = 4 + 1 then 1 else 0) + cCnt 4 l) + ((if cCh a = 5 + 1 then 1 else 0) + cCnt 5 l)
        have : cCh a = 0 ∨ cCh a = 1 ∨ cCh a = 2 ∨ cCh a = 3 ∨ cCh a = 4 ∨ cCh a = 5 ∨ cCh a = 6 := by omega
        rcases this with h | h | h | h | h | h | h <;> simp [h] <;> omega
      · show (if cCh a = q + 1 then 1 else 0) + cCnt q l = 0
        rw [i2 q hq]
        by_cases e : cCh a = q + 1
        · exfalso
          have ha : a ≠ 200 := fun z => by rw [z] at e; cases e
          obtain ⟨_, _, _, _, c4, _⟩ := bCross g ha
          have ec : cCh a = a % 100 / 10 := by unfold cCh; rw [if_neg ha]
          have := (c4 (by rw [← ec]; omega)).1
          rw [← ec, e] at this
          have := bBit_1.mp this
          rw [show q + 1 - 1 = q by omega, hq] at this
          cases this
        · rw [if_neg e]
    · rw [if_neg g] at r; cases r
theorem yCn_dis (p q : Nat → Bool) (h : ∀ i, p i = true → q i = true → False) : ∀ n, yCn p n + yCn q n ≤ n := by
  intro n
  induction n with
  | zero => exact Nat.le_refl _
  | succ n ih =>
    show yCn p n + (if p n = true then 1 else 0) + (yCn q n + (if q n = true then 1 else 0)) ≤ n + 1
    by_cases g : p n = true
    · have : ¬ q n = true := fun z => h n g z
      rw [if_pos g, if_neg this]; omega
    · rw [if_neg g]; split <;> omega
theorem nAd_nCa {φ : Nat → Nat → Nat} (O : yOk φ) {σ τ : ySt} {l : List Nat} (r : yRun φ σ l = some τ) (C : ∀ q, cCnt q l ≤ 1) : nAd φ + nCa l l.length ≤ 6 := by
  obtain ⟨s1, s2⟩ := nCl_sum O l σ τ r
  have d := yCn_dis (fun p => decide (p < φ 0 2) && !(φ 0 4).testBit p) (fun p => (φ 0 4).testBit p) (fun i h1 h2 => by simp at h1 h2; rw [h2] at h1; exact absurd h1.2 (by simp)) 6
  have e : nCa l l.length = nCl l := by rw [nCa_take l _ (Nat.le_refl _), List.take_length]
  have b : ∀ q, cCnt q l ≤ (if (φ 0 4).testBit q = true then 1 else 0) := fun q => by
    by_cases g : (φ 0 4).testBit q = true
    · rw [if_pos g]; exact C q
    · rw [s2 q (by simpa using g)]; omega
  have x : yCn (fun p => (φ 0 4).testBit p) 6 = 0 + (if (φ 0 4).testBit 0 = true then 1 else 0) + (if (φ 0 4).testBit 1 = true then 1 else 0) + (if (φ 0 4).testBit 2 = true then 1 else 0) + (if (φ 0 4).testBit 3 = true then 1 else 0) + (if (φ 0 4).testBit 4 = true then 1 else 0) + (if (φ 0 4).testBit 5 = true then 1 else 0) := rfl
  have b0 := b 0
  have b1 := b 1
  have b2 := b 2
  have b3 := b 3
  have b4 := b 4
  have b5 := b 5
  rw [e]
  unfold nAd
  omega
/-- so many letters have seven stretches that can be left out -/
theorem uSeven {φ : Nat → Nat → Nat} (O : yOk φ) {σ τ : ySt} {l : List Nat} (r : yRun φ σ l = some τ) (hz : ∀ w, w < 2 → uTk φ (σ.z w)) (C : ∀ q, cCnt q l ≤ 1) (big : 39 ≤ cr l) :
    ∃ G : Nat → Nat × Nat × Nat, (∀ k, k < 7 → uSeg φ σ l (G k)) ∧ ∀ k k', k < 7 → k' < 7 → k ≠ k' → uDis (G k) (G k') := by
  obtain ⟨F, sb, tb, f1, f2, f3, B, pot⟩ := uGreedy O r hz l.length (Nat.le_refl _)
  rw [List.take_length] at pot
  have six := nAd_nCa O r C
  have tail : ∀ w, w < 2 → ∃ T : List (Nat × Nat × Nat), (∀ x, x ∈ T → uSeg φ σ l x ∧ x.1 = w ∧ x.2.1 = sb w) ∧ T.Pairwise uDis ∧ (tb w).length ≤ u0 (tb w) + (if T.length = 0 then 1 else nAd φ) ∧ T.length ≤ 1 := by
    intro w hw
    obtain ⟨b1, b2, b3, b4, b5, b6, b7⟩ := B w hw
    have len := uTk_len O b3 b4
    by_cases g : 2 ≤ (tb w).length
    · obtain ⟨j, hj⟩ := b7 g
      obtain ⟨a, b, c, d, f⟩ := uIn_iff.mp hj
      refine ⟨[(w, sb w, l.length)], fun x hx => ?_, List.pairwise_singleton _ _, ?_, Nat.le_refl _⟩
      · rw [List.mem_singleton.mp hx]
        exact ⟨⟨hw, by show sb w < l.length; omega, Nat.le_refl _, Or.inr rfl, b6, j, hj⟩, rfl, rfl⟩
      · show _ ≤ u0 (tb w) + nAd φ
        unfold u0
        omega
    · refine ⟨[], (fun x hx => nomatch hx), List.Pairwise.nil, ?_, Nat.zero_le _⟩
      show _ ≤ u0 (tb w) + 1
      omega
  obtain ⟨T0, t01, t02, t03, t04⟩ := tail 0 (by omega)
  obtain ⟨T1, t11, t12, t13, t14⟩ := tail 1 (by omega)
  have all : ∀ x, x ∈ F ++ (T0 ++ T1) → uSeg φ σ l x := fun x hx => by
    rcases List.mem_append.mp hx with h | h
    · exact f1 x h
    · rcases List.mem_append.mp h with h | h
      · exact (t01 x h).1
      · exact (t11 x h).1
  have pw : (F ++ (T0 ++ T1)).Pairwise uDis := by
    rw [List.pairwise_append, List.pairwise_append]
    refine ⟨f2, ⟨t02, t12, fun x hx y hy e => ?_⟩, fun x hx y hy e => ?_⟩
    · rw [(t01 x hx).2.1, (t11 y hy).2.1] at e; cases e
    · left
      have hf := f3 x hx
      rcases List.mem_append.mp hy with h | h
      · rw [e, (t01 y h).2.1] at hf; rw [(t01 y h).2.2]; exact hf
      · rw [e, (t11 y h).2.1] at hf; rw [(t11 y h).2.2]; exact hf
  have seven : 7 ≤ (F ++ (T0 ++ T1)).length := by
    rw [List.length_append, List.length_append]
    rcases Nat.lt_or_ge (F.length + (T0.length + T1.length)) 7 with small | g
    · exfalso
      have h6 : nAd φ = 0 ∨ nAd φ = 1 ∨ nAd φ = 2 ∨ nAd φ = 3 ∨ nAd φ = 4 ∨ nAd φ = 5 ∨ nAd φ = 6 := by omega
      rcases h6 with h | h | h | h | h | h | h <;> rw [h] at pot six t03 t13 <;>
        (by_cases q0 : T0.length = 0 <;> by_cases q1 : T1.length = 0 <;> simp only [q0, q1, if_true, if_false] at t03 t13 small <;> omega)
    · exact g
  refine ⟨fun k => (F ++ (T0 ++ T1)).getD k (0, 0, 0), fun k hk => ?_, fun k k' hk hk' ne => ?_⟩
  · have lt : k < (F ++ (T0 ++ T1)).length := by omega
    show uSeg φ σ l ((F ++ (T0 ++ T1)).getD k (0, 0, 0))
    rw [List.getD_eq_getElem?_getD, List.getElem?_eq_getElem lt]
    exact all _ (List.getElem_mem lt)
  · have lt : k < (F ++ (T0 ++ T1)).length := by omega
    have lt' : k' < (F ++ (T0 ++ T1)).length := by omega
    show uDis ((F ++ (T0 ++ T1)).getD k (0, 0, 0)) ((F ++ (T0 ++ T1)).getD k' (0, 0, 0))
    rw [List.getD_eq_getElem?_getD, List.getElem?_eq_getElem lt, List.getD_eq_getElem?_getD, List.getElem?_eq_getElem lt']
    rcases Nat.lt_or_gt_of_ne ne with q | q
    · exact List.pairwise_iff_getElem.mp pw k k' lt lt' q
    · exact uDis_symm (List.pairwise_iff_getElem.mp pw k' k lt' lt q)

/-- what must stay even: a grown-up at the end, who carries at the carrying -/
def uTs (φ : Nat → Nat → Nat) (l : List Nat) : List (Nat × Nat) :=
  (((List.range 6).filter fun p => decide (p < φ 0 2) && !(φ 0 4).testBit p).map fun p => (p, l.length)) ++ ((List.range l.length).filter fun i => decide (cCh (ac l i) ≠ 0)).map fun i => (ac l i % 10, i)
theorem yCn_filter (p : Nat → Bool) : ∀ m, ((List.range m).filter p).length = yCn p m := by
  intro m
  induction m with
  | zero => rfl
  | succ m ih =>
    rw [List.range_succ, List.filter_append, List.length_append, ih]
    show _ = yCn p m + (if p m = true then 1 else 0)
    by_cases g : p m = true
    · simp [g]
    · simp [g]
theorem nCa_cn (l : List Nat) : ∀ i, nCa l i = yCn (fun i => decide (cCh (ac l i) ≠ 0)) i := by
  intro i
  induction i with
  | zero => rfl
  | succ i ih =>
    show nCa l i + (if cCh (ac l i) ≠ 0 then 1 else 0) = yCn _ i + (if decide (cCh (ac l i) ≠ 0) = true then 1 else 0)
    rw [ih]
    simp
theorem uTs_len (φ : Nat → Nat → Nat) (l : List Nat) : (uTs φ l).length = nAd φ + nCa l l.length := by
  unfold uTs
  rw [List.length_append, List.length_map, List.length_map, yCn_filter, yCn_filter, ← nCa_cn]
  rfl
def uCd (f : Nat × Nat → Nat) : List (Nat × Nat) → Nat
  | [] => 0
  | t :: ts => f t % 2 + 2 * uCd f ts
theorem uCd_lt (f : Nat × Nat → Nat) : ∀ ts, uCd f ts < 2 ^ ts.length := by
  intro ts
  induction ts with
  | nil => exact Nat.one_pos
  | cons t ts ih =>
    show f t % 2 + 2 * uCd f ts < 2 ^ (ts.length + 1)
    rw [Nat.pow_succ]
    have := Nat.mod_lt (f t) (show 0 < 2 by decide)
    omega
theorem uCd_eq {f g : Nat × Nat → Nat} : ∀ ts, uCd f ts = uCd g ts → ∀ t, t ∈ ts → f t % 2 = g t % 2 := by
  intro ts
  induction ts with
  | nil => intro _ t h; cases h
  | cons x ts ih =>
    intro e t h
    replace e : f x % 2 + 2 * uCd f ts = g x % 2 + 2 * uCd g ts := e
    have a := Nat.mod_lt (f x) (show 0 < 2 by decide)
    have b := Nat.mod_lt (g x) (show 0 < 2 by decide)
    rcases List.mem_cons.mp h with q | q
    · rw [q]; omega
    · exact ih (by omega) t q
/-- what is left when chosen stretches are left out -/
theorem uOut {φ : Nat → Nat → Nat} (O : yOk φ) (L0 : ∀ k, k < φ 0 3 → φ 5 k = 0) (b : Nat) {σ τ : ySt} (S : ySok φ σ) (U : uZ φ σ) {l : List Nat} (r : yRun φ σ l = some τ) {G : Nat → Nat × Nat × Nat} {s : Nat}
    (HG : ∀ k, k < 7 → s.testBit k = true → uSeg φ σ l (G k)) (D : ∀ k k', k < 7 → k' < 7 → k ≠ k' → s.testBit k = true → s.testBit k' = true → uDis (G k) (G k'))
    (ev : ∀ t, t ∈ uTs φ l → nD (uDl φ l G s) l t.1 t.2 % 2 = 0) :
    ∃ V T, yRun φ σ V = some T ∧ T.ov = τ.ov ∧ yPr φ b V ≤ yPr φ b l ∧ lo V ≤ cr V ∧ cr V + nDel (uDl φ l G s) l.length = cr l ∧ ∀ q, cCnt q V = cCnt q l := by
  have posts := O.posts
  obtain ⟨V, T, r1, a1, k1, z1, p1, lo1, cr1, c1⟩ := uDel O L0 b S U r (uDl φ l G s)
    (fun i hi h => by
      obtain ⟨k, hk, bb, u⟩ := uDl_iff.mp h
      exact ⟨(uIn_iff.mp u).2.2.2.1, (HG k hk bb).2.2.2.2.1 i u⟩)
    (fun i hi h h2 => by
      obtain ⟨e1, e2⟩ := bAt_step r hi
      rw [← ac_get hi] at e1
      obtain ⟨q1, q2, q3, q5, q4, q6, q7⟩ := bCross e1 h2
      have hw := wk_lt (φ := φ) (a := ac l i) (by omega)
      have cl := (uTok_claim O r HG D hw (fun c => by unfold wk; rw [if_pos c]) i hi).2 (fun k hk bb e h1 h2' => by
        have : uDl φ l G s i = true := uDl_iff.mpr ⟨k, hk, bb, uIn_iff.mpr ⟨h1, h2', hi, h2, e.symm⟩⟩
        rw [h] at this; cases this)
      rw [cl, ← uZ_z (uZ_run _ _ _ U (bAt_run r i)) (by omega)]
      exact q6)
    (fun i hi h h2 h3 => by
      refine ev (ac l i % 10, i) ?_
      unfold uTs
      refine List.mem_append.mpr (Or.inr (List.mem_map.mpr ⟨i, ?_, rfl⟩))
      exact List.mem_filter.mpr ⟨List.mem_range.mpr hi, by simpa using h3⟩)
    l.length (Nat.le_refl _)
  rw [List.take_length] at p1 cr1
  have eτ : bAt φ σ l l.length = τ := by
    have := bAt_run r l.length
    rw [List.take_length, r] at this
    exact (Option.some.inj this).symm
  rw [eτ] at a1 k1
  refine ⟨V, T, r1, ?_, p1, lo1, cr1, fun q => by rw [c1 q, List.take_length]⟩
  have ST := bRun_ok O _ _ _ S r1
  have Sτ := bRun_ok O _ _ _ S r
  have h6 := O.persons
  have bits : ∀ q, q < φ 0 2 → yBit T.ov q = yBit τ.ov q := by
    intro q hq
    by_cases ch : yBit (φ 0 4) q = 1
    · exact k1 q ch
    · have ad : yAd φ q := ⟨hq, by have := yBit_lt (φ 0 4) q; omega⟩
      rw [a1 q ad]
      have := ev (q, l.length) (by
        unfold uTs
        refine List.mem_append.mpr (Or.inl (List.mem_map.mpr ⟨q, ?_, rfl⟩))
        have := bAd_bit.mp ad
        exact List.mem_filter.mpr ⟨List.mem_range.mpr (by omega), by simp [this.1, this.2]⟩)
      dsimp only at this
      have b2 := yBit_lt τ.ov q
      omega
  apply Nat.eq_of_testBit_eq
  intro q
  rcases Nat.lt_or_ge q (φ 0 2) with h | h
  · have := bits q h
    rw [bBit, bBit] at this
    cases h1 : T.ov.testBit q <;> cases h2 : τ.ov.testBit q <;> simp_all
  · have big : 2 ^ φ 0 2 ≤ 2 ^ q := Nat.pow_le_pow_right (by decide) h
    rw [Nat.testBit_lt_two_pow (Nat.lt_of_lt_of_le ST.ov big), Nat.testBit_lt_two_pow (Nat.lt_of_lt_of_le Sτ.ov big)]
theorem nDel_pos {del : Nat → Bool} {i : Nat} (h : del i = true) : ∀ n, i < n → 1 ≤ nDel del n := by
  intro n
  induction n with
  | zero => intro h; omega
  | succ n ih =>
    intro hi
    show 1 ≤ nDel del n + (if del n = true then 1 else 0)
    by_cases g : i = n
    · subst g; rw [if_pos h]; omega
    · have := ih (by omega); omega
theorem nD_none {del : Nat → Bool} (h : ∀ i, del i = false) (l : List Nat) (p : Nat) : ∀ i, nD del l p i = 0 := by
  intro i
  induction i with
  | zero => rfl
  | succ i ih =>
    show nD del l p i + (if del i = true ∧ _ then 1 else 0) = 0
    rw [ih, h i]; simp
/-- a row of many letters has a shorter one -/
theorem uShort {φ : Nat → Nat → Nat} (O : yOk φ) (L0 : ∀ k, k < φ 0 3 → φ 5 k = 0) (b : Nat) {σ : ySt} (S : ySok φ σ) (U : uZ φ σ) (hz : ∀ w, w < 2 → uTk φ (σ.z w)) :
    ∀ (n : Nat) (l : List Nat) (τ : ySt), cr l ≤ n → yRun φ σ l = some τ → (∀ q, cCnt q l ≤ 1) → ∃ V T, yRun φ σ V = some T ∧ T.ov = τ.ov ∧ yPr φ b V ≤ yPr φ b l ∧ lo V ≤ cr V ∧ cr V ≤ 38 := by
  intro n
  induction n with
  | zero =>
    intro l τ hn r C
    obtain ⟨V, T, r1, e1, p1, l1, c1, _⟩ := uOut O L0 b S U r (G := fun _ => (0, 0, 0)) (s := 0) (fun k _ h => by simp at h) (fun k k' _ _ _ h => by simp at h)
      (fun t _ => by rw [nD_none (fun i => by cases h : uDl φ l (fun _ => (0, 0, 0)) 0 i with | false => rfl | true => (obtain ⟨k, _, h2, _⟩ := uDl_iff.mp h; simp at h2))])
    exact ⟨V, T, r1, e1, p1, l1, by omega⟩
  | succ n ih =>
    intro l τ hn r C
    rcases Nat.lt_or_ge 38 (cr l) with big | small
    · obtain ⟨G, g1, g2⟩ := uSeven O r hz C big
      have len : (uTs φ l).length ≤ 6 := by rw [uTs_len]; exact nAd_nCa O r C
      have p64 : 2 ^ (uTs φ l).length ≤ 64 := Nat.pow_le_pow_right (n := 2) (by decide) len
      by_cases two : ∃ s t, s < t ∧ t < 128 ∧ uCd (fun x => nD (uDl φ l G s) l x.1 x.2) (uTs φ l) = uCd (fun x => nD (uDl φ l G t) l x.1 x.2) (uTs φ l)
      · obtain ⟨s, t, st, t128, e⟩ := two
        have par := uCd_eq _ e
        obtain ⟨V, T, r1, e1, p1, l1, c1, cc⟩ := uOut O L0 b S U r (G := G) (s := s ^^^ t) (fun k hk _ => g1 k hk) (fun k k' hk hk' ne _ _ => g2 k k' hk hk' ne)
          (fun x hx => by
            have q := nD_xor (d1 := uDl φ l G s) (d2 := uDl φ l G t) (d3 := uDl φ l G (s ^^^ t)) (fun i => uDl_xor g2 s t i) l x.1 x.2
            have pp : nD (uDl φ l G s) l x.1 x.2 % 2 = nD (uDl φ l G t) l x.1 x.2 % 2 := par x hx
            omega)
        -- something is left out
        have ne : s ^^^ t ≠ 0 := fun z => by
          have : s = t := by
            apply Nat.eq_of_testBit_eq
            intro i
            have : (s ^^^ t).testBit i = false := by rw [z]; exact Nat.zero_testBit i
            rw [Nat.testBit_xor] at this
            cases h1 : s.testBit i <;> cases h2 : t.testBit i <;> simp_all
          omega
        have lt : s ^^^ t < 2 ^ 7 := Nat.xor_lt_two_pow (n := 7) (by omega) (by omega)
        obtain ⟨k, hk⟩ : ∃ k, (s ^^^ t).testBit k = true := Nat.exists_testBit_of_ne_zero ne
        have k7 : k < 7 := by
          rcases Nat.lt_or_ge k 7 with h | h
          · exact h
          · rw [Nat.testBit_lt_two_pow (Nat.lt_of_lt_of_le lt (Nat.pow_le_pow_right (by decide) h))] at hk; cases hk
        obtain ⟨i, hi⟩ := (g1 k k7).2.2.2.2.2
        have pos := nDel_pos (del := uDl φ l G (s ^^^ t)) (i := i) (uDl_iff.mpr ⟨k, k7, hk, hi⟩) l.length (uIn_iff.mp hi).2.2.1
        obtain ⟨V2, T2, a1, a2, a3, a4, a5⟩ := ih V T (by omega) r1 (fun q => by rw [cc q]; exact C q)
        exact ⟨V2, T2, a1, a2.trans e1, Nat.le_trans a3 p1, a4, a5⟩
      · exfalso
        have pig := yPig (n := 128) (m := 64) (g := fun s => uCd (fun x => nD (uDl φ l G s) l x.1 x.2) (uTs φ l))
          (fun s _ => Nat.lt_of_lt_of_le (uCd_lt _ _) p64)
          (fun s t hs ht e => by
            rcases Nat.lt_trichotomy s t with q | q | q
            · exact absurd ⟨s, t, q, ht, e⟩ two
            · exact q
            · exact absurd ⟨t, s, q, hs, e.symm⟩ two)
        omega
    · obtain ⟨V, T, r1, e1, p1, l1, c1, _⟩ := uOut O L0 b S U r (G := fun _ => (0, 0, 0)) (s := 0) (fun k _ h => by simp at h) (fun k k' _ _ _ h => by simp at h)
        (fun t _ => by rw [nD_none (fun i => by cases h : uDl φ l (fun _ => (0, 0, 0)) 0 i with | false => rfl | true => (obtain ⟨k, _, h2, _⟩ := uDl_iff.mp h; simp at h2))])
      exact ⟨V, T, r1, e1, p1, l1, by omega⟩
/-- tokens of the states that can be come to -/
theorem uTk_run {φ : Nat → Nat → Nat} (O : yOk φ) : ∀ (l : List Nat) (σ τ : ySt), (∀ w, w < 2 → uTk φ (σ.z w)) → yRun φ σ l = some τ → ∀ w, w < 2 → uTk φ (τ.z w) := by
  intro l
  induction l with
  | nil => intro σ τ X r; cases r; exact X
  | cons a l ih =>
    intro σ τ X r
    replace r : (if yEb φ σ a = true then yRun φ (yDo φ σ a) l else none) = some τ := r
    by_cases g : yEb φ σ a = true
    · rw [if_pos g] at r
      refine ih _ τ (fun w hw => ?_) r
      by_cases ha : a = 200
      · rw [ha, uTok_200]; exact X w hw
      · obtain ⟨q1, q2, q3, _⟩ := bCross g ha
        have := O.posts
        rw [uTok ha (by omega) hw]
        split
        · right; simpa using q3
        · exact X w hw
    · rw [if_neg g] at r; cases r
/-- where no post looks, the bound holds -/
theorem bU_bd {φ : Nat → Nat → Nat} (O : yOk φ) (hl : 0 < φ 0 0) (L0 : ∀ k, k < φ 0 3 → φ 5 k = 0) {l : List Nat} {σ : ySt} (r : yRun φ yFirst l = some σ) {b : Nat} (hb : b < 3) : yBd1 φ b σ := by
  intro m τ rm em least
  have S := bRun_ok O _ _ _ (yFirst_ok φ) r
  have U := uZ_run _ _ _ (uZ_first φ) r
  have hz := uTk_run O _ _ _ (fun w _ => Or.inl (by unfold ySt.z; split <;> rfl)) r
  obtain ⟨m', W', len, sc, C⟩ := cDrop_least O S (⟨⟨τ, rm, em⟩, least⟩ : bLe φ b σ m)
  obtain ⟨⟨τ', r', E'⟩, least'⟩ := W'
  obtain ⟨V, T, r1, e1, p1, l1, c1⟩ := uShort O L0 b S U hz (cr m') m' τ' (Nat.le_refl _) r' C
  have le := least' V T r1 (by unfold yIsE; rw [e1]; exact E')
  have sV := ySc_crlo O b V
  have lm := ySc_len hl b m'
  omega
