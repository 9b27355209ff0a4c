set_option maxRecDepth 100000
/-! rows of letters at posts without looks alone -/
theorem uDelL {φ : Nat → Nat → Nat} (O : yOk φ)  (b : Nat) {σ τ : ySt} (S : ySok φ σ) (U : uZ φ σ) {l : List Nat} (r : yRun φ σ l = some τ) (hL : ∀ a, a ∈ l → a ≠ 200 → φ 5 (a / 100) = 0) (del : Nat → Bool)
    (hd : ∀ i, i < l.length → del i = true → ac l i ≠ 200 ∧ cCh (ac l i) = 0)
    (ht : ∀ i, i < l.length → del i = false → ac l i ≠ 200 → yBeh φ (uT φ σ l del (wk φ (ac l i)) i) (ac l i % 10) (ac l i / 100) = true)
    (hc : ∀ i, i < l.length → del i = false → ac l i ≠ 200 → cCh (ac l i) ≠ 0 → nD del l (ac l i % 10) i % 2 = 0) :
    ∀ i, i ≤ l.length → ∃ V T, yRun φ σ V = some T ∧ (∀ p, yAd φ p → yBit T.ov p = (yBit (bAt φ σ l i).ov p + nD del l p i) % 2) ∧ (∀ q, yBit (φ 0 4) q = 1 → yBit T.ov q = yBit (bAt φ σ l i).ov q) ∧
      (∀ w, w < 2 → T.z w = uT φ σ l del w i) ∧ yPr φ b V ≤ yPr φ b (l.take i) ∧ lo V ≤ cr V ∧ cr V + nDel del i = cr (l.take i) ∧ (∀ q, cCnt q V = cCnt q (l.take i)) ∧ ∀ a, a ∈ V → a ≠ 200 → a ∈ l := by
  intro i
  induction i with
  | zero =>
    intro _
    refine ⟨[], σ, rfl, fun p _ => ?_, fun q _ => rfl, fun w _ => rfl, Nat.le_refl _, Nat.le_refl _, rfl, (fun q => rfl), (fun a h => nomatch h)⟩
    have := yBit_lt σ.ov p
    show yBit σ.ov p = (yBit σ.ov p + 0) % 2
    omega
  | succ i ih =>
    intro hi
    have hi' : i < l.length := hi
    obtain ⟨V, T, r1, a1, k1, z1, p1, lo1, cr1, c1, m1⟩ := ih (by omega)
    have mem : ac l i ∈ l := by rw [ac_get hi']; exact List.getElem_mem hi'
    obtain ⟨e1, e2⟩ := bAt_step r hi'
    have ea := ac_get hi'
    rw [← ea] at e1 e2
    have tk : l.take (i + 1) = l.take i ++ [ac l i] := by rw [List.take_succ_eq_append_getElem hi', ea]
    have ST := bRun_ok O _ _ _ S r1
    have UT := uZ_run _ _ _ U r1
    by_cases h200 : ac l i = 200
    · -- a loaf: nothing to do
      have nd : del i = false := by
        cases h : del i with
        | false => rfl
        | true => exact absurd h200 (hd i hi' h).1
      refine ⟨V, T, r1, fun p hp => ?_, fun q hq => ?_, fun w hw => ?_, ?_, lo1, ?_, fun q => ?_, m1⟩
      · rw [a1 p hp, e2, h200, bDo_200]
        show _ = (yBit (bAt φ σ l i).ov p + (nD del l p i + (if del i = true ∧ ac l i % 10 = p then 1 else 0))) % 2
        rw [nd, if_neg (by simp)]
        rfl
      · rw [k1 q hq, e2, h200, bDo_200]; rfl
      · rw [z1 w hw]
        show _ = if ac l i = 200 ∨ del i = true then uT φ σ l del w i else _
        rw [if_pos (Or.inl h200)]
      · rw [tk, yPr_app]; omega
      · rw [tk, cr_app, h200]
        show cr V + (nDel del i + (if del i = true then 1 else 0)) = cr (l.take i) + 0
        rw [nd]
        simpa using cr1
      · rw [tk, cCnt_app, c1 q, h200]
        show _ = _ + ((if cCh 200 = q + 1 then 1 else 0) + 0)
        have : cCh 200 = 0 := rfl
        rw [this, if_neg (by omega)]
        rfl
    · obtain ⟨q1, q2, q3, q5, q4, q6, q7⟩ := bCross e1 h200
      have posts := O.posts
      cases hdel : del i with
      | true =>
        -- left out
        have hno := (hd i hi' hdel).2
        refine ⟨V, T, r1, fun p hp => ?_, fun q hq => ?_, fun w hw => ?_, ?_, lo1, ?_, fun q => ?_, m1⟩
        · rw [a1 p hp, e2, bOv e1 h200 hp]
          show _ = (_ + (nD del l p i + (if del i = true ∧ ac l i % 10 = p then 1 else 0))) % 2
          rw [hdel]
          have b2 := yBit_lt (bAt φ σ l i).ov p
          by_cases g : p = ac l i % 10
          · rw [if_pos g, if_pos ⟨rfl, g.symm⟩]; omega
          · rw [if_neg g, if_neg (fun h => g h.2.symm)]; omega
        · rw [k1 q hq, e2, cBit_do e1 h200]
          have : ¬ (q = ac l i % 10 ∨ cCh (ac l i) = q + 1) := by
            intro h
            rcases h with h | h
            · rw [h, q3.2] at hq; cases hq
            · rw [hno] at h; cases h
          rw [if_neg this]
        · rw [z1 w hw]
          show _ = if ac l i = 200 ∨ del i = true then uT φ σ l del w i else _
          rw [if_pos (Or.inr hdel)]
        · rw [tk, yPr_app]; omega
        · rw [tk, cr_app]
          show cr V + (nDel del i + (if del i = true then 1 else 0)) = cr (l.take i) + ((if ac l i = 200 then 0 else 1) + 0)
          rw [if_neg h200, hdel]
          simp
          omega
        · rw [tk, cCnt_app, c1 q]
          show _ = _ + ((if cCh (ac l i) = q + 1 then 1 else 0) + 0)
          rw [hno, if_neg (by omega)]
          rfl
      | false =>
        -- kept, a loaf before it if need be
        have hb := ht i hi' hdel h200
        have kid : cCh (ac l i) = ac l i % 100 / 10 := by unfold cCh; rw [if_neg h200]
        have step : ∀ T' : ySt, T'.ov = T.ov → T'.z0 = T.z0 → T'.z1 = T.z1 → T'.mk = T.mk → T'.sd = yBit T.ov (ac l i % 10) → yEb φ T' (ac l i) = true := by
          intro T' t1 t2 t3 t4 t5
          have tz : ∀ k, T'.z k = T.z k := fun k => by unfold ySt.z; rw [t2, t3]
          refine cEb_of q1 q2 q3.1 (((yEb_act e1).1.resolve_left h200).2.2.1) (by rw [t1, t5]) (by rw [q3.2]; decide) (fun hc0 => ?_) ?_ ?_
          · refine ⟨(q4 hc0).1, ?_⟩
            have ev := hc i hi' hdel h200 (by rw [kid]; exact hc0)
            rw [t1, t5, k1 _ (q4 hc0).1, (q4 hc0).2, a1 _ q3, q5]
            have := (bAt_ok O S r i).sd
            omega
          · rw [tz, uZ_z UT (by omega), z1 _ (wk_lt (by omega))]
            exact hb
          · rw [hL _ mem h200]; exact uFit0 _ _
        -- the state behind it
        have fin : ∀ (V' : List Nat) (T' : ySt), yRun φ σ V' = some T' → T'.ov = T.ov → T'.z0 = T.z0 → T'.z1 = T.z1 → yEb φ T' (ac l i) = true → yPr φ b V' = yPr φ b V → lo V' ≤ cr V' + 1 → cr V' = cr V → (∀ q, cCnt q V' = cCnt q V) → (∀ a, a ∈ V' → a ≠ 200 → a ∈ l) →
            ∃ V T, yRun φ σ V = some T ∧ (∀ p, yAd φ p → yBit T.ov p = (yBit (bAt φ σ l (i + 1)).ov p + nD del l p (i + 1)) % 2) ∧ (∀ q, yBit (φ 0 4) q = 1 → yBit T.ov q = yBit (bAt φ σ l (i + 1)).ov q) ∧
              (∀ w, w < 2 → T.z w = uT φ σ l del w (i + 1)) ∧ yPr φ b V ≤ yPr φ b (l.take (i + 1)) ∧ lo V ≤ cr V ∧ cr V + nDel del (i + 1) = cr (l.take (i + 1)) ∧ (∀ q, cCnt q V = cCnt q (l.take (i + 1))) ∧ ∀ a, a ∈ V → a ≠ 200 → a ∈ l := by
          intro V' T' r' t1 t2 t3 te tp tl tc tn tm
          refine ⟨V' ++ [ac l i], yDo φ T' (ac l i), ?_, fun p hp => ?_, fun q hq => ?_, fun w hw => ?_, ?_, ?_, ?_, fun q => ?_, fun a ha h => (List.mem_append.mp ha).elim (fun z => tm a z h) (fun z => by rw [List.mem_singleton.mp z]; exact mem)⟩
          · rw [yRun_snoc, r']
            show (if yEb φ T' (ac l i) = true then some (yDo φ T' (ac l i)) else none) = _
            rw [if_pos te]
          · rw [bOv te h200 hp, t1, a1 p hp, e2, bOv e1 h200 hp]
            show _ = (_ + (nD del l p i + (if del i = true ∧ ac l i % 10 = p then 1 else 0))) % 2
            rw [hdel, if_neg (fun h : false = true ∧ ac l i % 10 = p => by cases h.1)]
            have b2 := yBit_lt (bAt φ σ l i).ov p
            split <;> omega
          · rw [cBit_do te h200, t1, k1 q hq, e2, cBit_do e1 h200]
          · rw [uTok h200 (by omega) hw]
            show _ = if ac l i = 200 ∨ del i = true then uT φ σ l del w i else if wk φ (ac l i) = w ∨ φ 0 7 ≠ 0 then ac l i % 10 + 1 else uT φ σ l del w i
            rw [if_neg (fun h : ac l i = 200 ∨ del i = true => h.elim h200 (fun g => by rw [hdel] at g; cases g))]
            split
            · rfl
            · have := z1 w hw
              unfold ySt.z at this ⊢
              rw [t2, t3]
              exact this
          · rw [tk, yPr_app, yPr_app, tp]; omega
          · rw [cr_app, lo_app]
            show lo V' + ((if ac l i = 200 then 1 else 0) + 0) ≤ cr V' + ((if ac l i = 200 then 0 else 1) + 0)
            rw [if_neg h200, if_neg h200]
            omega
          · rw [tk, cr_app, cr_app, tc]
            show cr V + _ + (nDel del i + (if del i = true then 1 else 0)) = cr (l.take i) + _
            rw [hdel]
            simp
            omega
          · rw [tk, cCnt_app, cCnt_app, tn, c1 q]
        by_cases hs : T.sd = yBit T.ov (ac l i % 10)
        · exact fin V T r1 rfl rfl rfl (step T rfl rfl rfl rfl hs) rfl (by omega) rfl (fun _ => rfl) m1
        · have sd2 := ST.sd
          have b2 := yBit_lt T.ov (ac l i % 10)
          refine fin (V ++ [200]) (yDo φ T 200) ?_ ?_ ?_ ?_ (step _ ?_ ?_ ?_ ?_ ?_) ?_ ?_ ?_ ?_ ?_
          · rw [yRun_snoc, r1]
            show (if yEb φ T 200 = true then some (yDo φ T 200) else none) = _
            rw [if_pos (yEb_200 φ T)]
          all_goals first | (rw [bDo_200]; rfl) | skip
          · rw [bDo_200]
            show 1 - T.sd = _
            omega
          · rw [yPr_app]
            show _ + (yPr1 φ b 200 + 0) = _
            have : yPr1 φ b 200 = 0 := by unfold yPr1; simp
            omega
          · rw [lo_app, cr_app]
            show lo V + 1 ≤ cr V + 0 + 1
            omega
          · rw [cr_app]; rfl
          · intro q
            rw [cCnt_app]
            show _ + ((if cCh 200 = q + 1 then 1 else 0) + 0) = _
            have : cCh 200 = 0 := rfl
            rw [this, if_neg (by omega)]
            rfl
          · intro a ha h
            exact (List.mem_append.mp ha).elim (fun z => m1 a z h) (fun z => absurd (List.mem_singleton.mp z) h)
/-- what is left when chosen stretches are left out -/
theorem uOutL {φ : Nat → Nat → Nat} (O : yOk φ)  (b : Nat) {σ τ : ySt} (S : ySok φ σ) (U : uZ φ σ) {l : List Nat} (r : yRun φ σ l = some τ) (hL : ∀ a, a ∈ l → a ≠ 200 → φ 5 (a / 100) = 0) {G : Nat → Nat × Nat × Nat} {s : Nat}
    (HG : ∀ k, k < 7 → s.testBit k = true → uSeg φ σ l (G k)) (D : ∀ k k', k < 7 → k' < 7 → k ≠ k' → s.testBit k = true → s.testBit k' = true → uDis (G k) (G k'))
    (ev : ∀ t, t ∈ uTs φ l → nD (uDl φ l G s) l t.1 t.2 % 2 = 0) :
    ∃ V T, yRun φ σ V = some T ∧ T.ov = τ.ov ∧ yPr φ b V ≤ yPr φ b l ∧ lo V ≤ cr V ∧ cr V + nDel (uDl φ l G s) l.length = cr l ∧ (∀ q, cCnt q V = cCnt q l) ∧ ∀ a, a ∈ V → a ≠ 200 → a ∈ l := by
  have posts := O.posts
  obtain ⟨V, T, r1, a1, k1, z1, p1, lo1, cr1, c1, m1⟩ := uDelL O b S U r hL (uDl φ l G s)
    (fun i hi h => by
      obtain ⟨k, hk, bb, u⟩ := uDl_iff.mp h
      exact ⟨(uIn_iff.mp u).2.2.2.1, (HG k hk bb).2.2.2.2.1 i u⟩)
    (fun i hi h h2 => by
      obtain ⟨e1, e2⟩ := bAt_step r hi
      rw [← ac_get hi] at e1
      obtain ⟨q1, q2, q3, q5, q4, q6, q7⟩ := bCross e1 h2
      have hw := wk_lt (φ := φ) (a := ac l i) (by omega)
      have cl := (uTok_claim O r HG D hw (fun c => by unfold wk; rw [if_pos c]) i hi).2 (fun k hk bb e h1 h2' => by
        have : uDl φ l G s i = true := uDl_iff.mpr ⟨k, hk, bb, uIn_iff.mpr ⟨h1, h2', hi, h2, e.symm⟩⟩
        rw [h] at this; cases this)
      rw [cl, ← uZ_z (uZ_run _ _ _ U (bAt_run r i)) (by omega)]
      exact q6)
    (fun i hi h h2 h3 => by
      refine ev (ac l i % 10, i) ?_
      unfold uTs
      refine List.mem_append.mpr (Or.inr (List.mem_map.mpr ⟨i, ?_, rfl⟩))
      exact List.mem_filter.mpr ⟨List.mem_range.mpr hi, by simpa using h3⟩)
    l.length (Nat.le_refl _)
  rw [List.take_length] at p1 cr1
  have eτ : bAt φ σ l l.length = τ := by
    have := bAt_run r l.length
    rw [List.take_length, r] at this
    exact (Option.some.inj this).symm
  rw [eτ] at a1 k1
  refine ⟨V, T, r1, ?_, p1, lo1, cr1, fun q => by rw [c1 q, List.take_length], m1⟩
  have ST := bRun_ok O _ _ _ S r1
  have Sτ := bRun_ok O _ _ _ S r
  have h6 := O.persons
  have bits : ∀ q, q < φ 0 2 → yBit T.ov q = yBit τ.ov q := by
    intro q hq
    by_cases ch : yBit (φ 0 4) q = 1
    · exact k1 q ch
    · have ad : yAd φ q := ⟨hq, by have := yBit_lt (φ 0 4) q; omega⟩
      rw [a1 q ad]
      have := ev (q, l.length) (by
        unfold uTs
        refine List.mem_append.mpr (Or.inl (List.mem_map.mpr ⟨q, ?_, rfl⟩))
        have := bAd_bit.mp ad
        exact List.mem_filter.mpr ⟨List.mem_range.mpr (by omega), by simp [this.1, this.2]⟩)
      dsimp only at this
      have b2 := yBit_lt τ.ov q
      omega
  apply Nat.eq_of_testBit_eq
  intro q
  rcases Nat.lt_or_ge q (φ 0 2) with h | h
  · have := bits q h
    rw [bBit, bBit] at this
    cases h1 : T.ov.testBit q <;> cases h2 : τ.ov.testBit q <;> simp_all
  · have big : 2 ^ φ 0 2 ≤ 2 ^ q := Nat.pow_le_pow_right (by decide) h
    rw [Nat.testBit_lt_two_pow (Nat.lt_of_lt_of_le ST.ov big), Nat.testBit_lt_two_pow (Nat.lt_of_lt_of_le Sτ.ov big)]
/-- a row of many letters has a shorter one -/
theorem uShortL {φ : Nat → Nat → Nat} (O : yOk φ)  (b : Nat) {σ : ySt} (S : ySok φ σ) (U : uZ φ σ) (hz : ∀ w, w < 2 → uTk φ (σ.z w)) :
    ∀ (n : Nat) (l : List Nat) (τ : ySt), cr l ≤ n → yRun φ σ l = some τ → (∀ q, cCnt q l ≤ 1) → (∀ a, a ∈ l → a ≠ 200 → φ 5 (a / 100) = 0) → ∃ V T, yRun φ σ V = some T ∧ T.ov = τ.ov ∧ yPr φ b V ≤ yPr φ b l ∧ lo V ≤ cr V ∧ cr V ≤ 38 := by
  intro n
  induction n with
  | zero =>
    intro l τ hn r C hL
    obtain ⟨V, T, r1, e1, p1, l1, c1, _⟩ := uOutL O b S U r hL (G := fun _ => (0, 0, 0)) (s := 0) (fun k _ h => by simp at h) (fun k k' _ _ _ h => by simp at h)
      (fun t _ => by rw [nD_none (fun i => by cases h : uDl φ l (fun _ => (0, 0, 0)) 0 i with | false => rfl | true => (obtain ⟨k, _, h2, _⟩ := uDl_iff.mp h; simp at h2))])
    exact ⟨V, T, r1, e1, p1, l1, by omega⟩
  | succ n ih =>
    intro l τ hn r C hL
    rcases Nat.lt_or_ge 38 (cr l) with big | small
    · obtain ⟨G, g1, g2⟩ := uSeven O r hz C big
      have len : (uTs φ l).length ≤ 6 := by rw [uTs_len]; exact nAd_nCa O r C
      have p64 : 2 ^ (uTs φ l).length ≤ 64 := Nat.pow_le_pow_right (n := 2) (by decide) len
      by_cases two : ∃ s t, s < t ∧ t < 128 ∧ uCd (fun x => nD (uDl φ l G s) l x.1 x.2) (uTs φ l) = uCd (fun x => nD (uDl φ l G t) l x.1 x.2) (uTs φ l)
      · obtain ⟨s, t, st, t128, e⟩ := two
        have par := uCd_eq _ e
        obtain ⟨V, T, r1, e1, p1, l1, c1, cc, mm⟩ := uOutL O b S U r hL (G := G) (s := s ^^^ t) (fun k hk _ => g1 k hk) (fun k k' hk hk' ne _ _ => g2 k k' hk hk' ne)
          (fun x hx => by
            have q := nD_xor (d1 := uDl φ l G s) (d2 := uDl φ l G t) (d3 := uDl φ l G (s ^^^ t)) (fun i => uDl_xor g2 s t i) l x.1 x.2
            have pp : nD (uDl φ l G s) l x.1 x.2 % 2 = nD (uDl φ l G t) l x.1 x.2 % 2 := par x hx
            omega)
        -- something is left out
        have ne : s ^^^ t ≠ 0 := fun z => by
          have : s = t := by
            apply Nat.eq_of_testBit_eq
            intro i
            have : (s ^^^ t).testBit i = false := by rw [z]; exact Nat.zero_testBit i
            rw [Nat.testBit_xor] at this
            cases h1 : s.testBit i <;> cases h2 : t.testBit i <;> simp_all
          omega
        have lt : s ^^^ t < 2 ^ 7 := Nat.xor_lt_two_pow (n := 7) (by omega) (by omega)
        obtain ⟨k, hk⟩ : ∃ k, (s ^^^ t).testBit k = true := Nat.exists_testBit_of_ne_zero ne
        have k7 : k < 7 := by
          rcases Nat.lt_or_ge k 7 with h | h
          · exact h
          · rw [Nat.testBit_lt_two_pow (Nat.lt_of_lt_of_le lt (Nat.pow_le_pow_right (by decide) h))] at hk; cases hk
        obtain ⟨i, hi⟩ := (g1 k k7).2.2.2.2.2
        have pos := nDel_pos (del := uDl φ l G (s ^^^ t)) (i := i) (uDl_iff.mpr ⟨k, k7, hk, hi⟩) l.length (uIn_iff.mp hi).2.2.1
        obtain ⟨V2, T2, a1, a2, a3, a4, a5⟩ := ih V T (by omega) r1 (fun q => by rw [cc q]; exact C q) (fun a ha h => hL a (mm a ha h) h)
        exact ⟨V2, T2, a1, a2.trans e1, Nat.le_trans a3 p1, a4, a5⟩
      · exfalso
        have pig := yPig (n := 128) (m := 64) (g := fun s => uCd (fun x => nD (uDl φ l G s) l x.1 x.2) (uTs φ l))
          (fun s _ => Nat.lt_of_lt_of_le (uCd_lt _ _) p64)
          (fun s t hs ht e => by
            rcases Nat.lt_trichotomy s t with q | q | q
            · exact absurd ⟨s, t, q, ht, e⟩ two
            · exact q
            · exact absurd ⟨t, s, q, hs, e.symm⟩ two)
        omega
    · obtain ⟨V, T, r1, e1, p1, l1, c1, _⟩ := uOutL O b S U r hL (G := fun _ => (0, 0, 0)) (s := 0) (fun k _ h => by simp at h) (fun k k' _ _ _ h => by simp at h)
        (fun t _ => by rw [nD_none (fun i => by cases h : uDl φ l (fun _ => (0, 0, 0)) 0 i with | false => rfl | true => (obtain ⟨k, _, h2, _⟩ := uDl_iff.mp h; simp at h2))])
      exact ⟨V, T, r1, e1, p1, l1, by omega⟩
/-- letters at posts without looks alone lead to the end: then few days and few crossings do -/
theorem bL_bd {φ : Nat → Nat → Nat} (O : yOk φ) (hl : 0 < φ 0 0) {l : List Nat} {σ : ySt} (r : yRun φ yFirst l = some σ) {m0 : List Nat} {τ0 : ySt} (r0 : yRun φ σ m0 = some τ0) (e0 : yIsE φ τ0) (C0 : ∀ q, cCnt q m0 ≤ 1) (hL : ∀ a, a ∈ m0 → a ≠ 200 → φ 5 (a / 100) = 0) {b : Nat} (hb : b = 0 ∨ b = 2) : yBd1 φ b σ := by
  intro m τ rm em least
  have S := bRun_ok O _ _ _ (yFirst_ok φ) r
  have U := uZ_run _ _ _ (uZ_first φ) r
  have hz := uTk_run O _ _ _ (fun w _ => Or.inl (by unfold ySt.z; split <;> rfl)) r
  obtain ⟨V, T, r1, e1, p1, l1, c1⟩ := uShortL O b S U hz (cr m0) m0 τ0 (Nat.le_refl _) r0 C0 hL
  have le := least V T r1 (by unfold yIsE; rw [e1]; exact e0)
  have sV := ySc_crlo O b V
  have lm := ySc_len hl b m
  rcases hb with h | h
  · subst h
    have z : ∀ l, yPr φ 0 l = 0 := by
      intro l
      induction l with
      | nil => rfl
      | cons a l ih => show yPr1 φ 0 a + yPr φ 0 l = 0; rw [ih]; rfl
    rw [z, z] at le
    omega
  · subst h
    rw [kPr, kPr, kSc, kSc] at le
    rw [kSc]
    refine ⟨?_, fun h => absurd h (by decide)⟩
    -- loafs are not doubled in a row of fewest acts
    have W : bLe φ 2 σ m := ⟨⟨τ, rm, em⟩, least⟩
    have dbl : ∀ t, t + 1 < m.length → ac m t = 200 → ac m (t + 1) ≠ 200 := fun t ht h => fLoaf O S rm (fun i j hij hj => bAt_ne hl W hij hj) ht h
    have := fLo dbl
    have := cr_lo m
    omega
