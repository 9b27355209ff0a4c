set_option maxRecDepth 100000
/-! comparing: a word (the sides of the others in the order of noses) is hot in one run -/
theorem nFit_all : ((List.range 4).all fun L => (List.range 16).all fun m => (List.range 2).all fun s => decide (m < 2) || !yFit L s m || yFit L (1 - s) (yMk m s)) = true := by decide +kernel
theorem nFit_do {L m s : Nat} (hL : L < 4) (h1 : m < 16) (h3 : s < 2) (h4 : 2 ≤ m) (h7 : yFit L s m = true) : yFit L (1 - s) (yMk m s) = true := by
  have := List.all_eq_true.mp (List.all_eq_true.mp (List.all_eq_true.mp nFit_all L (List.mem_range.mpr hL)) m (List.mem_range.mpr h1)) s (List.mem_range.mpr h3)
  rw [h7] at this
  simpa [show ¬ m < 2 by omega] using this
/-- a hot step by the post k: to w, which stands on this side and is near -/
theorem nStep {φ : Nat → Nat → Nat} (O : yOk φ) (hc : φ 0 7 ≠ 0) {k p w : Nat} (hk : k < φ 0 3) {x : ySt} (S : ySok φ x) (h : nHot φ k p x) (hw : yAd φ w) (hs : yBit x.ov w = x.sd) (hn : yBeh φ (p + 1) w k = true) :
    yEb φ x (100 * k + w) = true ∧ nHot φ k w (yDo φ x (100 * k + w)) ∧ ySok φ (yDo φ x (100 * k + w)) ∧ (∀ q, yBit (yDo φ x (100 * k + w)).ov q = if q = w then 1 - yBit x.ov q else yBit x.ov q) ∧ (100 * k + w ≠ 200) ∧ (100 * k + w) % 10 = w ∧ (100 * k + w) / 100 = k := by
  obtain ⟨⟨h1, h2, h3, h4, h5, h6⟩, h7⟩ := h
  have p6 := O.persons
  have p2 := O.posts
  have pn := hw.1
  have e1 : (100 * k + w) % 10 = w := by omega
  have e2 : (100 * k + w) / 100 = k := by omega
  have e3 : (100 * k + w) % 100 / 10 = 0 := by omega
  have e4 : 100 * k + w ≠ 200 := by omega
  have ch : cCh (100 * k + w) = 0 := by unfold cCh; rw [if_neg e4]; exact e3
  have eb : yEb φ x (100 * k + w) = true := by
    refine cEb_of (by omega) (by rw [e2]; exact hk) (by rw [e1]; exact pn) (by rw [e3]; exact Nat.zero_le _) (by rw [e1]; exact hs) (by rw [e1, hw.2]; decide) (fun g => absurd e3 g) ?_ ?_
    · rw [e1, e2]
      have : x.z k = p + 1 := by unfold ySt.z; split <;> assumption
      rw [this]; exact hn
    · rw [e2]; exact h7
  have ka := kAt_of hc S eb e4
  rw [e1] at ka
  refine ⟨eb, ⟨ka, ?_⟩, yDo_ok O S (yEb_act eb).1, fun q => ?_, e4, e1, e2⟩
  · rw [bDo e4]
    show yFit (φ 5 k) (1 - x.sd) (yMk x.mk x.sd) = true
    exact nFit_do (by have := O.looks k hk; omega) S.mk1 S.sd h5 h7
  · rw [cBit_do eb e4, e1, ch]
    by_cases g : q = w
    · rw [if_pos (Or.inl g), if_pos g]
    · rw [if_neg (by intro z; rcases z with z | z <;> omega), if_neg g]
theorem nBeh_self (φ : Nat → Nat → Nat) (p k : Nat) : yBeh φ (p + 1) p k = true := by unfold yBeh; simp
/-- crossings by u -/
def nCt (u : Nat) : List Nat → Nat
  | [] => 0
  | a :: l => (if a ≠ 200 ∧ a % 10 = u then 1 else 0) + nCt u l
theorem nCt_0 {u : Nat} : ∀ {l : List Nat}, (∀ a, a ∈ l → a ≠ 200 → a % 10 ≠ u) → nCt u l = 0 := by
  intro l
  induction l with
  | nil => intro _; rfl
  | cons a l ih =>
    intro h
    show (if a ≠ 200 ∧ a % 10 = u then 1 else 0) + nCt u l = 0
    rw [if_neg (fun z => h a (List.mem_cons_self ..) z.1 z.2), ih fun b hb => h b (List.mem_cons_of_mem _ hb)]
/-- the tiles slide by one -/
def nCh (y z : ySt) : Nat → List Nat → Prop
  | _, [] => True
  | p, w :: t => yBit y.ov p = yBit z.ov w ∧ nCh y z w t
def nAj (φ : Nat → Nat → Nat) (k : Nat) (vis : Nat → Bool) : Nat → List Nat → Prop
  | _, [] => True
  | p, w :: t => if vis w = true then yBeh φ (p + 1) w k = true ∧ nAj φ k vis w t else nAj φ k vis p t
theorem nCh_bits {y z z2 : ySt} : ∀ (t : List Nat) (p : Nat), (∀ q, q ∈ t → yBit z2.ov q = yBit z.ov q) → nCh y z p t → nCh y z2 p t := by
  intro t
  induction t with
  | nil => intro p _ _; trivial
  | cons w t ih =>
    intro p h c
    exact ⟨by rw [h w (List.mem_cons_self ..)]; exact c.1, ih w (fun q hq => h q (List.mem_cons_of_mem _ hq)) c.2⟩
theorem nSlide {φ : Nat → Nat → Nat} (O : yOk φ) (hc : φ 0 7 ≠ 0) {k : Nat} (hk : k < φ 0 3) (vis : Nat → Bool) (y : ySt) : ∀ (rest : List Nat) (p : Nat) (z : ySt), ySok φ z → nHot φ k p z → (p :: rest).Nodup → (∀ w, w ∈ rest → yAd φ w) →
    nCh y z p rest → (∀ w, w ∈ rest → vis w = false → yBit y.ov w = yBit z.ov w) → nAj φ k vis p rest → (∀ h : rest ≠ [], vis (rest.getLast h) = true) →
    ∃ D z' r, yRun φ z D = some z' ∧ nHot φ k r z' ∧ (p :: rest).getLast? = some r ∧ (∀ a, a ∈ D → a ≠ 200 ∧ a / 100 = k ∧ (a % 10 = p ∨ (a % 10 ∈ rest ∧ vis (a % 10) = true))) ∧ (∀ u, nCt u D ≤ 2) ∧ nCt p D ≤ 1 ∧ (nCt r D ≤ 1 ∧ (rest = [] → D = [])) ∧
      (∀ q, q ≠ r → (q = p ∨ q ∈ rest) → yBit z'.ov q = yBit y.ov q) ∧ (∀ q, q ≠ p → q ∉ rest → yBit z'.ov q = yBit z.ov q) := by
  intro rest
  induction rest with
  | nil =>
    intro p z S h _ _ _ _ _ _
    refine ⟨[], z, p, rfl, h, rfl, (fun a ha => nomatch ha), fun u => Nat.zero_le _, Nat.zero_le _, ⟨Nat.zero_le _, fun _ => rfl⟩, fun q hq h2 => ?_, fun q _ _ => rfl⟩
    rcases h2 with h2 | h2
    · exact absurd h2 hq
    · cases h2
  | cons w t ih =>
    intro p z S h nd ad ch un aj la
    have ndt : (w :: t).Nodup := (List.nodup_cons.mp nd).2
    have pw : p ≠ w := fun e => (List.nodup_cons.mp nd).1 (by rw [e]; exact List.mem_cons_self ..)
    have pt : p ∉ t := fun e => (List.nodup_cons.mp nd).1 (List.mem_cons_of_mem _ e)
    have wt : w ∉ t := (List.nodup_cons.mp ndt).1
    by_cases vw : vis w = true
    · have aj' : yBeh φ (p + 1) w k = true ∧ nAj φ k vis w t := by
        have := aj
        unfold nAj at this
        rw [if_pos vw] at this
        exact this
      have la' : ∀ h : t ≠ [], vis (t.getLast h) = true := fun hh => by
        have := la (by simp)
        rwa [List.getLast_cons hh] at this
      have adw := ad w (List.mem_cons_self ..)
      have sdz : z.sd = yBit z.ov p := h.1.2.2.2.1
      have bp := yBit_lt z.ov p
      have bw := yBit_lt z.ov w
      -- from a state whose side is w's
      have go : ∀ x : ySt, ySok φ x → nHot φ k p x → yBit x.ov w = x.sd → (∀ q, q ≠ p → yBit x.ov q = yBit z.ov q) →
          ∃ D z' r, yRun φ x ((100 * k + w) :: D) = some z' ∧ nHot φ k r z' ∧ (p :: w :: t).getLast? = some r ∧ (∀ a, a ∈ D → a ≠ 200 ∧ a / 100 = k ∧ (a % 10 = w ∨ (a % 10 ∈ t ∧ vis (a % 10) = true))) ∧ (∀ u, nCt u D ≤ 2) ∧ nCt w D ≤ 1 ∧ nCt r ((100 * k + w) :: D) ≤ 1 ∧ r ≠ p ∧
            (∀ q, q ≠ r → (q = w ∨ q ∈ t) → yBit z'.ov q = yBit y.ov q) ∧ (∀ q, q ≠ w → q ∉ t → yBit z'.ov q = yBit x.ov q) := by
        intro x Sx hx hb bits
        obtain ⟨s1, s2, s3, s4, s5, s6, s7⟩ := nStep O hc hk Sx hx adw hb aj'.1
        have bt : ∀ q, q ∈ t → yBit (yDo φ x (100 * k + w)).ov q = yBit z.ov q := fun q hq => by
          rw [s4, if_neg (fun e => wt (by rw [← e]; exact hq)), bits q (fun e => pt (by rw [← e]; exact hq))]
        obtain ⟨D, z', r, d1, d2, d3, d4, d5, d6, d9, d7, d8⟩ := ih w _ s3 s2 ndt (fun q hq => ad q (List.mem_cons_of_mem _ hq)) (nCh_bits t w bt ch.2) (fun q hq hv => by rw [bt q hq]; exact un q (List.mem_cons_of_mem _ hq) hv) aj'.2 la'
        refine ⟨D, z', r, ?_, d2, ?_, d4, d5, d6, ?_, ?_, d7, fun q hq hq2 => ?_⟩
        · show (if yEb φ x (100 * k + w) = true then yRun φ (yDo φ x (100 * k + w)) D else none) = _
          rw [if_pos s1]; exact d1
        · rw [List.getLast?_cons_cons]; exact d3
        · show (if 100 * k + w ≠ 200 ∧ (100 * k + w) % 10 = r then 1 else 0) + nCt r D ≤ 1
          cases t with
          | nil =>
            rw [d9.2 rfl]
            show _ + 0 ≤ 1
            split <;> omega
          | cons v t' =>
            have : r ∈ v :: t' := by
              rw [List.getLast?_cons_cons] at d3
              exact List.mem_of_getLast? d3
            rw [if_neg (fun z => wt (by rw [← s6, z.2]; exact this))]
            have := d9.1
            omega
        · intro e
          have : r ∈ w :: t := List.mem_of_getLast? d3
          exact (List.nodup_cons.mp nd).1 (by rw [← e]; exact this)
        · rw [d8 q hq hq2, s4, if_neg hq]
      by_cases same : yBit z.ov w = z.sd
      · obtain ⟨D, z', r, d1, d2, d3, d4, d5, d6, d9, d10, d7, d8⟩ := go z S h same fun q _ => rfl
        refine ⟨_, z', r, d1, d2, d3, fun a ha => ?_, fun u => ?_, ?_, ⟨d9, fun e => nomatch e⟩, fun q hq h2 => ?_, fun q hq h2 => ?_⟩
        · rcases List.mem_cons.mp ha with e | e
          · obtain ⟨s1, s2, s3, s4, s5, s6, s7⟩ := nStep O hc hk S h adw same aj'.1
            subst e
            exact ⟨s5, s7, Or.inr ⟨by rw [s6]; exact List.mem_cons_self .., by rw [s6]; exact vw⟩⟩
          · obtain ⟨a1, a2, a3⟩ := d4 a e
            refine ⟨a1, a2, Or.inr ?_⟩
            rcases a3 with a3 | a3
            · rw [a3]; exact ⟨List.mem_cons_self .., vw⟩
            · exact ⟨List.mem_cons_of_mem _ a3.1, a3.2⟩
        · show (if 100 * k + w ≠ 200 ∧ (100 * k + w) % 10 = u then 1 else 0) + nCt u D ≤ 2
          have := d5 u
          by_cases g : u = w
          · rw [g]; split <;> omega
          · obtain ⟨s1, s2, s3, s4, s5, s6, s7⟩ := nStep O hc hk S h adw same aj'.1
            rw [if_neg (fun z => g (by rw [← z.2, s6]))]; omega
        · show (if 100 * k + w ≠ 200 ∧ (100 * k + w) % 10 = p then 1 else 0) + nCt p D ≤ 1
          obtain ⟨s1, s2, s3, s4, s5, s6, s7⟩ := nStep O hc hk S h adw same aj'.1
          rw [if_neg (fun z => pw (by rw [← z.2, s6]))]
          have : nCt p D = 0 := nCt_0 fun a ha _ => by
            rcases (d4 a ha).2.2 with e | e
            · rw [e]; exact fun z => pw z.symm
            · exact fun z => pt (by rw [← z]; exact e.1)
          omega
        · rcases h2 with h2 | h2
          · rw [h2] at hq ⊢
            rw [d8 p pw pt, ch.1, same, sdz]
          · rcases List.mem_cons.mp h2 with e | e
            · exact d7 q hq (Or.inl e)
            · exact d7 q hq (Or.inr e)
        · exact d8 q (fun e => h2 (by rw [e]; exact List.mem_cons_self ..)) (fun e => h2 (List.mem_cons_of_mem _ e))
      · -- p crosses back first
        have hb : yBit z.ov p = z.sd := sdz.symm
        obtain ⟨s1, s2, s3, s4, s5, s6, s7⟩ := nStep O hc hk S h h.1.1 hb (nBeh_self φ p k)
        have sd1 : (yDo φ z (100 * k + p)).sd = 1 - z.sd := by rw [bDo s5]; rfl
        have bw1 : yBit (yDo φ z (100 * k + p)).ov w = yBit z.ov w := by rw [s4, if_neg (fun e => pw e.symm)]
        obtain ⟨D, z', r, d1, d2, d3, d4, d5, d6, d9, d10, d7, d8⟩ := go _ s3 s2 (by rw [bw1, sd1]; omega) fun q hq => by rw [s4, if_neg hq]
        have e6 : (100 * k + w) % 10 = w ∧ (100 * k + w) / 100 = k ∧ 100 * k + w ≠ 200 := by
          have := O.persons; have := adw.1; have := O.posts; omega
        have c0 : nCt p D = 0 := nCt_0 fun a ha _ => by
            rcases (d4 a ha).2.2 with e | e
            · rw [e]; exact fun z => pw z.symm
            · exact fun z => pt (by rw [← z]; exact e.1)
        refine ⟨(100 * k + p) :: (100 * k + w) :: D, z', r, ?_, d2, d3, fun a ha => ?_, fun u => ?_, ?_, ⟨?_, fun e => nomatch e⟩, fun q hq h2 => ?_, fun q hq h2 => ?_⟩
        · show (if yEb φ z (100 * k + p) = true then yRun φ (yDo φ z (100 * k + p)) _ else none) = _
          rw [if_pos s1]; exact d1
        · rcases List.mem_cons.mp ha with e | e
          · subst e; exact ⟨s5, s7, Or.inl s6⟩
          · rcases List.mem_cons.mp e with e | e
            · subst e
              exact ⟨e6.2.2, e6.2.1, Or.inr ⟨by rw [e6.1]; exact List.mem_cons_self .., by rw [e6.1]; exact vw⟩⟩
            · obtain ⟨a1, a2, a3⟩ := d4 a e
              refine ⟨a1, a2, Or.inr ?_⟩
              rcases a3 with a3 | a3
              · rw [a3]; exact ⟨List.mem_cons_self .., vw⟩
              · exact ⟨List.mem_cons_of_mem _ a3.1, a3.2⟩
        · show (if 100 * k + p ≠ 200 ∧ (100 * k + p) % 10 = u then 1 else 0) + ((if 100 * k + w ≠ 200 ∧ (100 * k + w) % 10 = u then 1 else 0) + nCt u D) ≤ 2
          have := d5 u
          by_cases g : u = w
          · rw [g, if_neg (fun z => pw (by rw [← z.2, s6]))]; split <;> omega
          · rw [if_neg (c := 100 * k + w ≠ 200 ∧ (100 * k + w) % 10 = u) (fun z => g (by rw [← z.2, e6.1]))]
            by_cases g2 : u = p
            · rw [g2, c0]; split <;> omega
            · rw [if_neg (fun z => g2 (by rw [← z.2, s6]))]; omega
        · show (if 100 * k + p ≠ 200 ∧ (100 * k + p) % 10 = p then 1 else 0) + ((if 100 * k + w ≠ 200 ∧ (100 * k + w) % 10 = p then 1 else 0) + nCt p D) ≤ 1
          rw [if_neg (c := 100 * k + w ≠ 200 ∧ (100 * k + w) % 10 = p) (fun z => pw (by rw [← z.2, e6.1])), c0]
          split <;> omega
        · show (if 100 * k + p ≠ 200 ∧ (100 * k + p) % 10 = r then 1 else 0) + nCt r ((100 * k + w) :: D) ≤ 1
          rw [if_neg (fun z => d10 (by rw [← z.2, s6]))]; omega
        · rcases h2 with h2 | h2
          · rw [h2] at hq ⊢
            rw [d8 p pw pt, s4, if_pos rfl, ch.1]
            have := S.sd
            omega
          · rcases List.mem_cons.mp h2 with e | e
            · exact d7 q hq (Or.inl e)
            · exact d7 q hq (Or.inr e)
        · rw [d8 q (fun e => h2 (by rw [e]; exact List.mem_cons_self ..)) (fun e => h2 (List.mem_cons_of_mem _ e)), s4, if_neg hq]
    · -- w is passed over
      have vw' : vis w = false := by cases h2 : vis w <;> simp_all
      have tne : t ≠ [] := fun e => by
        subst e
        have := la (by simp)
        exact vw (by simpa using this)
      have ch' : nCh y z p t := by
        cases t with
        | nil => trivial
        | cons v t => exact ⟨by rw [ch.1, ← un w (List.mem_cons_self ..) vw']; exact ch.2.1, ch.2.2⟩
      have aj' : nAj φ k vis p t := by
        have := aj
        unfold nAj at this
        rw [if_neg vw] at this
        exact this
      obtain ⟨D, z', r, d1, d2, d3, d4, d5, d6, d9, d7, d8⟩ := ih p z S h (List.nodup_cons.mpr ⟨pt, (List.nodup_cons.mp ndt).2⟩) (fun q hq => ad q (List.mem_cons_of_mem _ hq)) ch' (fun q hq hv => un q (List.mem_cons_of_mem _ hq) hv) aj' (fun hh => by
        have := la (by simp)
        rwa [List.getLast_cons hh] at this)
      refine ⟨D, z', r, d1, d2, ?_, fun a ha => ?_, d5, d6, ⟨d9.1, fun e => nomatch e⟩, fun q hq h2 => ?_, fun q hq h2 => ?_⟩
      · cases t with
        | nil => exact absurd rfl tne
        | cons v t => rw [List.getLast?_cons_cons] at d3 ⊢; rw [List.getLast?_cons_cons]; exact d3
      · obtain ⟨a1, a2, a3⟩ := d4 a ha
        refine ⟨a1, a2, ?_⟩
        rcases a3 with a3 | a3
        · exact Or.inl a3
        · exact Or.inr ⟨List.mem_cons_of_mem _ a3.1, a3.2⟩
      · rcases h2 with h2 | h2
        · exact d7 q hq (Or.inl h2)
        · rcases List.mem_cons.mp h2 with e | e
          · rw [e, d8 w (fun z => pw z.symm) wt, un w (List.mem_cons_self ..) vw']
          · exact d7 q hq (Or.inr e)
      · exact d8 q hq fun e => h2 (List.mem_cons_of_mem _ e)
