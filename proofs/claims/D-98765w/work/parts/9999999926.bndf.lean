set_option maxRecDepth 100000
/-! few crossings suffice to come anywhere -/
/-- a shortest row to a state visits no state twice -/
theorem fShort {φ : Nat → Nat → Nat} {σ τ : ySt} {l0 : List Nat} (r0 : yRun φ σ l0 = some τ) : ∃ l, yRun φ σ l = some τ ∧ ∀ i j, i < j → j ≤ l.length → bAt φ σ l i ≠ bAt φ σ l j := by
  obtain ⟨n, ⟨l, r, e⟩, min⟩ := yLeastN (Q := fun n => ∃ l, yRun φ σ l = some τ ∧ l.length = n) l0.length ⟨l0, r0, rfl⟩
  refine ⟨l, r, fun i j hij hj h => ?_⟩
  obtain ⟨ρ, r1, r2⟩ := yRun_take r j
  rw [bAt_run r j] at r1
  cases r1
  have := min (l.take i ++ l.drop j).length ⟨l.take i ++ l.drop j, by rw [yRun_append, bAt_run r i, h]; exact r2, rfl⟩
  rw [List.length_append, List.length_take, List.length_drop] at this
  omega
/-- loafs are not doubled -/
theorem fLoaf {φ : Nat → Nat → Nat} (O : yOk φ) {σ τ : ySt} (S : ySok φ σ) {l : List Nat} (r : yRun φ σ l = some τ) (ne : ∀ i j, i < j → j ≤ l.length → bAt φ σ l i ≠ bAt φ σ l j) {t : Nat} (ht : t + 1 < l.length) (h : ac l t = 200) : ac l (t + 1) ≠ 200 := by
  intro g2
  obtain ⟨_, f2⟩ := bAt_step r (show t < l.length by omega)
  obtain ⟨_, f4⟩ := bAt_step r ht
  rw [← ac_get (show t < l.length by omega), h] at f2
  rw [← ac_get ht, g2, f2, bLoaf2 (bAt_ok O S r t)] at f4
  exact ne t (t + 1 + 1) (by omega) (by omega) f4.symm
theorem fLo {l : List Nat} (h : ∀ t, t + 1 < l.length → ac l t = 200 → ac l (t + 1) ≠ 200) : lo l ≤ cr l + 1 := by
  rw [(nCrLo l).1, (nCrLo l).2]
  have : ∀ n, n ≤ l.length → yCn (fun t => decide (ac l t = 200)) n ≤ yCn (fun t => decide (ac l t ≠ 200)) n + (if n ≠ 0 ∧ ac l (n - 1) = 200 then 1 else 0) := by
    intro n
    induction n with
    | zero => intro _; exact Nat.zero_le _
    | succ n ih =>
      intro hn
      have i0 := ih (by omega)
      show yCn _ n + (if decide (ac l n = 200) = true then 1 else 0) ≤ yCn _ n + (if decide (ac l n ≠ 200) = true then 1 else 0) + (if n + 1 ≠ 0 ∧ ac l (n + 1 - 1) = 200 then 1 else 0)
      rw [show n + 1 - 1 = n by omega]
      by_cases g : ac l n = 200
      · have : ¬ (n ≠ 0 ∧ ac l (n - 1) = 200) := fun z => by
          have := h (n - 1) (by omega) z.2
          rw [show n - 1 + 1 = n by omega] at this
          exact this g
        rw [if_neg this] at i0
        rw [if_pos (by simp [g]), if_neg (by simp [g]), if_pos ⟨by omega, g⟩]
        omega
      · have : (if n ≠ 0 ∧ ac l (n - 1) = 200 then 1 else 0) ≤ 1 := by split <;> omega
        rw [if_neg (by simp [g]), if_pos (by simp [g]), if_neg (by simp [g])]
        omega
  have := this l.length (Nat.le_refl _)
  have b : (if l.length ≠ 0 ∧ ac l (l.length - 1) = 200 then 1 else 0) ≤ 1 := by split <;> omega
  omega
theorem fCost {φ : Nat → Nat → Nat} (O : yOk φ) {σ τ : ySt} {l : List Nat} (r : yRun φ σ l = some τ) (h : cr l ≤ 9980) (h2 : lo l ≤ cr l + 1) : yCs φ 1000 1 l ≤ 999000000 := by
  rw [yCs_two φ 1000 (by omega)]
  have p : ∀ (l : List Nat) (σ τ : ySt), yRun φ σ l = some τ → yPr φ 1 l ≤ 100 * cr l := by
    intro l
    induction l with
    | nil => intro _ _ _; exact Nat.le_refl _
    | cons a l ih =>
      intro σ τ r
      replace r : (if yEb φ σ a = true then yRun φ (yDo φ σ a) l else none) = some τ := r
      by_cases g : yEb φ σ a = true
      · rw [if_pos g] at r
        have i0 := ih _ _ r
        show yPr1 φ 1 a + yPr φ 1 l ≤ 100 * ((if a = 200 then 0 else 1) + cr l)
        have : yPr1 φ 1 a ≤ 100 * (if a = 200 then 0 else 1) := by
          unfold yPr1
          by_cases ha : a = 200
          · simp [ha]
          · obtain ⟨_, h2, _, h4⟩ := (yEb_act g).1.resolve_left ha
            have := yRisk_le O h4 h2
            simp [ha]
            exact this
        omega
      · rw [if_neg g] at r; cases r
  have := p l σ τ r
  have := ySc_crlo O 1 l
  omega
/-- comparing: whatever can be come to can be come to cheaply enough -/
theorem fCmp {φ : Nat → Nat → Nat} (O : yOk φ) (hc : φ 0 7 ≠ 0) {σ : ySt} (S : ySok φ σ) : yFew φ 1 σ := by
  intro τ c w
  obtain ⟨l0, r0, _⟩ := w
  obtain ⟨l, r, ne⟩ := fShort r0
  have p6 := O.persons
  refine ⟨yCs φ 1000 1 l, ⟨l, r, rfl⟩, fCost O r ?_ (fLo fun t ht h => fLoaf O S r ne ht h)⟩
  have at' : ∀ t, t < l.length → ac l t ≠ 200 → kAt φ (ac l t % 10) (bAt φ σ l (t + 1)) := by
    intro t ht h
    obtain ⟨e1, e2⟩ := bAt_step r ht
    rw [← ac_get ht] at e1 e2
    rw [e2]
    exact kAt_of hc (bAt_ok O S r t) e1 h
  rw [(nCrLo l).1]
  refine Nat.le_trans (yPig2 (m := 64 * 6 * 16) (g := fun t => ((bAt φ σ l (t + 1)).ov * 6 + ((bAt φ σ l (t + 1)).z0 - 1)) * 16 + (bAt φ σ l (t + 1)).mk) (fun t ht h => ?_) (fun t t' htt ht' h h' e => ?_)) (by decide)
  · have a1 := at' t ht (of_decide_eq_true h)
    have S1 := bAt_ok O S r (t + 1)
    have := yOv64 O S1
    have := S1.mk1
    have := a1.2.1
    have := a1.1.1
    omega
  · have a1 := at' t (by omega) (of_decide_eq_true h)
    have a2 := at' t' ht' (of_decide_eq_true h')
    have S1 := bAt_ok O S r (t + 1)
    have S2 := bAt_ok O S r (t' + 1)
    have m1 := S1.mk1
    have m2 := S2.mk1
    have z1 := a1.2.1
    have z2 := a2.2.1
    have n1 := a1.1.1
    have n2 := a2.1.1
    have eov : (bAt φ σ l (t + 1)).ov = (bAt φ σ l (t' + 1)).ov := by omega
    have ez : ac l t % 10 = ac l t' % 10 := by omega
    have em : (bAt φ σ l (t + 1)).mk = (bAt φ σ l (t' + 1)).mk := by omega
    refine ne (t + 1) (t' + 1) (by omega) ht' ?_
    show ((_, _, _, _, _) : ySt) = (_, _, _, _, _)
    refine Prod.ext eov (Prod.ext ?_ (Prod.ext ?_ (Prod.ext ?_ em)))
    · show (bAt φ σ l (t + 1)).sd = (bAt φ σ l (t' + 1)).sd
      rw [a1.2.2.2.1, a2.2.2.2.1, eov, ez]
    · show (bAt φ σ l (t + 1)).z0 = (bAt φ σ l (t' + 1)).z0
      rw [z1, z2, ez]
    · show (bAt φ σ l (t + 1)).z1 = (bAt φ σ l (t' + 1)).z1
      rw [a1.2.2.1, a2.2.2.1, ez]
