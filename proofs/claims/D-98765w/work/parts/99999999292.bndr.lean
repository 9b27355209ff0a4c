set_option maxRecDepth 100000
/-! comparing: a post without looks that is nowhere dearer and reaches as far makes the other one needless -/
def rSw (k a : Nat) : Nat := if a = 200 then 200 else 100 * k + a % 100
theorem rSw_parts {k a : Nat} (hk : k < 2) (ha : a ≠ 200) (h : a < 200) : rSw k a < 200 ∧ rSw k a ≠ 200 ∧ rSw k a % 10 = a % 10 ∧ rSw k a / 100 = k ∧ rSw k a % 100 / 10 = a % 100 / 10 ∧ cCh (rSw k a) = cCh a := by
  have e : rSw k a = 100 * k + a % 100 := if_neg ha
  have n : rSw k a ≠ 200 := by rw [e]; omega
  refine ⟨by rw [e]; omega, n, by rw [e]; omega, by rw [e]; omega, by rw [e]; omega, ?_⟩
  unfold cCh
  rw [if_neg n, if_neg ha, e]; omega
theorem rSw_run {φ : Nat → Nat → Nat} (O : yOk φ) (hc : φ 0 7 ≠ 0) {k : Nat} (hk : k < φ 0 3) (h0 : φ 5 k = 0) (hs : ∀ k', k' < φ 0 3 → φ 3 k ≤ φ 3 k') (hn : ∀ k', k' < φ 0 3 → φ 4 k' ≤ φ 4 k) (b : Nat) :
    ∀ (l : List Nat) (σ τ : ySt), uZ φ σ → yRun φ σ l = some τ → yRun φ σ (l.map (rSw k)) = some τ ∧ yPr φ b (l.map (rSw k)) ≤ yPr φ b l ∧ (∀ q, cCnt q (l.map (rSw k)) = cCnt q l) ∧ ∀ a, a ∈ l.map (rSw k) → a ≠ 200 → a / 100 = k := by
  have p2 := O.posts
  intro l
  induction l with
  | nil => intro σ τ _ r; exact ⟨r, Nat.le_refl _, (fun q => rfl), (fun a h => nomatch h)⟩
  | cons a l ih =>
    intro σ τ U r
    replace r : (if yEb φ σ a = true then yRun φ (yDo φ σ a) l else none) = some τ := r
    by_cases g : yEb φ σ a = true
    · rw [if_pos g] at r
      obtain ⟨i1, i2, i3, i4⟩ := ih _ τ (uZ_do U a) r
      by_cases ha : a = 200
      · subst ha
        have e : rSw k 200 = 200 := rfl
        refine ⟨?_, ?_, fun q => ?_, fun x hx h => ?_⟩
        · show (if yEb φ σ (rSw k 200) = true then yRun φ (yDo φ σ (rSw k 200)) (l.map (rSw k)) else none) = _
          rw [e, if_pos g]; exact i1
        · show yPr1 φ b (rSw k 200) + yPr φ b (l.map (rSw k)) ≤ yPr1 φ b 200 + yPr φ b l
          rw [e]; omega
        · show (if cCh (rSw k 200) = q + 1 then 1 else 0) + cCnt q (l.map (rSw k)) = _
          rw [e, i3 q]; rfl
        · rcases List.mem_cons.mp hx with z | z
          · rw [z, e] at h; exact absurd rfl h
          · exact i4 x z h
      · obtain ⟨c1, c2, c3, c5, c4, c6, c7⟩ := bCross g ha
        obtain ⟨q1, q2, q3, q4, q5, q6⟩ := rSw_parts (k := k) (by omega) ha c1
        have act := (yEb_act g).1.resolve_left ha
        have z01 := U hc
        have zk : σ.z k = σ.z (a / 100) := by unfold ySt.z; split <;> split <;> simp_all
        have e : yEb φ σ (rSw k a) = true := by
          refine cEb_of q1 (by rw [q4]; exact hk) (by rw [q3]; exact c3.1) (by rw [q5]; exact act.2.2.1) (by rw [q3]; exact c5) (by rw [q3, c3.2]; decide) (fun h => by rw [q5] at h ⊢; exact c4 h) ?_ (by rw [q4, h0]; rfl)
          rw [q3, q4, zk]
          have := hn _ c2
          unfold yBeh at c6 ⊢
          simp only [Bool.or_eq_true, Bool.and_eq_true, decide_eq_true_eq] at c6 ⊢
          rcases c6 with (h | h) | h
          · exact Or.inl (Or.inl h)
          · exact Or.inl (Or.inr h)
          · exact Or.inr ⟨by omega, by omega⟩
        have d : yDo φ σ (rSw k a) = yDo φ σ a := by
          rw [bDo q2, bDo ha, q3, q5]
          have h1 : (rSw k a / 100 = 0 ∨ φ 0 7 ≠ 0) := Or.inr hc
          have h2 : (rSw k a / 100 = 1 ∨ φ 0 7 ≠ 0) := Or.inr hc
          have h3 : (a / 100 = 0 ∨ φ 0 7 ≠ 0) := Or.inr hc
          have h4 : (a / 100 = 1 ∨ φ 0 7 ≠ 0) := Or.inr hc
          rw [if_pos h1, if_pos h2, if_pos h3, if_pos h4]
        refine ⟨?_, ?_, fun q => ?_, fun x hx h => ?_⟩
        · show (if yEb φ σ (rSw k a) = true then yRun φ (yDo φ σ (rSw k a)) (l.map (rSw k)) else none) = _
          rw [if_pos e, d]; exact i1
        · show yPr1 φ b (rSw k a) + yPr φ b (l.map (rSw k)) ≤ yPr1 φ b a + yPr φ b l
          have : yPr1 φ b (rSw k a) ≤ yPr1 φ b a := by
            unfold yPr1
            rw [if_neg q2, if_neg ha, q3, q4]
            have : yRisk φ (a % 10) k ≤ yRisk φ (a % 10) (a / 100) := by
              unfold yRisk
              exact Nat.div_le_div_right (Nat.mul_le_mul_left _ (hs _ c2))
            repeat' split
            all_goals omega
          omega
        · show (if cCh (rSw k a) = q + 1 then 1 else 0) + cCnt q (l.map (rSw k)) = (if cCh a = q + 1 then 1 else 0) + cCnt q l
          rw [q6, i3 q]
        · rcases List.mem_cons.mp hx with z | z
          · rw [z]; exact q4
          · exact i4 x z h
    · rw [if_neg g] at r; cases r
/-- .. and the bound holds -/
theorem bR_bd {φ : Nat → Nat → Nat} (O : yOk φ) (hl : 0 < φ 0 0) (hc : φ 0 7 ≠ 0) {k : Nat} (hk : k < φ 0 3) (h0 : φ 5 k = 0) (hs : ∀ k', k' < φ 0 3 → φ 3 k ≤ φ 3 k') (hn : ∀ k', k' < φ 0 3 → φ 4 k' ≤ φ 4 k) {l : List Nat} {σ : ySt} (r : yRun φ yFirst l = some σ) {b : Nat} (hb : b < 3) : yBd1 φ b σ := by
  intro m τ rm em least
  have S := bRun_ok O _ _ _ (yFirst_ok φ) r
  have U := uZ_run _ _ _ (uZ_first φ) r
  have hz := uTk_run O _ _ _ (fun w _ => Or.inl (by unfold ySt.z; split <;> rfl)) r
  obtain ⟨m', W', len, sc, C⟩ := cDrop_least O S (⟨⟨τ, rm, em⟩, least⟩ : bLe φ b σ m)
  obtain ⟨⟨τ', r', E'⟩, least'⟩ := W'
  obtain ⟨s1, s2, s3, s4⟩ := rSw_run O hc hk h0 hs hn b m' σ τ' U r'
  obtain ⟨V, T, r1, e1, p1, l1, c1⟩ := uShortL O b S U hz (cr (m'.map (rSw k))) _ τ' (Nat.le_refl _) s1 (fun q => by rw [s3 q]; exact C q) (fun a ha h => by rw [s4 a ha h]; exact h0)
  have le := least' V T r1 (by unfold yIsE; rw [e1]; exact E')
  have sV := ySc_crlo O b V
  have lm := ySc_len hl b m'
  omega
/-- what is owed still -/
def zHard3 : Prop := ∀ φ, yOk φ → 0 < φ 0 0 → zMix φ → (∃ p, yAd φ p) → (φ 0 7 ≠ 0 → ∀ k, k < φ 0 3 → φ 5 k = 0 → ∃ k', k' < φ 0 3 ∧ (φ 3 k' < φ 3 k ∨ φ 4 k < φ 4 k')) → ∀ l σ, yRun φ yFirst l = some σ → ∀ b, b < 3 → (b = 2 → φ 0 7 = 0) → (b ≠ 1 → ∀ k, k < φ 0 3 → φ 5 k = 0 → ¬ aLk φ k) → yBd1 φ b σ
theorem hard2_of (h : zHard3) : zHard2 := by
  intro φ O hl mix ad l σ r b hb h2 lk
  by_cases ok : φ 0 7 ≠ 0 → ∀ k, k < φ 0 3 → φ 5 k = 0 → ∃ k', k' < φ 0 3 ∧ (φ 3 k' < φ 3 k ∨ φ 4 k < φ 4 k')
  · exact h φ O hl mix ad ok l σ r b hb h2 lk
  · have hc : φ 0 7 ≠ 0 := fun e => ok fun z => absurd e z
    have : ∃ k, k < φ 0 3 ∧ φ 5 k = 0 ∧ ∀ k', k' < φ 0 3 → φ 3 k ≤ φ 3 k' ∧ φ 4 k' ≤ φ 4 k := by
      refine Classical.byContradiction fun n => ok fun _ k hk h0 => Classical.byContradiction fun n2 => n ⟨k, hk, h0, fun k' hk' => ?_⟩
      refine Classical.byContradiction fun n3 => n2 ⟨k', hk', ?_⟩
      omega
    obtain ⟨k, hk, h0, hh⟩ := this
    exact bR_bd O hl hc hk h0 (fun k' hk' => (hh k' hk').1) (fun k' hk' => (hh k' hk').2) r hb
