set_option maxRecDepth 100000
/-! part 99979: walks by stamps in a family -/
def yMz (w : Nat → Nat) : Nat → Nat
  | 0 => 1
  | i + 1 => yMk (yMz w i) (w i % 10)
theorem yMz_ok {w : Nat → Nat} (hw : ∀ i, w i % 10 < 2) : ∀ i, 0 < yMz w i ∧ yMz w i < 16
  | 0 => ⟨Nat.one_pos, (by decide : 1 < 16)⟩
  | i + 1 => ⟨yMk_pos _ (yMz_ok hw i).2 _ (hw i) (yMz_ok hw i).1, yMk_lt _ (yMz_ok hw i).2 _ (hw i)⟩
/-- the state of a scene at a stamp -/
def yBz (w : Nat → Nat) (i κ : Nat) : ySt := ySt.of (κ / 49) (w i % 10) (κ / 7 % 7) (κ % 7) (yMz w i)
def yKzc (σ : ySt) : Nat := (σ.ov * 7 + σ.z0) * 7 + σ.z1
def yVz (φ : Nat → Nat → Nat) (κ : Nat) : Prop := κ / 49 < 2 ^ φ 0 2 ∧ κ / 7 % 7 ≤ φ 0 2 ∧ κ % 7 ≤ φ 0 2
def yVzD (φ : Nat → Nat → Nat) (κ : Nat) : Bool := decide (κ / 49 < 2 ^ φ 0 2) && (decide (κ / 7 % 7 ≤ φ 0 2) && decide (κ % 7 ≤ φ 0 2))
theorem yVzD_iff {φ : Nat → Nat → Nat} {κ : Nat} : yVzD φ κ = true ↔ yVz φ κ := by
  unfold yVzD yVz
  simp only [Bool.and_eq_true, decide_eq_true_eq]
theorem yVz_lt {φ : Nat → Nat → Nat} (O : yOk φ) {κ : Nat} (h : yVz φ κ) : κ < 3136 := by
  have h6 : 2 ^ φ 0 2 ≤ 2 ^ 6 := Nat.pow_le_pow_right (by decide) O.persons
  have := h.1
  omega
theorem yBz_ok {φ : Nat → Nat → Nat} {w : Nat → Nat} (hw : ∀ i, w i % 10 < 2) {κ : Nat} (h : yVz φ κ) (i : Nat) : ySok φ (yBz w i κ) := ⟨h.1, hw i, h.2.1, h.2.2, (yMz_ok hw i).1, (yMz_ok hw i).2⟩
theorem yKzc_dec {σ : ySt} (h0 : σ.z0 ≤ 6) (h1 : σ.z1 ≤ 6) : yKzc σ / 49 = σ.ov ∧ yKzc σ / 7 % 7 = σ.z0 ∧ yKzc σ % 7 = σ.z1 := by
  unfold yKzc
  refine ⟨?_, ?_, ?_⟩ <;> omega
theorem yKzc_v {φ : Nat → Nat → Nat} (O : yOk φ) {σ : ySt} (S : ySok φ σ) : yVz φ (yKzc σ) := by
  have h6 := O.persons
  have z0 := S.z0
  have z1 := S.z1
  obtain ⟨e1, e2, e3⟩ := yKzc_dec (σ := σ) (by omega) (by omega)
  refine ⟨by rw [e1]; exact S.ov, by rw [e2]; exact S.z0, by rw [e3]; exact S.z1⟩
def yAz (w : Nat → Nat) (i e : Nat) : Nat := 100 * (w i / 10) + e
/-- an act that can be at a stamp; where it leads; what it dares -/
def yOz (φ : Nat → Nat → Nat) (w : Nat → Nat) (i κ e : Nat) : Bool := yVzD φ κ && (decide (e < 100) && (yGd φ (yAz w i e) && yCan φ (yBz w i κ) (yAz w i e)))
def yNz (φ : Nat → Nat → Nat) (w : Nat → Nat) (i κ e : Nat) : Nat := yKzc (yDo φ (yBz w i κ) (yAz w i e))
def yRz (φ : Nat → Nat → Nat) (w : Nat → Nat) (i e : Nat) : Nat := yRisk φ (e % 10) (w i / 10)
theorem yOz_of {φ : Nat → Nat → Nat} {w : Nat → Nat} {i κ e : Nat} (h : yOz φ w i κ e = true) : yVz φ κ ∧ e < 100 ∧ yGd φ (yAz w i e) = true ∧ yCan φ (yBz w i κ) (yAz w i e) = true := by
  unfold yOz at h
  rw [Bool.and_eq_true, Bool.and_eq_true, Bool.and_eq_true, decide_eq_true_eq] at h
  exact ⟨yVzD_iff.mp h.1, h.2.1, h.2.2.1, h.2.2.2⟩
theorem yAz_d {w : Nat → Nat} {i e : Nat} (h : e < 100) : yAz w i e / 100 = w i / 10 ∧ yAz w i e % 100 = e ∧ yAz w i e % 10 = e % 10 ∧ yAz w i e % 100 / 10 = e / 10 := by
  unfold yAz
  refine ⟨?_, ?_, ?_, ?_⟩ <;> omega
theorem yOz_act {φ : Nat → Nat → Nat} {w : Nat → Nat} (O : yOk φ) {i κ e : Nat} (h : yOz φ w i κ e = true) : yAct φ (yAz w i e) ∧ yAz w i e < 200 ∧ e % 10 < φ 0 2 ∧ e / 10 ≤ φ 0 2 ∧ w i / 10 < φ 0 3 ∧ e / 10 ≠ e % 10 + 1 := by
  obtain ⟨v, he, g, c⟩ := yOz_of h
  obtain ⟨d1, d2, d3, d4⟩ := yAz_d (w := w) (i := i) he
  have h2 := O.posts
  have g' := g
  unfold yGd at g
  rw [Bool.and_eq_true, Bool.and_eq_true, decide_eq_true_eq, decide_eq_true_eq, decide_eq_true_eq, d1, d4, d3] at g
  have lt : yAz w i e < 200 := by unfold yAz; omega
  have s := (yCan_side c (by omega)).2
  rw [d3, d4] at s
  exact ⟨yGd_act lt g', lt, g.2.2, g.2.1, g.1, fun q => by
    have := s (by omega)
    omega⟩
theorem yNz_v {φ : Nat → Nat → Nat} {w : Nat → Nat} (O : yOk φ) (hw : ∀ i, w i % 10 < 2) {i κ e : Nat} (h : yOz φ w i κ e = true) : yVz φ (yNz φ w i κ e) := yKzc_v O (yDo_ok O (yBz_ok hw (yOz_of h).1 i) (yOz_act O h).1)
/-- forward: the risks of all walks to a scene -/
def yFz (φ : Nat → Nat → Nat) (w : Nat → Nat) : Nat → Nat → List Nat
  | 0 => fun κ => if κ = 0 then [0] else []
  | i + 1 => ySt1 (yOz φ w i) (yNz φ w i) (fun _ => yRz φ w i) (yFz φ w i) 3136
/-- the twin's number of a scene: with one post it keeps no last of the other -/
def yTz (φ : Nat → Nat → Nat) (κ : Nat) : Nat := if φ 0 3 ≤ 1 then κ - κ % 7 else κ
/-- what is to come from a scene: who is over at last, the risk till then; r stamps are left of n -/
def yWz (φ : Nat → Nat → Nat) (w : Nat → Nat) (n : Nat) : Nat → Nat → List (Nat × Nat)
  | 0, κ => [(κ / 49, 0)]
  | r + 1, κ => yQm (φ 0 2) fun p => yQm (φ 0 2 + 1) fun c => if yOz φ w (n - (r + 1)) κ (10 * c + p) = true then (yWz φ w n r (yTz φ (yNz φ w (n - (r + 1)) κ (10 * c + p)))).map fun x => (x.1, yRz φ w (n - (r + 1)) (10 * c + p) + x.2) else []
theorem yTz_d (φ : Nat → Nat → Nat) (κ : Nat) : yTz φ κ / 49 = κ / 49 ∧ yTz φ κ / 7 % 7 = κ / 7 % 7 ∧ (φ 0 3 ≤ 1 → yTz φ κ % 7 = 0) ∧ (¬ φ 0 3 ≤ 1 → yTz φ κ = κ) := by
  unfold yTz
  by_cases h : φ 0 3 ≤ 1
  · rw [if_pos h]
    refine ⟨?_, ?_, fun _ => ?_, fun q => absurd h q⟩ <;> omega
  · rw [if_neg h]
    exact ⟨rfl, rfl, fun q => absurd q h, fun _ => rfl⟩
theorem yTz_v {φ : Nat → Nat → Nat} {κ : Nat} (h : yVz φ κ) : yVz φ (yTz φ κ) := by
  obtain ⟨e1, e2, e3, e4⟩ := yTz_d φ κ
  by_cases g : φ 0 3 ≤ 1
  · exact ⟨by rw [e1]; exact h.1, by rw [e2]; exact h.2.1, by rw [e3 g]; exact Nat.zero_le _⟩
  · rw [e4 g]; exact h
theorem yTz_v2 {φ : Nat → Nat → Nat} (O : yOk φ) {w : Nat → Nat} (hw : ∀ i, w i % 10 < 2) {κ i e : Nat} (hv : yVz φ κ) : yOz φ w i (yTz φ κ) e = yOz φ w i κ e ∧ (yOz φ w i κ e = true → yTz φ (yNz φ w i (yTz φ κ) e) = yTz φ (yNz φ w i κ e)) := by
  obtain ⟨e1, e2, e3, e4⟩ := yTz_d φ κ
  by_cases g : φ 0 3 ≤ 1
  · have z : ∀ k, k < φ 0 3 → (yBz w i (yTz φ κ)).z k = (yBz w i κ).z k := fun k hk => by
      have : k = 0 := by omega
      subst this
      show yTz φ κ / 7 % 7 = κ / 7 % 7
      exact e2
    have ov : (yBz w i (yTz φ κ)).ov = (yBz w i κ).ov := e1
    have sd : (yBz w i (yTz φ κ)).sd = (yBz w i κ).sd := rfl
    have mk : (yBz w i (yTz φ κ)).mk = (yBz w i κ).mk := rfl
    have v1 := yVzD_iff.mpr hv
    have v2 := yVzD_iff.mpr (yTz_v hv)
    have can : yGd φ (yAz w i e) = true → yCan φ (yBz w i (yTz φ κ)) (yAz w i e) = yCan φ (yBz w i κ) (yAz w i e) := fun q => by
      unfold yGd at q
      rw [Bool.and_eq_true, decide_eq_true_eq] at q
      unfold yCan yWhy
      rw [ov, sd, mk, z _ q.1]
    have ok : yOz φ w i (yTz φ κ) e = yOz φ w i κ e := by
      unfold yOz
      rw [v1, v2]
      by_cases q : yGd φ (yAz w i e) = true
      · rw [can q]
      · rw [Bool.not_eq_true] at q
        rw [q]
        rfl
    refine ⟨ok, fun h => ?_⟩
    have h' := ok.trans h
    have a1 := (yOz_act O h).1
    have h6 := O.persons
    have S1 := yDo_ok O (yBz_ok hw hv i) a1
    have S2 := yDo_ok O (yBz_ok hw (yTz_v hv) i) a1
    have ne : yAz w i e ≠ 200 := by have := (yOz_act O h).2.1; omega
    have k0 : yAz w i e / 100 = 0 := by
      have := (yOz_act O h).2.2.2.2.1
      have := (yAz_d (w := w) (i := i) (yOz_of h).2.1).1
      omega
    have zz0 : (yDo φ (yBz w i (yTz φ κ)) (yAz w i e)).z0 = (yDo φ (yBz w i κ) (yAz w i e)).z0 := by
      rw [yDo_cr φ _ ne, yDo_cr φ _ ne, k0]
      rfl
    have oo : (yDo φ (yBz w i (yTz φ κ)) (yAz w i e)).ov = (yDo φ (yBz w i κ) (yAz w i e)).ov := by
      rw [yDo_cr φ _ ne, yDo_cr φ _ ne]
      show (yTz φ κ / 49) ^^^ _ = (κ / 49) ^^^ _
      rw [e1]
    have f : ∀ σ τ : ySt, σ.ov = τ.ov → σ.z0 = τ.z0 → σ.z1 ≤ 6 → τ.z1 ≤ 6 → yTz φ (yKzc σ) = yTz φ (yKzc τ) := fun σ τ q1 q2 q3 q4 => by
      unfold yTz yKzc
      rw [if_pos g, if_pos g, q1, q2]
      omega
    have z1a := S1.z1
    have z1b := S2.z1
    exact f _ _ oo zz0 (by omega) (by omega)
  · rw [e4 g]
    exact ⟨rfl, fun _ => rfl⟩
/-- from a component's scene: what is to come, by its own acts in their order -/
theorem yWz_step {φ : Nat → Nat → Nat} (O : yOk φ) {w : Nat → Nat} (hw : ∀ i, w i % 10 < 2) (n r : Nat) {κ : Nat} (hv : yVz φ κ) : (yQm 100 fun e => if yOz φ w (n - (r + 1)) κ e = true then (yWz φ w n r (yTz φ (yNz φ w (n - (r + 1)) κ e))).map fun x => (x.1, yRz φ w (n - (r + 1)) e + x.2) else []).Perm (yWz φ w n (r + 1) (yTz φ κ)) := by
  refine (yQm_100 O.persons _ fun e he => ?_).trans ?_
  · by_cases q : yOz φ w (n - (r + 1)) κ e = true
    · exact absurd ⟨(yOz_act O q).2.2.1, (yOz_act O q).2.2.2.1⟩ he
    · rw [if_neg q]
  · show List.Perm _ (yQm (φ 0 2) fun p => yQm (φ 0 2 + 1) fun c => if yOz φ w (n - (r + 1)) (yTz φ κ) (10 * c + p) = true then (yWz φ w n r (yTz φ (yNz φ w (n - (r + 1)) (yTz φ κ) (10 * c + p)))).map fun x => (x.1, yRz φ w (n - (r + 1)) (10 * c + p) + x.2) else [])
    refine yQm_perm fun p _ => yQm_perm fun c _ => ?_
    obtain ⟨t1, t2⟩ := yTz_v2 O hw (i := n - (r + 1)) (e := 10 * c + p) hv
    rw [t1]
    by_cases q : yOz φ w (n - (r + 1)) κ (10 * c + p) = true
    · rw [if_pos q, if_pos q, t2 q]
    · rw [if_neg q, if_neg q]
theorem yFz_v {φ : Nat → Nat → Nat} (O : yOk φ) {w : Nat → Nat} (hw : ∀ i, w i % 10 < 2) : ∀ i κ, yFz φ w i κ ≠ [] → yVz φ κ := by
  have ap : ∀ (f : Nat → List Nat) κ0 l, yVz φ κ0 → (∀ κ, f κ ≠ [] → yVz φ κ) → ∀ κ, yAp f κ0 l κ ≠ [] → yVz φ κ := fun f κ0 l h0 h κ g => by
    unfold yAp at g
    by_cases q : κ = κ0
    · rw [q]; exact h0
    · rw [if_neg q] at g; exact h κ g
  intro i
  cases i with
  | zero =>
    intro κ h
    by_cases q : κ = 0
    · rw [q]; exact ⟨Nat.pow_pos (by decide), Nat.zero_le _, Nat.zero_le _⟩
    · exact absurd (if_neg q) h
  | succ i =>
    have es : ∀ s L (f : Nat → List Nat), (∀ κ, f κ ≠ [] → yVz φ κ) → ∀ m κ, yEs (yOz φ w i s) (yNz φ w i s) (yRz φ w i) L m f κ ≠ [] → yVz φ κ := fun s L f h m => by
      induction m with
      | zero => exact h
      | succ m ih =>
        intro κ g
        have g' : (if yOz φ w i s m = true then yAp (yEs (yOz φ w i s) (yNz φ w i s) (yRz φ w i) L m f) (yNz φ w i s m) (L.map (· + yRz φ w i m)) else yEs (yOz φ w i s) (yNz φ w i s) (yRz φ w i) L m f) κ ≠ [] := g
        by_cases q : yOz φ w i s m = true
        · rw [if_pos q] at g'
          exact ap _ _ _ (yNz_v O hw q) ih κ g'
        · rw [if_neg q] at g'
          exact ih κ g'
    have st : ∀ m κ, ySt1 (yOz φ w i) (yNz φ w i) (fun _ => yRz φ w i) (yFz φ w i) m κ ≠ [] → yVz φ κ := fun m => by
      induction m with
      | zero => intro κ h; exact absurd rfl h
      | succ m ih => exact es m (yFz φ w i m) _ ih 100
    exact st 3136
/-- the walks to a scene with what is to come from it: at every stamp the same but for their order -/
theorem yZz {φ : Nat → Nat → Nat} (O : yOk φ) {w : Nat → Nat} (hw : ∀ i, w i % 10 < 2) (n : Nat) : ∀ i, i ≤ n → (yTt 3136 (yFz φ w i) (fun κ => yWz φ w n (n - i) (yTz φ κ))).Perm (yWz φ w n n 0)
  | 0, _ => by
    have e : yTt 3136 (yFz φ w 0) (fun κ => yWz φ w n (n - 0) (yTz φ κ)) = yWz φ w n n 0 := by
      unfold yTt
      have s : yQm (1 + 3135) (fun κ => yPr2 (yFz φ w 0 κ) (yWz φ w n (n - 0) (yTz φ κ))) = _ := yQm_split 1 3135 _
      rw [s, yQm_s, yQm_0, List.nil_append]
      have z : yQm 3135 (fun k => yPr2 (yFz φ w 0 (1 + k)) (yWz φ w n (n - 0) (yTz φ (1 + k)))) = [] := yQm_nil fun k _ => by
        have : yFz φ w 0 (1 + k) = [] := if_neg (by omega)
        rw [this, yPr2_nil]
      have t0 : yTz φ 0 = 0 := by unfold yTz; split <;> rfl
      rw [z, List.append_nil, t0]
      show yPr2 [0] _ = _
      rw [yPr2_0]
      rfl
    rw [e]
  | i + 1, h => by
    have ih := yZz O hw n i (by omega)
    refine List.Perm.trans ?_ ih
    have st : (yTt 3136 (yFz φ w (i + 1)) (fun κ => yWz φ w n (n - (i + 1)) (yTz φ κ))).Perm _ := ySt1_tt (N := 3136) (ok := yOz φ w i) (nx := yNz φ w i) (ri := fun _ => yRz φ w i) (fun s e q => yVz_lt O (yNz_v O hw q)) (yFz φ w i) (fun κ => yWz φ w n (n - (i + 1)) (yTz φ κ)) 3136
    refine st.trans ?_
    refine yQm_perm fun s _ => ?_
    by_cases q : yFz φ w i s = []
    · rw [q, yPr2_nil, yPr2_nil]
    · refine yPr2_perm _ ?_
      have := yWz_step O hw n (n - (i + 1)) (yFz_v O hw i s q)
      rw [show n - (n - (i + 1) + 1) = i by omega, show n - (i + 1) + 1 = n - i by omega] at this
      exact this
/-- at the last stamp: all walks, by who is over -/
theorem yZz_end {φ : Nat → Nat → Nat} (O : yOk φ) {w : Nat → Nat} (hw : ∀ i, w i % 10 < 2) (n : Nat) : (yQm 3136 fun κ => (yFz φ w n κ).map fun r => (κ / 49, r)).Perm (yWz φ w n n 0) := by
  refine List.Perm.trans ?_ (yZz O hw n n (Nat.le_refl n))
  unfold yTt
  refine yQm_perm fun κ _ => ?_
  rw [Nat.sub_self]
  show List.Perm _ (yPr2 (yFz φ w n κ) [(yTz φ κ / 49, 0)])
  rw [(yTz_d φ κ).1]
  have : ∀ l : List Nat, (l.map fun r => (κ / 49, r)) = yPr2 l [(κ / 49, 0)] := fun l => by
    unfold yPr2
    induction l with
    | nil => rfl
    | cons a l ih => rw [List.map_cons, List.flatMap_cons, ih]; rfl
  rw [this]
