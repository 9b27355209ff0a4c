set_option maxRecDepth 100000
/-! part 99984: goesThrough, whole -/
theorem yEs_ne {ok : Nat → Bool} {nx ri : Nat → Nat} {L : List Nat} {f : Nat → List Nat} {κ : Nat} (h : f κ ≠ []) : ∀ m, yEs ok nx ri L m f κ ≠ []
  | 0 => h
  | m + 1 => by
    have ih := yEs_ne (ok := ok) (nx := nx) (ri := ri) (L := L) h m
    show (if ok m = true then yAp (yEs ok nx ri L m f) (nx m) (L.map (· + ri m)) else yEs ok nx ri L m f) κ ≠ []
    by_cases q : ok m = true
    · rw [if_pos q]
      unfold yAp
      by_cases g : κ = nx m
      · rw [if_pos g]; exact fun z => ih (List.append_eq_nil_iff.mp z).1
      · rw [if_neg g]; exact ih
    · rw [if_neg q]; exact ih
theorem yEs_ne2 {ok : Nat → Bool} {nx ri : Nat → Nat} {L : List Nat} {f : Nat → List Nat} (hL : L ≠ []) {e : Nat} (h : ok e = true) : ∀ m, e < m → yEs ok nx ri L m f (nx e) ≠ []
  | 0 => fun z => absurd z (by omega)
  | m + 1 => fun z => by
    show (if ok m = true then yAp (yEs ok nx ri L m f) (nx m) (L.map (· + ri m)) else yEs ok nx ri L m f) (nx e) ≠ []
    by_cases y : e = m
    · subst y
      rw [if_pos h]
      unfold yAp
      rw [if_pos rfl]
      exact fun z => hL (List.map_eq_nil_iff.mp (List.append_eq_nil_iff.mp z).2)
    · have ih := yEs_ne2 (nx := nx) (ri := ri) (f := f) hL h m (by omega)
      by_cases q : ok m = true
      · rw [if_pos q]
        unfold yAp
        by_cases g : nx e = nx m
        · rw [if_pos g]; exact fun z => ih (List.append_eq_nil_iff.mp z).1
        · rw [if_neg g]; exact ih
      · rw [if_neg q]; exact ih
theorem yFz_ne {φ : Nat → Nat → Nat} (O : yOk φ) {w : Nat → Nat} {i s e : Nat} (h : yFz φ w i s ≠ []) (hs : s < 3136) (ok : yOz φ w i s e = true) : yFz φ w (i + 1) (yNz φ w i s e) ≠ [] := by
  have he := (yOz_of ok).2.1
  have st : ∀ m, s < m → ySt1 (yOz φ w i) (yNz φ w i) (fun _ => yRz φ w i) (yFz φ w i) m (yNz φ w i s e) ≠ [] := fun m => by
    induction m with
    | zero => intro z; omega
    | succ m ih =>
      intro z
      show yEs (yOz φ w i m) (yNz φ w i m) (yRz φ w i) (yFz φ w i m) 100 (ySt1 _ _ _ _ m) _ ≠ []
      by_cases y : s = m
      · subst y
        exact yEs_ne2 h ok 100 he
      · exact yEs_ne (ih (by omega)) 100
  exact st 3136 hs
/-- there are walks to a scene and on from it -/
def yLfz (φ : Nat → Nat → Nat) (w : Nat → Nat) (n j κ : Nat) : Bool := decide (j ≤ n) && (!(yFz φ w j κ).isEmpty && yLdz φ w n (n - j) κ)
def yLaz (φ : Nat → Nat → Nat) (w : Nat → Nat) (n i s : Nat) : Nat → Nat → Bool := fun j κ => if i < j ∨ (j = i ∧ κ < s) then yLfz φ w n j κ else false
theorem yLfz_0 {φ : Nat → Nat → Nat} {w : Nat → Nat} {n j κ : Nat} (h : yFz φ w j κ = []) : yLfz φ w n j κ = false := by
  unfold yLfz
  rw [h]
  show (_ && (!true && _)) = false
  simp
theorem yLfz_1 {φ : Nat → Nat → Nat} {w : Nat → Nat} {n j κ : Nat} (hj : j ≤ n) (h : yFz φ w j κ ≠ []) : yLfz φ w n j κ = yLdz φ w n (n - j) κ := by
  unfold yLfz
  have : (yFz φ w j κ).isEmpty = false := by
    cases q : yFz φ w j κ with
    | nil => exact absurd q h
    | cons a l => rfl
  rw [this, decide_eq_true hj]
  rfl
theorem yc_through_232 {φ : Nat → Nat → Nat} (O : yOk φ) {w : Nat → Nat} {n c0 t i : Nat} {μ : wMem} (F : yFC φ μ) (X : yWn φ w n μ c0 t) (hi : i < n) {N : Nat} (hN : 200 ≤ N) (a1 : Int32) (K : wMem → Option wMem) : ∀ (d M s : Nat) (ν : wMem) (τ : ySt), d < M → s + d = 3136 → yKC μ ν → ν.1 0 28 = nI n → yWy (yGa φ w n) ν → yWl (yLaz φ w n i s) ν → ν.1 18 i = nI (yHs φ w n i s) →
    ∃ ν1 τ1, gX0_goesThrough_232 N c0 t n a1 (nI i) K M (nI s) (yPut ν τ) = K (yPut ν1 τ1) ∧ yWl (yLaz φ w n i 3136) ν1 ∧ ν1.1 18 i = nI (yHs φ w n i 3136) ∧ yKl ν ν1 ∧ ∀ j, j ≠ i → ν1.1 18 j = ν.1 18 j := by
  have n12 := X.2.1
  intro d
  induction d with
  | zero =>
    intro M s ν τ hM hs kc h28 Y L H
    obtain ⟨M, rfl⟩ : ∃ q, M = q + 1 := ⟨M - 1, by omega⟩
    have : s = 3136 := by omega
    subst this
    refine ⟨ν, τ, ?_, L, H, yKl.rfl' _, fun _ _ => rfl⟩
    show gbX0_goesThrough_232 N _ _ _ _ _ _ _ _ _ = _
    unfold gbX0_goesThrough_232
    show (if nI 3136 ≤ nI 3136 then _ else _) = _
    rw [yIf (xI_le (a := 3136) (b := 3136) (by decide) (by decide)), if_pos (Nat.le_refl _)]
  | succ d ih =>
    intro M s ν τ hM hs kc h28 Y L H
    obtain ⟨M, rfl⟩ : ∃ q, M = q + 1 := ⟨M - 1, by omega⟩
    have add1 : nI s + (1 : Int32) = nI (s + 1) := nI_add s 1
    have Ya := (Y i s (by omega) (by omega)).1
    have ga : yGa φ w n i = yFz φ w i := if_pos (by omega)
    rw [ga] at Ya
    have Ya' : (yPut ν τ).2 15 (3136 * i + s) = lN (yFz φ w i s).length := Ya
    have lb := yFz_len O X.2.2.2 (i := i) (by omega) s
    have head : ∀ x y : Option wMem, (if (3136 : Int32) ≤ nI s then x else y) = y := fun x y => by
      show (if nI 3136 ≤ nI s then x else y) = y
      rw [yIf (xI_le (a := 3136) (by decide) (by omega)), if_neg (by omega)]
    by_cases q : yFz φ w i s = []
    · obtain ⟨ν1, τ1, j1, j2⟩ := ih M (s + 1) ν τ (by omega) (by omega) kc h28 Y (L.ext fun j κ _ => by
        unfold yLaz
        by_cases g : j = i ∧ κ = s
        · rw [g.1, g.2, yLfz_0 q]
          split <;> split <;> rfl
        · have : (i < j ∨ j = i ∧ κ < s + 1) ↔ (i < j ∨ j = i ∧ κ < s) := by omega
          simp only [this]) (by
        show _ = nI (if yFz φ w i s = [] then yHs φ w n i s else _)
        rw [if_pos q]
        exact H)
      refine ⟨ν1, τ1, Eq.trans ?_ j1, j2⟩
      show gbX0_goesThrough_232 N _ _ _ _ _ _ _ _ _ = _
      unfold gbX0_goesThrough_232
      rw [head, yc_spot, yBd, yG (xI_in (by omega) (by decide)), xI_cl (by omega), Ya', yIf (lN_le0 lb), if_pos (by rw [q]; rfl), yWL, add1]
    · have hq : (fun e => yOz φ w i s e && yLaz φ w n i s (i + 1) (yNz φ w i s e)) = yQd φ w n i s := by
        funext e
        unfold yQd
        cases ok : yOz φ w i s e with
        | false => rfl
        | true =>
          have r := yFz_ne O q (by omega) ok
          have : yLaz φ w n i s (i + 1) (yNz φ w i s e) = yLfz φ w n (i + 1) (yNz φ w i s e) := if_pos (Or.inl (by omega))
          rw [this, yLfz_1 (by omega) r]
      obtain ⟨ν2, τ2, k1, k2, k3, k4, k5⟩ := yc_comesBack O F X hi (yFz_v O X.2.2.2 i s q) hN a1 (yLaz φ w n i s) (if_neg (by omega)) (yHs φ w n i s) kc h28 L H τ
      rw [hq] at k2 k3
      obtain ⟨ν1, τ1, j1, j2, j3, j4, j5⟩ := ih M (s + 1) ν2 τ2 (by omega) (by omega) (kc.trans k4.kc) (by rw [k4.2 0 28 (by decide) (by decide) (by decide) (by decide)]; exact h28) (k4.wy Y) (k2.ext fun j κ _ => by
        unfold yUb
        by_cases g : j = i ∧ κ = s
        · rw [if_pos g, g.1, g.2]
          unfold yLaz
          rw [if_pos (Or.inr ⟨rfl, by omega⟩), yLfz_1 (by omega) q, yLdz_q hi]
        · rw [if_neg g]
          unfold yLaz
          have : (i < j ∨ j = i ∧ κ < s + 1) ↔ (i < j ∨ j = i ∧ κ < s) := by omega
          simp only [this]) (by
        show _ = nI (if yFz φ w i s = [] then _ else yHe (yQd φ w n i s) 100 (yHs φ w n i s))
        rw [if_neg q]
        exact k3)
      refine ⟨ν1, τ1, Eq.trans ?_ j1, j2, j3, k4.trans j4, fun j hj => (j5 j hj).trans (k5 j hj)⟩
      show gbX0_goesThrough_232 N _ _ _ _ _ _ _ _ _ = _
      unfold gbX0_goesThrough_232
      rw [head, yc_spot, yBd, yG (xI_in (by omega) (by decide)), xI_cl (by omega), Ya', yIf (lN_le0 lb), if_neg (fun h => q (List.eq_nil_of_length_eq_zero h)), k1, yBV, yWL, add1]
theorem yc_through_219 {φ : Nat → Nat → Nat} (O : yOk φ) {w : Nat → Nat} {n c0 t : Nat} {μ : wMem} (F : yFC φ μ) (X : yWn φ w n μ c0 t) {N : Nat} (hN : 4000 ≤ N) (a1 : Int32) (K : wMem → Option wMem) : ∀ (k M : Nat) (ν : wMem) (τ : ySt), k < M → k ≤ n → yKC μ ν → ν.1 0 28 = nI n → yWy (yGa φ w n) ν → yWl (yLaz φ w n k 3136) ν → (∀ j, k ≤ j → j < n → ν.1 18 j = nI (yHs φ w n j 3136)) →
    ∃ ν1 τ1, gX0_goesThrough_219 N c0 t n a1 K M (nI k - 1) (yPut ν τ) = K (yPut ν1 τ1) ∧ (∀ j, j < n → ν1.1 18 j = nI (yHs φ w n j 3136)) ∧ yKl ν ν1 := by
  have n12 := X.2.1
  intro k
  induction k with
  | zero =>
    intro M ν τ hM hk kc h28 Y L H
    obtain ⟨M, rfl⟩ : ∃ q, M = q + 1 := ⟨M - 1, by omega⟩
    refine ⟨ν, τ, ?_, fun j hj => H j (Nat.zero_le _) hj, yKl.rfl' _⟩
    show gbX0_goesThrough_219 N _ _ _ _ _ _ _ _ = _
    unfold gbX0_goesThrough_219
    rw [yIf (xI_neg1 (k := 0) (by omega)), if_pos rfl]
  | succ k ih =>
    intro M ν τ hM hk kc h28 Y L H
    obtain ⟨M, rfl⟩ : ∃ q, M = q + 1 := ⟨M - 1, by omega⟩
    have s18 : wSI (yPut ν τ) 18 k (0 : Int32) = yPut (wSI ν 18 k (0 : Int32)) τ := yPut_sc _ _ (by decide) (by decide) _ _
    have kk : yKl ν (wSI ν 18 k (0 : Int32)) := ⟨rfl, fun c j a b _ _ => by rw [yS_get, if_neg (fun z => b z.1)]⟩
    obtain ⟨ν2, τ2, k1, k2, k3, k4, k5⟩ := yc_through_232 O F X (i := k) (by omega) (N := N) (by omega) a1 (fun (μ71 : wMem) => wLet (nI (k + 1) - 1 + (-1) : Int32) fun x72 => gX0_goesThrough_219 N c0 t n a1 K M x72 μ71) 3136 N 0 (wSI ν 18 k (0 : Int32)) τ (by omega) rfl (kc.trans kk.kc) (by rw [kk.2 0 28 (by decide) (by decide) (by decide) (by decide)]; exact h28) (kk.wy Y) (by
      have h := L.ext (L2 := yLaz φ w n k 0) fun j κ b => by
        unfold yLaz
        have : (k < j ∨ j = k ∧ κ < 0) ↔ (k + 1 < j ∨ j = k + 1 ∧ κ < 3136) := by omega
        simp only [this]
      intro j κ a b
      rw [yS_get, if_neg (by omega)]
      exact h j κ a b) (by rw [yS_get, if_pos ⟨rfl, rfl⟩]; rfl)
    obtain ⟨ν1, τ1, j1, j2, j3⟩ := ih M ν2 τ2 (by omega) (by omega) ((kc.trans kk.kc).trans k4.kc) (by rw [(kk.trans k4).2 0 28 (by decide) (by decide) (by decide) (by decide)]; exact h28) ((kk.trans k4).wy Y) k2 (fun j a b => by
      by_cases y : j = k
      · rw [y]; exact k3
      · rw [k5 j y, yS_get, if_neg (fun z => y z.2)]
        exact H j (by omega) b)
    refine ⟨ν1, τ1, Eq.trans ?_ j1, j2, (kk.trans k4).trans j3⟩
    have e : nI (k + 1) - 1 = nI k := xI_sub (a := k + 1) (b := 1) (by omega)
    show gbX0_goesThrough_219 N _ _ _ _ _ _ _ _ = _
    unfold gbX0_goesThrough_219
    rw [yIf (xI_neg1 (k := k + 1) (by omega)), if_neg (by omega)]
    rw [e] at k1 ⊢
    rw [yG (xI_in (by omega) (by decide)), yWL, xI_cl (by omega), s18]
    refine Eq.trans k1 ?_
    have e2 : nI k + (-1 : Int32) = nI k - 1 := by
      have h := xI_m2 k
      rw [e] at h
      exact h
    rw [yWL, e2]
/-- over at last in all walks, in some -/
def yAnd (φ : Nat → Nat → Nat) (w : Nat → Nat) (n : Nat) : Nat → Nat
  | 0 => 2 ^ φ 0 2 - 1
  | s + 1 => if yFz φ w n s = [] then yAnd φ w n s else yAnd φ w n s &&& (s / 49)
def yOrr (φ : Nat → Nat → Nat) (w : Nat → Nat) (n : Nat) : Nat → Nat
  | 0 => 0
  | s + 1 => if yFz φ w n s = [] then yOrr φ w n s else yOrr φ w n s ||| (s / 49)
/-- all but what leads and the two sums -/
def yKdz (μ ν : wMem) : Prop := ν.2 = μ.2 ∧ ∀ c j, c ≠ 17 → (c = 0 → j ≠ 29 ∧ j ≠ 30) → ν.1 c j = μ.1 c j
theorem yc_through_132 {φ : Nat → Nat → Nat} (O : yOk φ) {w : Nat → Nat} {n c0 t : Nat} (n12 : n ≤ 12) (hw : ∀ j, w j % 10 < 2) {N : Nat} (a1 : Int32) (K : wMem → Option wMem) (τ : ySt) : ∀ (d M s : Nat) (ν : wMem), d < M → s + d = 3136 → ν.1 0 28 = nI n → yWy (yGa φ w n) ν → yWl (yLaz φ w n n s) ν → ν.1 0 29 = nI (yAnd φ w n s) → ν.1 0 30 = nI (yOrr φ w n s) →
    ∃ ν1, gX0_goesThrough_132 N c0 t n a1 K M (nI s) (yPut ν τ) = K (yPut ν1 τ) ∧ yWl (yLaz φ w n n 3136) ν1 ∧ ν1.1 0 29 = nI (yAnd φ w n 3136) ∧ ν1.1 0 30 = nI (yOrr φ w n 3136) ∧ yKdz ν ν1 := by
  have f0 : ∀ (ν : wMem) j, 7 < j → (yPut ν τ).1 0 j = ν.1 0 j := fun ν j h => yPut_o _ _ (by omega) (by decide)
  intro d
  induction d with
  | zero =>
    intro M s ν hM hs h28 Y L H1 H2
    obtain ⟨M, rfl⟩ : ∃ q, M = q + 1 := ⟨M - 1, by omega⟩
    have : s = 3136 := by omega
    subst this
    refine ⟨ν, ?_, L, H1, H2, rfl, fun _ _ _ _ => rfl⟩
    show gbX0_goesThrough_132 N _ _ _ _ _ _ _ _ = _
    unfold gbX0_goesThrough_132
    show (if nI 3136 ≤ nI 3136 then _ else _) = _
    rw [yIf (xI_le (a := 3136) (b := 3136) (by decide) (by decide)), if_pos (Nat.le_refl _)]
  | succ d ih =>
    intro M s ν hM hs h28 Y L H1 H2
    obtain ⟨M, rfl⟩ : ∃ q, M = q + 1 := ⟨M - 1, by omega⟩
    have add1 : nI s + (1 : Int32) = nI (s + 1) := nI_add s 1
    have Ya := (Y n s (by omega) (by omega)).1
    rw [yGa_i] at Ya
    have Ya' : (yPut ν τ).2 15 (3136 * n + s) = lN (yFz φ w n s).length := Ya
    have lb := yFz_len O hw n12 s
    have head : ∀ x y : Option wMem, (if (3136 : Int32) ≤ nI s then x else y) = y := fun x y => by
      show (if nI 3136 ≤ nI s then x else y) = y
      rw [yIf (xI_le (a := 3136) (by decide) (by omega)), if_neg (by omega)]
    have d7 : ∀ x, x < 2 ^ 31 → nI x / (7 : Int32) = nI (x / 7) := fun x h => xI_div h (b := 7) (by decide)
    have e49 : nI s / (7 : Int32) / (7 : Int32) = nI (s / 49) := by rw [d7 s (by omega), d7 (s / 7) (by omega), Nat.div_div_eq_div_mul]
    by_cases q : yFz φ w n s = []
    · obtain ⟨ν1, j1, j2⟩ := ih M (s + 1) ν (by omega) (by omega) h28 Y (L.ext fun j κ _ => by
        unfold yLaz
        by_cases g : j = n ∧ κ = s
        · rw [g.1, g.2, yLfz_0 q]
          split <;> split <;> rfl
        · have : (n < j ∨ j = n ∧ κ < s + 1) ↔ (n < j ∨ j = n ∧ κ < s) := by omega
          simp only [this]) (by
        show _ = nI (if yFz φ w n s = [] then yAnd φ w n s else _)
        rw [if_pos q]
        exact H1) (by
        show _ = nI (if yFz φ w n s = [] then yOrr φ w n s else _)
        rw [if_pos q]
        exact H2)
      refine ⟨ν1, Eq.trans ?_ j1, j2⟩
      show gbX0_goesThrough_132 N _ _ _ _ _ _ _ _ = _
      unfold gbX0_goesThrough_132
      rw [head, f0 _ _ (by decide), h28, yc_spot, yBd, yG (xI_in (by omega) (by decide)), xI_cl (by omega), Ya', yIf (lN_z lb), if_pos (by rw [q]; rfl), yWL, add1]
    · have hl : yLfz φ w n n s = true := by
        rw [yLfz_1 (Nat.le_refl n) q, Nat.sub_self]
        rfl
      obtain ⟨ν1, j1, j2, j3, j4, j5, j6⟩ := ih M (s + 1) (wSI (wSI (wSI ν 17 (3136 * n + s) (1 : Int32)) 0 29 (nI (yAnd φ w n s &&& (s / 49)))) 0 30 (nI (yOrr φ w n s ||| (s / 49)))) (by omega) (by omega) (by rw [yS_get, if_neg (by omega), yS_get, if_neg (by omega), yS_get, if_neg (by omega)]; exact h28) (fun j κ a b => by
        rw [yS_get, if_neg (by omega), yS_get, if_neg (by omega), yS_get, if_neg (by omega)]
        exact Y j κ a b) (fun j κ a b => by
        rw [yS_get, if_neg (by omega), yS_get, if_neg (by omega), yS_get]
        have h := L j κ a b
        unfold yLaz at h ⊢
        by_cases g : j = n ∧ κ = s
        · rw [if_pos ⟨rfl, by rw [g.1, g.2]⟩, g.1, g.2, if_pos (Or.inr ⟨rfl, by omega⟩), hl, if_pos rfl]
          rfl
        · have : (n < j ∨ j = n ∧ κ < s + 1) ↔ (n < j ∨ j = n ∧ κ < s) := by omega
          rw [if_neg (by omega), h]
          simp only [this]) (by
        show _ = nI (if yFz φ w n s = [] then _ else yAnd φ w n s &&& (s / 49))
        rw [if_neg q, yS_get, if_neg (by omega), yS_get, if_pos ⟨rfl, rfl⟩]) (by
        show _ = nI (if yFz φ w n s = [] then _ else yOrr φ w n s ||| (s / 49))
        rw [if_neg q, yS_get, if_pos ⟨rfl, rfl⟩])
      refine ⟨ν1, Eq.trans ?_ j1, j2, j3, j4, j5, fun c j a b => (j6 c j a b).trans (by rw [yS_get, if_neg (fun z => (b z.1).2 z.2), yS_get, if_neg (fun z => (b z.1).1 z.2), yS_get, if_neg (fun z => a z.1)])⟩
      have w1 : wSI (yPut ν τ) 17 (3136 * n + s) (1 : Int32) = yPut (wSI ν 17 (3136 * n + s) (1 : Int32)) τ := yPut_sc _ _ (by decide) (by decide) _ _
      have w2 : wSI (yPut (wSI ν 17 (3136 * n + s) (1 : Int32)) τ) 0 29 ((yPut (wSI ν 17 (3136 * n + s) (1 : Int32)) τ).1 0 29 &&& (nI s / (7 : Int32) / (7 : Int32))) = yPut (wSI (wSI ν 17 (3136 * n + s) (1 : Int32)) 0 29 (nI (yAnd φ w n s &&& (s / 49)))) τ := by
        rw [f0 _ _ (by decide), yS_get, if_neg (by omega), H1, e49, xI_and, yPut_s0 _ _ (by decide)]
      have w3 : wSI (yPut (wSI (wSI ν 17 (3136 * n + s) (1 : Int32)) 0 29 (nI (yAnd φ w n s &&& (s / 49)))) τ) 0 30 ((yPut (wSI (wSI ν 17 (3136 * n + s) (1 : Int32)) 0 29 (nI (yAnd φ w n s &&& (s / 49)))) τ).1 0 30 ||| (nI s / (7 : Int32) / (7 : Int32))) = yPut (wSI (wSI (wSI ν 17 (3136 * n + s) (1 : Int32)) 0 29 (nI (yAnd φ w n s &&& (s / 49)))) 0 30 (nI (yOrr φ w n s ||| (s / 49)))) τ := by
        rw [f0 _ _ (by decide), yS_get, if_neg (by omega), yS_get, if_neg (by omega), H2, e49, xI_or, yPut_s0 _ _ (by decide)]
      show gbX0_goesThrough_132 N _ _ _ _ _ _ _ _ = _
      unfold gbX0_goesThrough_132
      rw [head, f0 _ _ (by decide), h28, yc_spot, yBd, yG (xI_in (by omega) (by decide)), xI_cl (by omega), Ya', yIf (lN_z lb), if_neg (fun h => q (List.eq_nil_of_length_eq_zero h)), f0 _ _ (by decide), h28, yc_spot, yBd, yG (xI_in (by omega) (by decide)), xI_cl (by omega), yWL, w1, yWL, w2, yWL, w3, yWL, add1]
/-- the arrays are empty below x -/
def yClz (x : Nat) (ν : wMem) : Prop := ∀ y, y < x → ν.2 15 y = lN 0 ∧ ν.1 16 y = nI 1000000000 ∧ ν.1 17 y = nI 0
def yKtz (μ ν : wMem) : Prop := (∀ c i, c ≠ 16 → c ≠ 17 → ν.1 c i = μ.1 c i) ∧ ∀ c i, c ≠ 15 → ν.2 c i = μ.2 c i
theorem yc_through_2 {N c0 t n : Nat} (a1 : Int32) (K : wMem → Option wMem) : ∀ (d M x : Nat) (ν : wMem), d < M → x + d = 40768 → yClz x ν → ∃ ν1, gX0_goesThrough_2 N c0 t n a1 K M (nI x) ν = K ν1 ∧ yClz 40768 ν1 ∧ yKtz ν ν1 := by
  intro d
  induction d with
  | zero =>
    intro M x ν hM hx C
    obtain ⟨M, rfl⟩ : ∃ q, M = q + 1 := ⟨M - 1, by omega⟩
    have : x = 40768 := by omega
    subst this
    refine ⟨ν, ?_, C, fun _ _ _ _ => rfl, fun _ _ _ => rfl⟩
    show gbX0_goesThrough_2 N _ _ _ _ _ _ _ _ = _
    unfold gbX0_goesThrough_2
    show (if nI 40768 ≤ nI 40768 then _ else _) = _
    rw [yIf (xI_le (a := 40768) (b := 40768) (by decide) (by decide)), if_pos (Nat.le_refl _)]
  | succ d ih =>
    intro M x ν hM hx C
    obtain ⟨M, rfl⟩ : ∃ q, M = q + 1 := ⟨M - 1, by omega⟩
    have add1 : nI x + (1 : Int32) = nI (x + 1) := nI_add x 1
    obtain ⟨ν1, j1, j2, j3, j4⟩ := ih M (x + 1) (wSI (wSI (wSL ν 15 x (0 : Int64)) 16 x (1000000000 : Int32)) 17 x (0 : Int32)) (by omega) (by omega) (fun y hy => by
      rw [yS_get, if_neg (by omega), yS_get, yS_get]
      show (wSL ν 15 x (0 : Int64)).2 15 y = _ ∧ _
      rw [yL_get]
      by_cases q : y = x
      · rw [if_pos ⟨rfl, q⟩, if_pos ⟨rfl, q⟩, if_pos ⟨rfl, q⟩]
        exact ⟨rfl, rfl, rfl⟩
      · rw [if_neg (fun z => q z.2), if_neg (fun z => q z.2), if_neg (fun z => q z.2), yS_get, if_neg (by omega)]
        exact C y (by omega))
    refine ⟨ν1, Eq.trans ?_ j1, j2, fun c i a b => (j3 c i a b).trans (by rw [yS_get, if_neg (fun z => b z.1), yS_get, if_neg (fun z => a z.1)]; rfl), fun c i a => (j4 c i a).trans (by
      show (wSL ν 15 x (0 : Int64)).2 c i = _
      rw [yL_get, if_neg (fun z => a z.1)])⟩
    show gbX0_goesThrough_2 N _ _ _ _ _ _ _ _ = _
    unfold gbX0_goesThrough_2
    show (if nI 40768 ≤ nI x then _ else _) = _
    rw [yIf (xI_le (a := 40768) (by decide) (by omega)), if_neg (by omega), yG (xI_in (by omega) (by decide)), yWL, yG (xI_in (by omega) (by decide)), yWL, yG (xI_in (by omega) (by decide)), yWL, yWL, xI_cl (by omega), add1]
