set_option maxRecDepth 100000
/-! part 99982: the component goes through its stamps -/
theorem lN_le0 {a : Nat} (ha : a < 2 ^ 63) : (lN a ≤ (0 : Int64)) = (a = 0) := propext ⟨fun h => by
  rw [Int64.le_iff_toInt_le, lN_toInt63 ha] at h
  have : (0 : Int64).toInt = 0 := by decide
  omega, fun h => by subst h; decide⟩
theorem yQm_len {n : Nat} {f : Nat → List (Nat × Nat)} {k : Nat} (h : k < n) : (f k).length ≤ (yQm n f).length := by
  induction n with
  | zero => omega
  | succ n ih =>
    rw [yQm_s, List.length_append]
    by_cases q : k = n
    · subst q; omega
    · have := ih (by omega); omega
theorem yQm_len_le {n : Nat} {f g : Nat → List (Nat × Nat)} (h : ∀ k, k < n → (f k).length ≤ (g k).length) : (yQm n f).length ≤ (yQm n g).length := by
  induction n with
  | zero => exact Nat.le_refl _
  | succ n ih =>
    rw [yQm_s, yQm_s, List.length_append, List.length_append]
    have := ih (fun k hk => h k (by omega))
    have := h n (by omega)
    omega
theorem yQm_len_mul {n c : Nat} {f g : Nat → List (Nat × Nat)} (h : ∀ k, k < n → (f k).length ≤ c * (g k).length) : (yQm n f).length ≤ c * (yQm n g).length := by
  induction n with
  | zero => exact Nat.zero_le _
  | succ n ih =>
    rw [yQm_s, yQm_s, List.length_append, List.length_append, Nat.mul_add]
    have := ih (fun k hk => h k (by omega))
    have := h n (by omega)
    omega
theorem yPr2_len (l : List Nat) (B : List (Nat × Nat)) : (yPr2 l B).length = B.length * l.length := by
  induction l with
  | nil => rfl
  | cons a l ih =>
    show (B.map (fun x => (x.1, a + x.2)) ++ yPr2 l B).length = _
    rw [List.length_append, List.length_map, ih, List.length_cons, Nat.mul_succ, Nat.add_comm]
/-- at most 36 acts at a stamp -/
theorem yOz_36 {φ : Nat → Nat → Nat} (O : yOk φ) {w : Nat → Nat} (i s : Nat) (B : Nat → Nat → Nat × Nat) : (yQm 100 fun e => if yOz φ w i s e = true then [(B s e)].map fun x => (x.1, yRz φ w i e + x.2) else []).length ≤ 36 := by
  have z : (yQm 100 fun e => if e % 10 < 6 ∧ e / 10 ≤ 6 ∧ e / 10 ≠ e % 10 + 1 then [(0, 0)] else []).length = 36 := by decide +kernel
  rw [← z]
  refine yQm_len_le fun e _ => ?_
  by_cases q : yOz φ w i s e = true
  · have h6 := O.persons
    obtain ⟨_, _, a, b, _, c⟩ := yOz_act O q
    rw [if_pos q, if_pos ⟨by omega, by omega, c⟩]
    exact Nat.le_refl _
  · rw [if_neg q]
    exact Nat.zero_le _
theorem yFz_total {φ : Nat → Nat → Nat} (O : yOk φ) {w : Nat → Nat} (hw : ∀ i, w i % 10 < 2) : ∀ i, (yTt 3136 (yFz φ w i) (fun _ => [(0, 0)])).length ≤ 36 ^ i
  | 0 => by
    unfold yTt
    have e : (yQm (1 + 3135) fun κ => yPr2 (yFz φ w 0 κ) [(0, 0)]) = _ := yQm_split 1 3135 _
    rw [show (3136 : Nat) = 1 + 3135 from rfl, e, yQm_nil (n := 3135) (fun k _ => by
      have : yFz φ w 0 (1 + k) = [] := if_neg (by omega)
      rw [this, yPr2_nil])]
    rw [List.append_nil, yQm_s, yQm_0]
    show (yPr2 [0] _).length ≤ _
    rw [yPr2_len]
    decide
  | i + 1 => by
    have st : (yTt 3136 (yFz φ w (i + 1)) (fun _ => [(0, 0)])).Perm _ := ySt1_tt (N := 3136) (ok := yOz φ w i) (nx := yNz φ w i) (ri := fun _ => yRz φ w i) (fun s e q => yVz_lt O (yNz_v O hw q)) (yFz φ w i) (fun _ => [(0, 0)]) 3136
    rw [st.length_eq]
    refine Nat.le_trans (yQm_len_mul (c := 36) (g := fun s => yPr2 (yFz φ w i s) [(0, 0)]) fun s _ => ?_) ?_
    · rw [yPr2_len, yPr2_len]
      show _ ≤ 36 * (1 * _)
      rw [Nat.one_mul]
      exact Nat.mul_le_mul_right _ (yOz_36 O i s fun _ _ => (0, 0))
    · have := yFz_total O hw i
      unfold yTt at this
      rw [Nat.pow_succ, Nat.mul_comm]
      exact Nat.mul_le_mul_right _ this
theorem yFz_len {φ : Nat → Nat → Nat} (O : yOk φ) {w : Nat → Nat} (hw : ∀ i, w i % 10 < 2) {i : Nat} (hi : i ≤ 12) (κ : Nat) : (yFz φ w i κ).length < 2 ^ 63 := by
  by_cases q : yFz φ w i κ = []
  · rw [q]; decide
  · have v := yVz_lt O (yFz_v O hw i κ q)
    have a : (yPr2 (yFz φ w i κ) [(0, 0)]).length ≤ _ := yQm_len (f := fun κ => yPr2 (yFz φ w i κ) [(0, 0)]) v
    rw [yPr2_len] at a
    have b : (yQm 3136 fun κ => yPr2 (yFz φ w i κ) [(0, 0)]).length ≤ 36 ^ i := yFz_total O hw i
    have c : 36 ^ i ≤ 36 ^ 12 := Nat.pow_le_pow_right (by decide) hi
    have d : (36 : Nat) ^ 12 < 2 ^ 63 := by decide
    have e : [((0 : Nat), (0 : Nat))].length * (yFz φ w i κ).length = (yFz φ w i κ).length := Nat.one_mul _
    omega
theorem yEs_mem {ok : Nat → Bool} {nx ri : Nat → Nat} {L : List Nat} {b : Nat} (hL : ∀ e r, ok e = true → r ∈ L → r + ri e ≤ b) {f : Nat → List Nat} (hf : ∀ κ r, r ∈ f κ → r ≤ b) : ∀ m κ r, r ∈ yEs ok nx ri L m f κ → r ≤ b
  | 0 => hf
  | m + 1 => fun κ r h => by
    have ih := yEs_mem (nx := nx) hL hf m
    have h' : r ∈ (if ok m = true then yAp (yEs ok nx ri L m f) (nx m) (L.map (· + ri m)) else yEs ok nx ri L m f) κ := h
    by_cases q : ok m = true
    · rw [if_pos q] at h'
      unfold yAp at h'
      by_cases g : κ = nx m
      · rw [if_pos g, List.mem_append, List.mem_map] at h'
        rcases h' with h' | ⟨x, hx, rfl⟩
        · exact ih κ r h'
        · exact hL m x q hx
      · rw [if_neg g] at h'
        exact ih κ r h'
    · rw [if_neg q] at h'
      exact ih κ r h'
theorem yFz_mem {φ : Nat → Nat → Nat} (O : yOk φ) {w : Nat → Nat} : ∀ i κ r, r ∈ yFz φ w i κ → r ≤ 100 * i
  | 0 => fun κ r h => by
    have h' : r ∈ (if κ = 0 then [0] else []) := h
    by_cases q : κ = 0
    · rw [if_pos q, List.mem_singleton] at h'; omega
    · rw [if_neg q] at h'; exact absurd h' List.not_mem_nil
  | i + 1 => by
    have st : ∀ m κ r, r ∈ ySt1 (yOz φ w i) (yNz φ w i) (fun _ => yRz φ w i) (yFz φ w i) m κ → r ≤ 100 * (i + 1) := fun m => by
      induction m with
      | zero => intro κ r h; exact absurd h List.not_mem_nil
      | succ m ih =>
        refine yEs_mem (fun e r q hr => ?_) ih 100
        have a := yFz_mem O i m r hr
        obtain ⟨_, _, p1, _, p3, _⟩ := yOz_act O q
        have b : yRz φ w i e ≤ 100 := yRisk_le O p1 p3
        show r + yRz φ w i e ≤ _
        omega
    exact st 3136
theorem yEs_nil (ok : Nat → Bool) (nx ri : Nat → Nat) (f : Nat → List Nat) : ∀ m, yEs ok nx ri [] m f = f
  | 0 => rfl
  | m + 1 => by
    show (if ok m = true then yAp (yEs ok nx ri [] m f) (nx m) [] else yEs ok nx ri [] m f) = f
    rw [yEs_nil ok nx ri f m]
    split
    · funext k
      unfold yAp
      split
      · exact List.append_nil _
      · rfl
    · rfl
theorem yGu_id (G : Nat → Nat → List Nat) (i : Nat) : yGu G i (G i) = G := by
  funext j
  unfold yGu
  split
  · next h => rw [h]
  · rfl
theorem yc_firstBy {φ : Nat → Nat → Nat} (O : yOk φ) {w : Nat → Nat} {n c0 t i : Nat} {μ ν : wMem} (X : yWn φ w n μ c0 t) (hi : i < n) (kc : yKC μ ν) (N : Nat) (a1 : Int32) (τ : ySt) : fX0_firstBy N c0 t n a1 (nI i) (yPut ν τ) = some (nI (yAz w i 0), yPut ν τ) := by
  have n12 := X.2.1
  have at0 := X.at (yPut_e τ kc) hi
  have wl := X.lt O hi
  have d10 : nI (w i) / (10 : Int32) = nI (w i / 10) := xI_div (by omega) (b := 10) (by decide)
  have m100 : (100 : Int32) * nI (w i / 10) = nI (100 * (w i / 10)) := xI_mul 100 _
  unfold fX0_firstBy
  rw [yG (xI_in hi (by omega)), xI_cl (by omega), at0, d10, m100]
  rfl
theorem yc_goesOn {φ : Nat → Nat → Nat} (O : yOk φ) {w : Nat → Nat} {n c0 t i s : Nat} {μ ν : wMem} (F : yFC φ μ) (X : yWn φ w n μ c0 t) (hi : i < n) (V : yVz φ s) {N : Nat} (hN : 200 ≤ N) (a1 : Int32) (G : Nat → Nat → List Nat) (hL : G i s ≠ []) (bL : ∀ r, r ∈ G i s → r ≤ 10000) (kc : yKC μ ν) (h28 : ν.1 0 28 = nI n) (Y : yWy G ν) (τ : ySt) :
    ∃ ν1 τ1, fX0_goesOn N c0 t n a1 (nI i) (nI s) (yPut ν τ) = some (yPut ν1 τ1) ∧ yWy (yGu G (i + 1) (yEs (yOz φ w i s) (yNz φ w i s) (yRz φ w i) (G i s) 100 (G (i + 1)))) ν1 ∧ yKe ν ν1 := by
  obtain ⟨ν1, τ1, j1, j2⟩ := yc_goesOn_loop O F X hi V (N := N) (by omega) a1 G hL bL (fun μ => some μ) 100 N 0 ν τ (by omega) rfl kc h28 (by
    show yWy (yGu G (i + 1) (G (i + 1))) ν
    rw [yGu_id]
    exact Y)
  refine ⟨ν1, τ1, ?_, j2⟩
  unfold fX0_goesOn
  rw [yc_firstBy O X hi kc, yBd]
  exact j1
theorem yc_through_76 {φ : Nat → Nat → Nat} (O : yOk φ) {w : Nat → Nat} {n c0 t i : Nat} {μ : wMem} (F : yFC φ μ) (X : yWn φ w n μ c0 t) (hi : i < n) {N : Nat} (hN : 200 ≤ N) (a1 : Int32) (G : Nat → Nat → List Nat) (hG : G i = yFz φ w i) (K : wMem → Option wMem) : ∀ (d M s : Nat) (ν : wMem) (τ : ySt), d < M → s + d = 3136 → yKC μ ν → ν.1 0 28 = nI n → yWy (yGu G (i + 1) (ySt1 (yOz φ w i) (yNz φ w i) (fun _ => yRz φ w i) (yFz φ w i) s)) ν →
    ∃ ν1 τ1, gX0_goesThrough_76 N c0 t n a1 (nI i) K M (nI s) (yPut ν τ) = K (yPut ν1 τ1) ∧ yWy (yGu G (i + 1) (yFz φ w (i + 1))) ν1 ∧ yKe ν ν1 := by
  have n12 := X.2.1
  intro d
  induction d with
  | zero =>
    intro M s ν τ hM hs kc h28 Y
    obtain ⟨M, rfl⟩ : ∃ q, M = q + 1 := ⟨M - 1, by omega⟩
    have : s = 3136 := by omega
    subst this
    refine ⟨ν, τ, ?_, Y, yKe.rfl' _⟩
    show gbX0_goesThrough_76 N _ _ _ _ _ _ _ _ _ = _
    unfold gbX0_goesThrough_76
    show (if nI 3136 ≤ nI 3136 then _ else _) = _
    rw [yIf (xI_le (a := 3136) (b := 3136) (by decide) (by decide)), if_pos (Nat.le_refl _)]
  | succ d ih =>
    intro M s ν τ hM hs kc h28 Y
    obtain ⟨M, rfl⟩ : ∃ q, M = q + 1 := ⟨M - 1, by omega⟩
    have add1 : nI s + (1 : Int32) = nI (s + 1) := nI_add s 1
    have Ya := (Y i s (by omega) (by omega)).1
    rw [yGu_o G _ (by omega), hG] at Ya
    have Ya' : (yPut ν τ).2 15 (3136 * i + s) = lN (yFz φ w i s).length := Ya
    have lb := yFz_len O X.2.2.2 (i := i) (by omega) s
    have head : ∀ x y : Option wMem, (if (3136 : Int32) ≤ nI s then x else y) = y := fun x y => by
      show (if nI 3136 ≤ nI s then x else y) = y
      rw [yIf (xI_le (a := 3136) (by decide) (by omega)), if_neg (by omega)]
    by_cases q : yFz φ w i s = []
    · obtain ⟨ν1, τ1, j1, j2⟩ := ih M (s + 1) ν τ (by omega) (by omega) kc h28 (by
        show yWy (yGu G (i + 1) (yEs (yOz φ w i s) (yNz φ w i s) (yRz φ w i) (yFz φ w i s) 100 (ySt1 (yOz φ w i) (yNz φ w i) (fun _ => yRz φ w i) (yFz φ w i) s))) ν
        rw [q, yEs_nil]
        exact Y)
      refine ⟨ν1, τ1, Eq.trans ?_ j1, j2⟩
      show gbX0_goesThrough_76 N _ _ _ _ _ _ _ _ _ = _
      unfold gbX0_goesThrough_76
      rw [head, yc_spot, yBd, yG (xI_in (by omega) (by decide)), xI_cl (by omega), Ya', yIf (lN_le0 lb), if_pos (by rw [q]; rfl), yWL, add1]
    · have e1 : yGu G (i + 1) (ySt1 (yOz φ w i) (yNz φ w i) (fun _ => yRz φ w i) (yFz φ w i) s) i = yFz φ w i := by rw [yGu_o G _ (by omega), hG]
      obtain ⟨ν2, τ2, k1, k2, k3⟩ := yc_goesOn O F X hi (yFz_v O X.2.2.2 i s q) hN a1 (yGu G (i + 1) (ySt1 (yOz φ w i) (yNz φ w i) (fun _ => yRz φ w i) (yFz φ w i) s)) (by rw [e1]; exact q) (fun r hr => by
        rw [e1] at hr
        have := yFz_mem O i s r hr
        omega) kc h28 Y τ
      rw [yGu_gu, e1, yGu_s] at k2
      obtain ⟨ν1, τ1, j1, j2, j3⟩ := ih M (s + 1) ν2 τ2 (by omega) (by omega) (kc.trans k3.kc) (by rw [k3.1 0 28 (by decide) (by decide) (by decide)]; exact h28) k2
      refine ⟨ν1, τ1, Eq.trans ?_ j1, j2, k3.trans j3⟩
      show gbX0_goesThrough_76 N _ _ _ _ _ _ _ _ _ = _
      unfold gbX0_goesThrough_76
      rw [head, yc_spot, yBd, yG (xI_in (by omega) (by decide)), xI_cl (by omega), Ya', yIf (lN_le0 lb), if_neg (fun h => q (List.eq_nil_of_length_eq_zero h)), k1, yBV, yWL, add1]
/-- all stamps till i -/
def yGa (φ : Nat → Nat → Nat) (w : Nat → Nat) (i : Nat) : Nat → Nat → List Nat := fun j => if j ≤ i then yFz φ w j else fun _ => []
theorem yGa_s (φ : Nat → Nat → Nat) (w : Nat → Nat) (i : Nat) : yGu (yGa φ w i) (i + 1) (yFz φ w (i + 1)) = yGa φ w (i + 1) := by
  funext j
  unfold yGu yGa
  by_cases q : j = i + 1
  · rw [if_pos q, if_pos (by omega), q]
  · rw [if_neg q]
    by_cases g : j ≤ i
    · rw [if_pos g, if_pos (by omega)]
    · rw [if_neg g, if_neg (by omega)]
theorem yGa_i (φ : Nat → Nat → Nat) (w : Nat → Nat) (i : Nat) : yGa φ w i i = yFz φ w i := if_pos (Nat.le_refl _)
theorem yc_through_66 {φ : Nat → Nat → Nat} (O : yOk φ) {w : Nat → Nat} {n c0 t : Nat} {μ : wMem} (F : yFC φ μ) (X : yWn φ w n μ c0 t) {N : Nat} (hN : 4000 ≤ N) (a1 : Int32) (K : wMem → Option wMem) : ∀ (d M i : Nat) (ν : wMem) (τ : ySt), d < M → i + d = n → yKC μ ν → ν.1 0 28 = nI n → yWy (yGa φ w i) ν →
    ∃ ν1 τ1, gX0_goesThrough_66 N c0 t n a1 K M (nI i) (yPut ν τ) = K (yPut ν1 τ1) ∧ yWy (yGa φ w n) ν1 ∧ yKe ν ν1 := by
  have n12 := X.2.1
  have f28 : ∀ (ν : wMem) (τ : ySt), (yPut ν τ).1 0 28 = ν.1 0 28 := fun ν τ => yPut_o _ _ (by omega) (by decide)
  intro d
  induction d with
  | zero =>
    intro M i ν τ hM hs kc h28 Y
    obtain ⟨M, rfl⟩ : ∃ q, M = q + 1 := ⟨M - 1, by omega⟩
    have : i = n := by omega
    subst this
    refine ⟨ν, τ, ?_, Y, yKe.rfl' _⟩
    show gbX0_goesThrough_66 N _ _ _ _ _ _ _ _ = _
    unfold gbX0_goesThrough_66
    rw [f28, h28, yIf (xI_le (a := i) (b := i) (by omega) (by omega)), if_pos (Nat.le_refl _)]
  | succ d ih =>
    intro M i ν τ hM hs kc h28 Y
    obtain ⟨M, rfl⟩ : ∃ q, M = q + 1 := ⟨M - 1, by omega⟩
    have add1 : nI i + (1 : Int32) = nI (i + 1) := nI_add i 1
    obtain ⟨ν2, τ2, k1, k2, k3⟩ := yc_through_76 O F X (i := i) (by omega) (N := N) (by omega) a1 (yGa φ w i) (yGa_i φ w i) (fun (μ33 : wMem) => wLet (nI i + 1 : Int32) fun x34 => gX0_goesThrough_66 N c0 t n a1 K M x34 μ33) 3136 N 0 ν τ (by omega) rfl kc h28 (by
      have e : yGu (yGa φ w i) (i + 1) (fun _ => []) = yGa φ w i := by
        have : yGa φ w i (i + 1) = fun _ => [] := if_neg (by omega)
        rw [← this, yGu_id]
      show yWy (yGu (yGa φ w i) (i + 1) (fun _ => [])) ν
      rw [e]
      exact Y)
    rw [yGa_s] at k2
    obtain ⟨ν1, τ1, j1, j2, j3⟩ := ih M (i + 1) ν2 τ2 (by omega) (by omega) (kc.trans k3.kc) (by rw [k3.1 0 28 (by decide) (by decide) (by decide)]; exact h28) k2
    refine ⟨ν1, τ1, Eq.trans ?_ j1, j2, k3.trans j3⟩
    show gbX0_goesThrough_66 N _ _ _ _ _ _ _ _ = _
    unfold gbX0_goesThrough_66
    rw [f28, h28, yIf (xI_le (a := n) (b := i) (by omega) (by omega)), if_neg (by omega)]
    refine Eq.trans k1 ?_
    rw [yWL, add1]
