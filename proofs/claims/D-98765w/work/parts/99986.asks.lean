set_option maxRecDepth 100000
/-! part 99986: the component's answers about stamps -/
theorem yPerm_fold {α β : Type} {f : β → α → β} (c : ∀ b x y, f (f b x) y = f (f b y) x) {l m : List α} (h : l.Perm m) : ∀ b, l.foldl f b = m.foldl f b := by
  induction h with
  | nil => intro b; rfl
  | cons x _ ih => intro b; exact ih (f b x)
  | swap x y l =>
    intro b
    show l.foldl f (f (f b y) x) = l.foldl f (f (f b x) y)
    rw [c]
  | trans _ _ ih1 ih2 => intro b; exact (ih1 b).trans (ih2 b)
/-- over in all of them, in some; the least risk -/
def yAnW (P : Nat) (W : List (Nat × Nat)) : Nat := W.foldl (fun a x => a &&& x.1) (2 ^ P - 1)
def yOrW (W : List (Nat × Nat)) : Nat := W.foldl (fun a x => a ||| x.1) 0
def yMnW (W : List (Nat × Nat)) : Nat := W.foldl (fun a x => min a x.2) 1000000000
theorem yAnW_p {W V : List (Nat × Nat)} (h : W.Perm V) (P : Nat) : yAnW P W = yAnW P V := yPerm_fold (fun b x y => by rw [Nat.and_assoc, Nat.and_comm x.1, ← Nat.and_assoc]) h _
theorem yOrW_p {W V : List (Nat × Nat)} (h : W.Perm V) : yOrW W = yOrW V := yPerm_fold (fun b x y => by rw [Nat.or_assoc, Nat.or_comm x.1, ← Nat.or_assoc]) h _
theorem yMnW_p {W V : List (Nat × Nat)} (h : W.Perm V) : yMnW W = yMnW V := yPerm_fold (fun b x y => Nat.min_right_comm b x.2 y.2) h _
def yBlz (φ : Nat → Nat → Nat) (w : Nat → Nat) (n m : Nat) : List (Nat × Nat) := yQm m fun κ => (yFz φ w n κ).map fun r => (κ / 49, r)
theorem yBlz_s (φ : Nat → Nat → Nat) (w : Nat → Nat) (n m : Nat) : yBlz φ w n (m + 1) = yBlz φ w n m ++ (yFz φ w n m).map fun r => (m / 49, r) := yQm_s m _
theorem yBlz_W {φ : Nat → Nat → Nat} (O : yOk φ) {w : Nat → Nat} (hw : ∀ i, w i % 10 < 2) (n : Nat) : (yBlz φ w n 3136).Perm (yWz φ w n n 0) := yZz_end O hw n
theorem yAnd_W (φ : Nat → Nat → Nat) (w : Nat → Nat) (n : Nat) : ∀ m, yAnd φ w n m = yAnW (φ 0 2) (yBlz φ w n m)
  | 0 => rfl
  | m + 1 => by
    have st : ∀ (L : List Nat) (a : Nat), (L.map fun r => (m / 49, r)).foldl (fun a x => a &&& x.1) a = if L = [] then a else a &&& (m / 49) := fun L => by
      induction L with
      | nil => intro a; rfl
      | cons x L ih =>
        intro a
        show (L.map fun r => (m / 49, r)).foldl (fun a x => a &&& x.1) (a &&& (m / 49)) = _
        rw [ih, if_neg (List.cons_ne_nil x L)]
        split
        · rfl
        · rw [Nat.and_assoc, Nat.and_self]
    unfold yAnW
    rw [yBlz_s, List.foldl_append, st]
    show (if yFz φ w n m = [] then yAnd φ w n m else yAnd φ w n m &&& (m / 49)) = _
    rw [yAnd_W φ w n m]
    rfl
theorem yOrr_W (φ : Nat → Nat → Nat) (w : Nat → Nat) (n : Nat) : ∀ m, yOrr φ w n m = yOrW (yBlz φ w n m)
  | 0 => rfl
  | m + 1 => by
    have st : ∀ (L : List Nat) (a : Nat), (L.map fun r => (m / 49, r)).foldl (fun a x => a ||| x.1) a = if L = [] then a else a ||| (m / 49) := fun L => by
      induction L with
      | nil => intro a; rfl
      | cons x L ih =>
        intro a
        show (L.map fun r => (m / 49, r)).foldl (fun a x => a ||| x.1) (a ||| (m / 49)) = _
        rw [ih, if_neg (List.cons_ne_nil x L)]
        split
        · rfl
        · rw [Nat.or_assoc, Nat.or_self]
    unfold yOrW
    rw [yBlz_s, List.foldl_append, st]
    show (if yFz φ w n m = [] then yOrr φ w n m else yOrr φ w n m ||| (m / 49)) = _
    rw [yOrr_W φ w n m]
    rfl
theorem yMnW_le : ∀ (W : List (Nat × Nat)) (a : Nat), W.foldl (fun a x => min a x.2) a ≤ a
  | [], _ => Nat.le_refl _
  | x :: W, a => Nat.le_trans (yMnW_le W (min a x.2)) (Nat.min_le_left _ _)
theorem yMnW_s (φ : Nat → Nat → Nat) (w : Nat → Nat) (n m : Nat) : yMnW (yBlz φ w n (m + 1)) = min (yMnW (yBlz φ w n m)) (yMn (yFz φ w n m)) := by
  have st : ∀ (L : List Nat) (a y : Nat), (L.map fun r => (m / 49, r)).foldl (fun a x => min a x.2) (min a y) = min a (L.foldl min y) := fun L => by
    induction L with
    | nil => intro a y; rfl
    | cons x L ih =>
      intro a y
      show (L.map fun r => (m / 49, r)).foldl (fun a x => min a x.2) (min (min a y) x) = min a (L.foldl min (min y x))
      rw [← ih a (min y x), Nat.min_assoc]
  have h := st (yFz φ w n m) (yMnW (yBlz φ w n m)) 1000000000
  have le : yMnW (yBlz φ w n m) ≤ 1000000000 := yMnW_le _ _
  rw [Nat.min_eq_left le] at h
  show (yBlz φ w n (m + 1)).foldl (fun a x => min a x.2) 1000000000 = _
  rw [yBlz_s, List.foldl_append]
  exact h
/-- a number that can stand in a row of stamps -/
def ySvz (φ : Nat → Nat → Nat) (v : Int64) : Bool := decide (0 ≤ v.toInt ∧ v.toInt ≤ 10 * φ 0 3 + 1) && (decide (v.toInt.toNat / 10 < φ 0 3) && decide (v.toInt.toNat % 10 ≤ 1))
def yAvz (φ : Nat → Nat → Nat) (v : Nat → Int64) : Nat → Nat → Bool
  | _, 0 => true
  | j, d + 1 => ySvz φ (v j) && yAvz φ v (j + 1) d
theorem yAvz_of {φ : Nat → Nat → Nat} {v : Nat → Int64} : ∀ d j, yAvz φ v j d = true → ∀ k, j ≤ k → k < j + d → ySvz φ (v k) = true
  | 0, j, _, k, a, b => absurd b (by omega)
  | d + 1, j, h, k, a, b => by
    have h' : (ySvz φ (v j) && yAvz φ v (j + 1) d) = true := h
    rw [Bool.and_eq_true] at h'
    by_cases q : k = j
    · rw [q]; exact h'.1
    · exact yAvz_of d (j + 1) h'.2 k (by omega) (by omega)
theorem yAvz_c {φ : Nat → Nat → Nat} {v u : Nat → Int64} : ∀ d j, (∀ k, j ≤ k → k < j + d → v k = u k) → yAvz φ v j d = yAvz φ u j d
  | 0, _, _ => rfl
  | d + 1, j, h => by
    show (ySvz φ (v j) && yAvz φ v (j + 1) d) = (ySvz φ (u j) && yAvz φ u (j + 1) d)
    rw [h j (by omega) (by omega), yAvz_c d (j + 1) fun k a b => h k (by omega) (by omega)]
/-- the row's stamps -/
def yWvz (φ : Nat → Nat → Nat) (v : Nat → Int64) (n j : Nat) : Nat := if j < n ∧ ySvz φ (v j) = true then (v j).toInt.toNat else 0
theorem ySvz_of {φ : Nat → Nat → Nat} {v : Int64} (h : ySvz φ v = true) : (0 ≤ v.toInt ∧ v.toInt ≤ 10 * φ 0 3 + 1) ∧ v.toInt.toNat / 10 < φ 0 3 ∧ v.toInt.toNat % 10 ≤ 1 := by
  unfold ySvz at h
  rw [Bool.and_eq_true, Bool.and_eq_true, decide_eq_true_eq, decide_eq_true_eq, decide_eq_true_eq] at h
  exact ⟨h.1, h.2.1, h.2.2⟩
theorem yI64_of {v : Int64} {b : Nat} (h : 0 ≤ v.toInt ∧ v.toInt ≤ b) (hb : b < 2 ^ 30) : v.toInt.toNat ≤ b ∧ v = (nI v.toInt.toNat).toInt64 ∧ v.toInt32 = nI v.toInt.toNat := by
  have e : v = (nI v.toInt.toNat).toInt64 := by
    apply Int64.toInt_inj.mp
    rw [Int32.toInt_toInt64, nI_toInt (by omega)]
    omega
  refine ⟨by omega, e, ?_⟩
  have e2 : (nI v.toInt.toNat).toInt64.toInt32 = nI v.toInt.toNat := by rw [xI_l (by omega), lN_i]
  rw [← e] at e2
  exact e2
theorem yWvz_ok {φ : Nat → Nat → Nat} (O : yOk φ) {v : Nat → Int64} {n : Nat} (A : yAvz φ v 0 n = true) : (∀ j, j < n → (v j).toInt32 = nI (yWvz φ v n j) ∧ yWvz φ v n j / 10 < φ 0 3) ∧ ∀ j, yWvz φ v n j % 10 < 2 := by
  have h22 := O.posts
  refine ⟨fun j hj => ?_, fun j => ?_⟩
  · have h := yAvz_of n 0 A j (Nat.zero_le _) (by omega)
    obtain ⟨a, b, c⟩ := ySvz_of h
    unfold yWvz
    rw [if_pos ⟨hj, h⟩]
    exact ⟨(yI64_of (b := 10 * φ 0 3 + 1) (by omega) (by omega)).2.2, b⟩
  · unfold yWvz
    by_cases q : j < n ∧ ySvz φ (v j) = true
    · rw [if_pos q]
      have := (ySvz_of q.2).2.2
      omega
    · rw [if_neg q]; decide
theorem yWvz_c {φ : Nat → Nat → Nat} {v u : Nat → Int64} {n : Nat} (h : ∀ k, k < n → v k = u k) : yWvz φ v n = yWvz φ u n := by
  funext j
  unfold yWvz
  by_cases q : j < n
  · rw [h j q]
  · rw [if_neg (fun z => q z.1), if_neg (fun z => q z.1)]
theorem yc_isIn64 (v : Int64) {n : Nat} (hn : n < 2 ^ 30) (N : Nat) (μ : wMem) : fX0_isIn N v 0 (nI n).toInt64 μ = some (yB (decide (0 ≤ v.toInt ∧ v.toInt ≤ n)), μ) := by
  have z : (0 : Int64).toInt = 0 := by decide
  have e : (nI n).toInt64.toInt = n := by rw [Int32.toInt_toInt64, nI_toInt (by omega)]
  unfold fX0_isIn
  by_cases g1 : v < 0
  · have := Int64.lt_iff_toInt_lt.mp g1
    rw [if_pos g1, yB_f (by omega)]
  · have h1 : ¬ v.toInt < 0 := fun q => g1 (Int64.lt_iff_toInt_lt.mpr (by omega))
    by_cases g2 : (nI n).toInt64 < v
    · have := Int64.lt_iff_toInt_lt.mp g2
      rw [if_neg g1, if_pos g2, yB_f (by omega)]
    · have h2 : ¬ (n : Int) < v.toInt := fun q => g2 (Int64.lt_iff_toInt_lt.mpr (by omega))
      rw [if_neg g1, if_neg g2, yB_t (by omega)]
theorem yc_askz_loop {φ : Nat → Nat → Nat} (O : yOk φ) {n c0 t : Nat} {μ : wMem} (F : yFC φ μ) (hn : n ≤ 60) (N : Nat) (a1 : Int32) (K : wMem → Option (Int32 × wMem)) : ∀ (d M j : Nat), d < M → j + d = n → gX0_asksStamps_34 N c0 t n a1 (nI n) K M (nI j) μ = if yAvz φ (wAt μ c0 t) j d = true then K μ else some (-2, μ) := by
  have h22 := O.posts
  intro d
  induction d with
  | zero =>
    intro M j hM hj
    obtain ⟨M, rfl⟩ : ∃ q, M = q + 1 := ⟨M - 1, by omega⟩
    show gbX0_asksStamps_34 N _ _ _ _ _ _ _ _ _ = _
    unfold gbX0_asksStamps_34
    rw [yIf (xI_le (a := n) (b := j) (by omega) (by omega)), if_pos (by omega), if_pos (show yAvz φ (wAt μ c0 t) j 0 = true from rfl)]
  | succ d ih =>
    intro M j hM hj
    obtain ⟨M, rfl⟩ : ∃ q, M = q + 1 := ⟨M - 1, by omega⟩
    have add1 : nI j + (1 : Int32) = nI (j + 1) := nI_add j 1
    have ih1 := ih M (j + 1) (by omega) (by omega)
    have m10 : ((10 : Int32) * μ.1 1 3) + (1 : Int32) = nI (10 * φ 0 3 + 1) := by
      rw [F.fld 3 (by decide)]
      have : (10 : Int32) * nI (φ 0 3) = nI (10 * φ 0 3) := xI_mul 10 _
      rw [this]
      exact nI_add _ 1
    have ea : yAvz φ (wAt μ c0 t) j (d + 1) = (ySvz φ (wAt μ c0 t j) && yAvz φ (wAt μ c0 t) (j + 1) d) := rfl
    rw [ea]
    show gbX0_asksStamps_34 N _ _ _ _ _ _ _ _ _ = _
    unfold gbX0_asksStamps_34
    rw [yIf (xI_le (a := n) (b := j) (by omega) (by omega)), if_neg (by omega), yG (xI_in (by omega) (by omega)), xI_cl (by omega), m10, yc_isIn64 _ (by omega), yBd, yWL]
    generalize hv : wAt μ c0 t j = v
    have em2 : ∀ b, (if (false && b) = true then K μ else some ((-2 : Int32), μ)) = some (-2, μ) := fun b => if_neg (by simp)
    by_cases g1 : 0 ≤ v.toInt ∧ v.toInt ≤ ((10 * φ 0 3 + 1 : Nat) : Int)
    · obtain ⟨l, e1, e2⟩ := yI64_of g1 (by omega)
      generalize hx : v.toInt.toNat = x at *
      have hd : nI x / (10 : Int32) = nI (x / 10) := xI_div (by omega) (b := 10) (by decide)
      have hr : nI x - nI x / (10 : Int32) * (10 : Int32) = nI (x % 10) := xI_r10 (by omega)
      have sv : ySvz φ v = (decide (x / 10 < φ 0 3) && decide (x % 10 ≤ 1)) := by
        unfold ySvz
        rw [hx, decide_eq_true (by omega)]
        rfl
      rw [sv, yB1 g1, yG (xI_in (by omega) (by omega)), e2, hd, yc_isPost O F, yBd]
      have ip : yIs (nI (x / 10)) (φ 0 3) = (x / 10 < φ 0 3) := yIs_iff (by omega)
      by_cases g2 : x / 10 < φ 0 3
      · rw [yB1 (by rw [ip]; exact g2), yG (xI_in (by omega) (by omega)), hv, e2, hr, decide_eq_true g2]
        show (if nI (x % 10) ≤ nI 1 then _ else _) = _
        rw [yIf (xI_le (b := 1) (by omega) (by decide))]
        by_cases g3 : x % 10 ≤ 1
        · rw [if_pos g3, decide_eq_true g3, yWL, add1]
          exact ih1
        · rw [if_neg g3, decide_eq_false g3]
          exact (em2 _).symm
      · rw [yB2 (by rw [ip]; exact g2), decide_eq_false g2]
        exact (em2 _).symm
    · have sv : ySvz φ v = false := by
        unfold ySvz
        rw [decide_eq_false (by omega)]
        rfl
      rw [sv, yB2 g1]
      exact (em2 _).symm
/-- what must be so, that stamps are looked at -/
def yCsz (φ : Nat → Nat → Nat) (v : Nat → Int64) (n : Nat) (a1 a2 : Int32) : Bool := decide (yIs a1 4) && (decide (φ 0 1 ≠ 0) && (decide (a2 ≠ 0) && (yAvz φ v 0 n && decide (n ≤ 12))))
theorem yc_askz {φ : Nat → Nat → Nat} (O : yOk φ) {n c0 t : Nat} {μ : wMem} (F : yFC φ μ) (hn : n ≤ 60) {N : Nat} (hN : 100 ≤ N) (a1 a2 : Int32) : fX0_asksStamps N c0 t n a1 a2 μ = if yCsz φ (wAt μ c0 t) n a1 a2 = true then some (0, wSI μ 0 28 (nI n)) else some (-2, μ) := by
  unfold fX0_asksStamps yCsz
  rw [yc_isSlot, yBd, yWL]
  by_cases g1 : yIs a1 4
  · rw [yB1 g1, yc_isFamily O F, yBd, decide_eq_true g1]
    by_cases g2 : φ 0 1 ≠ 0
    · rw [yB1 g2, decide_eq_true g2]
      by_cases g3 : a2 = 0
      · rw [if_pos g3, decide_eq_false (fun h => h g3), if_neg (by simp)]
      · rw [if_neg g3, decide_eq_true g3, yWL]
        refine (yc_askz_loop O F hn N a1 _ n N 0 (by omega) (by omega)).trans ?_
        by_cases g4 : yAvz φ (wAt μ c0 t) 0 n = true
        · rw [if_pos g4, g4]
          show (if nI n ≤ nI 12 then _ else _) = _
          rw [yIf (xI_le (b := 12) (by omega) (by decide))]
          by_cases g5 : n ≤ 12
          · rw [if_pos g5, decide_eq_true g5]
            rfl
          · rw [if_neg g5, decide_eq_false g5, if_neg (by decide)]
        · rw [Bool.not_eq_true] at g4
          rw [g4, if_neg (by decide), if_neg (by simp)]
    · rw [yB2 g2, decide_eq_false g2, if_neg (by simp)]
  · rw [yB2 g1, decide_eq_false g1, if_neg (by simp)]
