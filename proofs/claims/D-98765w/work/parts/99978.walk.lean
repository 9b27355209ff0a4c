set_option maxRecDepth 100000
/-! part 99978: walks by stamps without names, abstract: forward lists and lists of what is to come are the same but for their order -/
def yQm (n : Nat) (f : Nat → List (Nat × Nat)) : List (Nat × Nat) := (List.range n).flatMap f
theorem yQm_0 (f : Nat → List (Nat × Nat)) : yQm 0 f = [] := rfl
theorem yQm_s (n : Nat) (f : Nat → List (Nat × Nat)) : yQm (n + 1) f = yQm n f ++ f n := by
  unfold yQm
  rw [List.range_succ, List.flatMap_append]
  simp
theorem yQm_congr {n : Nat} {f g : Nat → List (Nat × Nat)} (h : ∀ k, k < n → f k = g k) : yQm n f = yQm n g := by
  induction n with
  | zero => rfl
  | succ n ih => rw [yQm_s, yQm_s, ih (fun k hk => h k (by omega)), h n (by omega)]
theorem yQm_perm {n : Nat} {f g : Nat → List (Nat × Nat)} (h : ∀ k, k < n → (f k).Perm (g k)) : (yQm n f).Perm (yQm n g) := by
  induction n with
  | zero => exact List.Perm.refl _
  | succ n ih => rw [yQm_s, yQm_s]; exact (ih (fun k hk => h k (by omega))).append (h n (by omega))
theorem yQm_nil {n : Nat} {f : Nat → List (Nat × Nat)} (h : ∀ k, k < n → f k = []) : yQm n f = [] := by
  induction n with
  | zero => rfl
  | succ n ih => rw [yQm_s, ih (fun k hk => h k (by omega)), h n (by omega)]; rfl
theorem yPerm4 (a b c d : List (Nat × Nat)) : ((a ++ b) ++ (c ++ d)).Perm ((a ++ c) ++ (b ++ d)) := by
  rw [List.append_assoc, List.append_assoc]
  refine List.Perm.append_left a ?_
  rw [← List.append_assoc, ← List.append_assoc]
  exact List.Perm.append_right d List.perm_append_comm
theorem yQm_add (n : Nat) (f g : Nat → List (Nat × Nat)) : (yQm n (fun k => f k ++ g k)).Perm (yQm n f ++ yQm n g) := by
  induction n with
  | zero => exact List.Perm.refl _
  | succ n ih =>
    rw [yQm_s, yQm_s, yQm_s]
    exact (List.Perm.append_right _ ih).trans (yPerm4 _ _ _ _)
theorem yQm_swap (n m : Nat) (f : Nat → Nat → List (Nat × Nat)) : (yQm n (fun a => yQm m (f a))).Perm (yQm m (fun b => yQm n (fun a => f a b))) := by
  induction n with
  | zero =>
    rw [yQm_0, yQm_nil (fun k _ => yQm_0 _)]
  | succ n ih =>
    rw [yQm_s]
    have e : (fun b => yQm (n + 1) (fun a => f a b)) = fun b => yQm n (fun a => f a b) ++ f n b := funext fun b => yQm_s n _
    rw [e]
    exact (List.Perm.append_right _ ih).trans (yQm_add m _ _).symm
theorem yQm_split (n m : Nat) (f : Nat → List (Nat × Nat)) : yQm (n + m) f = yQm n f ++ yQm m (fun k => f (n + k)) := by
  induction m with
  | zero => rw [yQm_0, List.append_nil]; rfl
  | succ m ih => rw [← Nat.add_assoc, yQm_s, yQm_s, ih, List.append_assoc]
theorem yQm_mul (n m : Nat) (f : Nat → List (Nat × Nat)) : yQm (n * m) f = yQm n (fun c => yQm m (fun p => f (c * m + p))) := by
  induction n with
  | zero => rw [Nat.zero_mul]; rfl
  | succ n ih => rw [Nat.succ_mul, yQm_split, yQm_s, ih]
/-- only the first ones count -/
theorem yQm_cut {n m : Nat} (h : n ≤ m) {f : Nat → List (Nat × Nat)} (z : ∀ k, n ≤ k → f k = []) : yQm m f = yQm n f := by
  obtain ⟨d, rfl⟩ : ∃ d, m = n + d := ⟨m - n, by omega⟩
  rw [yQm_split, yQm_nil (fun k _ => z (n + k) (by omega)), List.append_nil]
/-- each of the one with each of the other: risks added -/
def yPr2 (l : List Nat) (B : List (Nat × Nat)) : List (Nat × Nat) := l.flatMap fun r => B.map fun x => (x.1, r + x.2)
theorem yPr2_nil (B : List (Nat × Nat)) : yPr2 [] B = [] := rfl
theorem yPr2_app (l m : List Nat) (B : List (Nat × Nat)) : yPr2 (l ++ m) B = yPr2 l B ++ yPr2 m B := by unfold yPr2; rw [List.flatMap_append]
theorem yPr2_none (l : List Nat) : yPr2 l [] = [] := by
  unfold yPr2
  induction l with
  | nil => rfl
  | cons a l ih => rw [List.flatMap_cons, ih]; rfl
theorem yPr2_add (l : List Nat) (B C : List (Nat × Nat)) : (yPr2 l (B ++ C)).Perm (yPr2 l B ++ yPr2 l C) := by
  induction l with
  | nil => exact List.Perm.refl _
  | cons a l ih =>
    show ((B ++ C).map (fun x => (x.1, a + x.2)) ++ yPr2 l (B ++ C)).Perm ((B.map (fun x => (x.1, a + x.2)) ++ yPr2 l B) ++ (C.map (fun x => (x.1, a + x.2)) ++ yPr2 l C))
    rw [List.map_append]
    exact (List.Perm.append_left _ ih).trans (yPerm4 _ _ _ _)
theorem yPr2_sm (l : List Nat) (n : Nat) (f : Nat → List (Nat × Nat)) : (yPr2 l (yQm n f)).Perm (yQm n (fun k => yPr2 l (f k))) := by
  induction n with
  | zero => rw [yQm_0, yQm_0, yPr2_none]
  | succ n ih => rw [yQm_s, yQm_s]; exact (yPr2_add l _ _).trans (List.Perm.append_right _ ih)
theorem yPr2_perm (l : List Nat) {B C : List (Nat × Nat)} (h : B.Perm C) : (yPr2 l B).Perm (yPr2 l C) := by
  induction l with
  | nil => exact List.Perm.refl _
  | cons a l ih => exact (h.map _).append ih
theorem yPr2_mv (l : List Nat) (ρ : Nat) (B : List (Nat × Nat)) : yPr2 (l.map (· + ρ)) B = yPr2 l (B.map fun x => (x.1, ρ + x.2)) := by
  unfold yPr2
  induction l with
  | nil => rfl
  | cons a l ih =>
    rw [List.map_cons, List.flatMap_cons, List.flatMap_cons, ih, List.map_map]
    congr 1
    apply List.map_congr_left
    intro x _
    show (x.1, a + ρ + x.2) = (x.1, a + (ρ + x.2))
    rw [Nat.add_assoc]
theorem yPr2_0 (B : List (Nat × Nat)) : yPr2 [0] B = B := by
  unfold yPr2
  rw [List.flatMap_cons, List.flatMap_nil, List.append_nil]
  have : (fun x : Nat × Nat => (x.1, 0 + x.2)) = id := funext fun x => by rw [Nat.zero_add]; rfl
  rw [this, List.map_id]
/-- lists by places, one of them made longer -/
def yAp (f : Nat → List Nat) (κ : Nat) (l : List Nat) : Nat → List Nat := fun k => if k = κ then f k ++ l else f k
def yTt (n : Nat) (f : Nat → List Nat) (B : Nat → List (Nat × Nat)) : List (Nat × Nat) := yQm n fun κ => yPr2 (f κ) (B κ)
theorem yTt_ap {n κ : Nat} (h : κ < n) (f : Nat → List Nat) (l : List Nat) (B : Nat → List (Nat × Nat)) : (yTt n (yAp f κ l) B).Perm (yTt n f B ++ yPr2 l (B κ)) := by
  have e : (fun k => yPr2 (yAp f κ l k) (B k)) = fun k => yPr2 (f k) (B k) ++ (if k = κ then yPr2 l (B k) else []) := funext fun k => by
    unfold yAp
    by_cases q : k = κ
    · rw [if_pos q, if_pos q, yPr2_app]
    · rw [if_neg q, if_neg q, List.append_nil]
  have z : ∀ m, yQm m (fun k => if k = κ then yPr2 l (B k) else []) = if κ < m then yPr2 l (B κ) else [] := fun m => by
    induction m with
    | zero => rw [yQm_0, if_neg (by omega)]
    | succ m ih =>
      rw [yQm_s, ih]
      by_cases q : κ < m
      · rw [if_pos q, if_neg (by omega), if_pos (by omega), List.append_nil]
      · by_cases g : m = κ
        · rw [if_neg q, if_pos g, if_pos (by omega), g]; rfl
        · rw [if_neg q, if_neg g, if_neg (by omega)]; rfl
  unfold yTt
  rw [e]
  refine (yQm_add n _ _).trans ?_
  rw [z, if_pos h]
/-- the acts from a scene at a stamp: which can be, where they lead, what they dare -/
def yEs (ok : Nat → Bool) (nx ri : Nat → Nat) (L : List Nat) : Nat → (Nat → List Nat) → Nat → List Nat
  | 0, f => f
  | e + 1, f => if ok e = true then yAp (yEs ok nx ri L e f) (nx e) (L.map (· + ri e)) else yEs ok nx ri L e f
theorem yEs_tt {N : Nat} {ok : Nat → Bool} {nx ri : Nat → Nat} (hn : ∀ e, ok e = true → nx e < N) (L : List Nat) (B : Nat → List (Nat × Nat)) (f : Nat → List Nat) : ∀ m, (yTt N (yEs ok nx ri L m f) B).Perm (yTt N f B ++ yQm m fun e => if ok e = true then yPr2 L ((B (nx e)).map fun x => (x.1, ri e + x.2)) else [])
  | 0 => by rw [yQm_0, List.append_nil]; exact List.Perm.refl _
  | m + 1 => by
    have ih := yEs_tt (ri := ri) hn L B f m
    rw [yQm_s]
    show (yTt N (if ok m = true then yAp (yEs ok nx ri L m f) (nx m) (L.map (· + ri m)) else yEs ok nx ri L m f) B).Perm _
    by_cases q : ok m = true
    · rw [if_pos q, if_pos q, ← List.append_assoc]
      refine (yTt_ap (hn m q) _ _ B).trans ?_
      rw [yPr2_mv]
      exact List.Perm.append_right _ ih
    · rw [if_neg q, if_neg q, List.append_nil]
      exact ih
/-- a stamp on: all scenes -/
def ySt1 (ok : Nat → Nat → Bool) (nx ri : Nat → Nat → Nat) (F : Nat → List Nat) : Nat → Nat → List Nat
  | 0 => fun _ => []
  | s + 1 => yEs (ok s) (nx s) (ri s) (F s) 100 (ySt1 ok nx ri F s)
theorem ySt1_tt {N : Nat} {ok : Nat → Nat → Bool} {nx ri : Nat → Nat → Nat} (hn : ∀ s e, ok s e = true → nx s e < N) (F : Nat → List Nat) (B : Nat → List (Nat × Nat)) : ∀ m, (yTt N (ySt1 ok nx ri F m) B).Perm (yQm m fun s => yPr2 (F s) (yQm 100 fun e => if ok s e = true then (B (nx s e)).map fun x => (x.1, ri s e + x.2) else []))
  | 0 => by
    rw [yQm_0]
    unfold yTt ySt1
    rw [yQm_nil (fun k _ => yPr2_nil _)]
  | m + 1 => by
    have ih := ySt1_tt (ri := ri) hn F B m
    rw [yQm_s]
    refine (yEs_tt (hn m) (F m) B (ySt1 ok nx ri F m) 100).trans (ih.append ?_)
    refine List.Perm.trans ?_ (yPr2_sm (F m) 100 _).symm
    refine yQm_perm fun e _ => ?_
    by_cases q : ok m e = true
    · rw [if_pos q, if_pos q]
    · rw [if_neg q, if_neg q, yPr2_none]
/-- the sum by tens is the sum by pairs, in another order -/
theorem yQm_100 {P : Nat} (hP : P ≤ 6) (g : Nat → List (Nat × Nat)) (z : ∀ e, ¬ (e % 10 < P ∧ e / 10 ≤ P) → g e = []) : (yQm 100 g).Perm (yQm P fun p => yQm (P + 1) fun c => g (10 * c + p)) := by
  have e1 : yQm 100 g = yQm 10 (fun c => yQm 10 (fun p => g (c * 10 + p))) := yQm_mul 10 10 g
  rw [e1]
  refine (yQm_swap 10 10 (fun c p => g (c * 10 + p))).trans ?_
  have cut1 : yQm 10 (fun p => yQm 10 (fun c => g (c * 10 + p))) = yQm P (fun p => yQm 10 (fun c => g (c * 10 + p))) := by
    have b1 : yQm 10 (fun p => yQm 10 (fun c => g (c * 10 + p))) = yQm P (fun p => yQm 10 (fun c => g (c * 10 + p))) ++ yQm (10 - P) (fun k => yQm 10 (fun c => g (c * 10 + (P + k)))) := by
      rw [← yQm_split, show P + (10 - P) = 10 by omega]
    rw [b1, yQm_nil (n := 10 - P) (fun k hk => yQm_nil (fun c hc => z _ (by omega))), List.append_nil]
  rw [cut1]
  refine yQm_perm fun p hp => ?_
  have b2 : yQm 10 (fun c => g (c * 10 + p)) = yQm (P + 1) (fun c => g (c * 10 + p)) ++ yQm (10 - (P + 1)) (fun k => g ((P + 1 + k) * 10 + p)) := by
    rw [← yQm_split, show P + 1 + (10 - (P + 1)) = 10 by omega]
  rw [b2, yQm_nil (n := 10 - (P + 1)) (fun k hk => z _ (by omega)), List.append_nil]
  rw [yQm_congr (fun c _ => by rw [Nat.mul_comm])]
