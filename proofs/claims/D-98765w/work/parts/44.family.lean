set_option maxRecDepth 100000
abbrev cX1_init : ByteArray := prog_4_method_1_code
def yX1_init : MethodName := ⟨RX1, "<init>", "()V"⟩
def dkwX1_init_2 : List UInt8 := [181, 0, 27, 177]
abbrev dktX1_init_2 : List UInt8 := dkwX1_init_2 ++ []
def dkwX1_init_1 : List UInt8 := [181, 0, 18, 42, 5, 188, 10, 181, 0, 21, 42, 5, 188, 10, 181, 0, 24, 42, 16, 40, 188, 10]
abbrev dktX1_init_1 : List UInt8 := dkwX1_init_1 ++ dktX1_init_2
def dkwX1_init_0 : List UInt8 := [42, 183, 0, 3, 42, 16, 6, 188, 10, 181, 0, 9, 42, 16, 6, 188, 10, 181, 0, 15, 42, 5, 188, 10]
abbrev dktX1_init_0 : List UInt8 := dkwX1_init_0 ++ dktX1_init_1
theorem dksX1_init_0 : cX1_init.data.toList.drop 0 = dktX1_init_0 := by decide +kernel
theorem dksX1_init_1 : cX1_init.data.toList.drop 24 = dktX1_init_1 := dk_seg dksX1_init_0 24 rfl rfl
theorem dksX1_init_2 : cX1_init.data.toList.drop 46 = dktX1_init_2 := dk_seg dksX1_init_1 22 rfl rfl
theorem dX1_init_0 : decode cX1_init 0 = .ok (.aload_n 0, 1) := dk_42 (dk_at dksX1_init_0 0 rfl rfl)
theorem dX1_init_1 : decode cX1_init 1 = .ok (.invokespecial 3, 3) := dk_183 0 3 (dk_at dksX1_init_0 1 rfl rfl)
theorem dX1_init_4 : decode cX1_init 4 = .ok (.aload_n 0, 1) := dk_42 (dk_at dksX1_init_0 4 rfl rfl)
theorem dX1_init_5 : decode cX1_init 5 = .ok (.bipush 6, 2) := dk_16 6 (dk_at dksX1_init_0 5 rfl rfl)
theorem dX1_init_7 : decode cX1_init 7 = .ok (.newarray .int, 2) := dk_188_10 (dk_at dksX1_init_0 7 rfl rfl)
theorem dX1_init_9 : decode cX1_init 9 = .ok (.putfield 9, 3) := dk_181 0 9 (dk_at dksX1_init_0 9 rfl rfl)
theorem dX1_init_12 : decode cX1_init 12 = .ok (.aload_n 0, 1) := dk_42 (dk_at dksX1_init_0 12 rfl rfl)
theorem dX1_init_13 : decode cX1_init 13 = .ok (.bipush 6, 2) := dk_16 6 (dk_at dksX1_init_0 13 rfl rfl)
theorem dX1_init_15 : decode cX1_init 15 = .ok (.newarray .int, 2) := dk_188_10 (dk_at dksX1_init_0 15 rfl rfl)
theorem dX1_init_17 : decode cX1_init 17 = .ok (.putfield 15, 3) := dk_181 0 15 (dk_at dksX1_init_0 17 rfl rfl)
theorem dX1_init_20 : decode cX1_init 20 = .ok (.aload_n 0, 1) := dk_42 (dk_at dksX1_init_0 20 rfl rfl)
theorem dX1_init_21 : decode cX1_init 21 = .ok (.iconst 2, 1) := dk_5 (dk_at dksX1_init_0 21 rfl rfl)
theorem dX1_init_22 : decode cX1_init 22 = .ok (.newarray .int, 2) := dk_188_10 (dk_at dksX1_init_0 22 rfl rfl)
theorem dX1_init_24 : decode cX1_init 24 = .ok (.putfield 18, 3) := dk_181 0 18 (dk_at dksX1_init_1 0 rfl rfl)
theorem dX1_init_27 : decode cX1_init 27 = .ok (.aload_n 0, 1) := dk_42 (dk_at dksX1_init_1 3 rfl rfl)
theorem dX1_init_28 : decode cX1_init 28 = .ok (.iconst 2, 1) := dk_5 (dk_at dksX1_init_1 4 rfl rfl)
theorem dX1_init_29 : decode cX1_init 29 = .ok (.newarray .int, 2) := dk_188_10 (dk_at dksX1_init_1 5 rfl rfl)
theorem dX1_init_31 : decode cX1_init 31 = .ok (.putfield 21, 3) := dk_181 0 21 (dk_at dksX1_init_1 7 rfl rfl)
theorem dX1_init_34 : decode cX1_init 34 = .ok (.aload_n 0, 1) := dk_42 (dk_at dksX1_init_1 10 rfl rfl)
theorem dX1_init_35 : decode cX1_init 35 = .ok (.iconst 2, 1) := dk_5 (dk_at dksX1_init_1 11 rfl rfl)
theorem dX1_init_36 : decode cX1_init 36 = .ok (.newarray .int, 2) := dk_188_10 (dk_at dksX1_init_1 12 rfl rfl)
theorem dX1_init_38 : decode cX1_init 38 = .ok (.putfield 24, 3) := dk_181 0 24 (dk_at dksX1_init_1 14 rfl rfl)
theorem dX1_init_41 : decode cX1_init 41 = .ok (.aload_n 0, 1) := dk_42 (dk_at dksX1_init_1 17 rfl rfl)
theorem dX1_init_42 : decode cX1_init 42 = .ok (.bipush 40, 2) := dk_16 40 (dk_at dksX1_init_1 18 rfl rfl)
theorem dX1_init_44 : decode cX1_init 44 = .ok (.newarray .int, 2) := dk_188_10 (dk_at dksX1_init_1 20 rfl rfl)
theorem dX1_init_46 : decode cX1_init 46 = .ok (.putfield 27, 3) := dk_181 0 27 (dk_at dksX1_init_2 0 rfl rfl)
theorem dX1_init_49 : decode cX1_init 49 = .ok (.return_, 1) := dk_177 (dk_at dksX1_init_2 3 rfl rfl)
/-- a cell refers to no cell n -/
def wNoRefC (d : wCell) (n : Nat) : Bool := match d with
  | .inl o => o.2.all (fun f => !(f.1 == 2 && f.2 == n))
  | .inr a => !(decide (4 < a.1) && !wRno a.1 n)
theorem wNoRef_iff {sp : List wCell} {n : Nat} : wNoRef sp n = true ↔ ∀ d ∈ sp, wNoRefC d n = true := by
  unfold wNoRef
  rw [List.all_eq_true]
  exact Iff.rfl
/-- a world that refers to none but its own cells -/
def wClosed (sp : List wCell) : Prop := ∀ n, sp.length ≤ n → wNoRef sp n = true
theorem wClosed.at {sp : List wCell} (h : wClosed sp) {n : Nat} (hn : sp.length = n) : wNoRef sp n = true := h n (Nat.le_of_eq hn)
theorem wClosed.add {sp : List wCell} {t n : Nat} (h : wClosed sp) (ht : t ≤ 4) : wClosed (sp ++ [Sum.inr (t, n)]) := fun m hm => by
  rw [wNoRef_iff]
  intro d hd
  rw [List.length_append] at hm
  rcases List.mem_append.mp hd with hd | hd
  · exact (wNoRef_iff.mp (h m (by simp at hm; omega))) d hd
  · rw [List.mem_singleton.mp hd]
    show (!(decide (4 < t) && _)) = true
    rw [decide_eq_false (by omega)]
    rfl
theorem wClosed.set {sp : List wCell} {b ci : Nat} {fs : List (Nat × Nat)} (h : wClosed sp) (hf : ∀ f ∈ fs, f.1 = 2 → f.2 < sp.length) : wClosed (sp.set b (Sum.inl (ci, fs))) := fun m hm => by
  rw [wNoRef_iff]
  intro d hd
  rw [List.length_set] at hm
  rcases List.mem_or_eq_of_mem_set hd with hd | hd
  · exact (wNoRef_iff.mp (h m hm)) d hd
  · rw [hd]
    show (fs.all fun f => !(f.1 == 2 && f.2 == m)) = true
    rw [List.all_eq_true]
    intro f hfm
    have := hf f hfm
    cases hb : (f.1 == 2 && f.2 == m) with
    | false => rfl
    | true =>
      simp only [Bool.and_eq_true, beq_iff_eq] at hb
      have := this hb.1
      omega
/-- the fields of a family whose rows are made one behind another from the cell n on -/
abbrev wFf0 (n : Nat) : List (Nat × Nat) := [(0, 0), (0, 0), (0, 0), (0, 0), (0, 0), (0, 0), (0, 0), (0, 0), (3, 0), (3, 0), (3, 0), (3, 0), (3, 0), (3, 0)]
abbrev wFf1 (n : Nat) : List (Nat × Nat) := [(0, 0), (0, 0), (0, 0), (0, 0), (0, 0), (0, 0), (0, 0), (0, 0), (2, n + 0), (3, 0), (3, 0), (3, 0), (3, 0), (3, 0)]
abbrev wFf2 (n : Nat) : List (Nat × Nat) := [(0, 0), (0, 0), (0, 0), (0, 0), (0, 0), (0, 0), (0, 0), (0, 0), (2, n + 0), (2, n + 1), (3, 0), (3, 0), (3, 0), (3, 0)]
abbrev wFf3 (n : Nat) : List (Nat × Nat) := [(0, 0), (0, 0), (0, 0), (0, 0), (0, 0), (0, 0), (0, 0), (0, 0), (2, n + 0), (2, n + 1), (2, n + 2), (3, 0), (3, 0), (3, 0)]
abbrev wFf4 (n : Nat) : List (Nat × Nat) := [(0, 0), (0, 0), (0, 0), (0, 0), (0, 0), (0, 0), (0, 0), (0, 0), (2, n + 0), (2, n + 1), (2, n + 2), (2, n + 3), (3, 0), (3, 0)]
abbrev wFf5 (n : Nat) : List (Nat × Nat) := [(0, 0), (0, 0), (0, 0), (0, 0), (0, 0), (0, 0), (0, 0), (0, 0), (2, n + 0), (2, n + 1), (2, n + 2), (2, n + 3), (2, n + 4), (3, 0)]
abbrev wFf6 (n : Nat) : List (Nat × Nat) := [(0, 0), (0, 0), (0, 0), (0, 0), (0, 0), (0, 0), (0, 0), (0, 0), (2, n + 0), (2, n + 1), (2, n + 2), (2, n + 3), (2, n + 4), (2, n + 5)]
abbrev wFw0 (sp : List wCell) (b : Nat) : List wCell := sp
abbrev wFw1 (sp : List wCell) (b : Nat) : List wCell := (wFw0 sp b ++ [Sum.inr (0, 6)]).set b (Sum.inl (1, wFf1 sp.length))
abbrev wFw2 (sp : List wCell) (b : Nat) : List wCell := (wFw1 sp b ++ [Sum.inr (0, 6)]).set b (Sum.inl (1, wFf2 sp.length))
abbrev wFw3 (sp : List wCell) (b : Nat) : List wCell := (wFw2 sp b ++ [Sum.inr (0, 2)]).set b (Sum.inl (1, wFf3 sp.length))
abbrev wFw4 (sp : List wCell) (b : Nat) : List wCell := (wFw3 sp b ++ [Sum.inr (0, 2)]).set b (Sum.inl (1, wFf4 sp.length))
abbrev wFw5 (sp : List wCell) (b : Nat) : List wCell := (wFw4 sp b ++ [Sum.inr (0, 2)]).set b (Sum.inl (1, wFf5 sp.length))
abbrev wFw6 (sp : List wCell) (b : Nat) : List wCell := (wFw5 sp b ++ [Sum.inr (0, 40)]).set b (Sum.inl (1, wFf6 sp.length))
theorem wFw0_len {sp : List wCell} {b : Nat} : (wFw0 sp b).length = sp.length + 0 := by
  rfl
theorem wFw0_at {sp : List wCell} {b : Nat} (hb : sp[b]? = some (.inl (1, wFf0 sp.length))) : (wFw0 sp b)[b]? = some (.inl (1, wFf0 sp.length)) := hb
theorem wFw0_cl {sp : List wCell} {b : Nat} (h : wClosed sp) : wClosed (wFw0 sp b) := h
theorem wFw1_len {sp : List wCell} {b : Nat} : (wFw1 sp b).length = sp.length + 1 := by
  show ((wFw0 sp b ++ [_]).set b _).length = _
  rw [List.length_set, List.length_append, wFw0_len]
  rfl
theorem wFw1_at {sp : List wCell} {b : Nat} (hb : sp[b]? = some (.inl (1, wFf0 sp.length))) : (wFw1 sp b)[b]? = some (.inl (1, wFf1 sp.length)) := by
  have hlt : b < sp.length := (List.getElem?_eq_some_iff.mp hb).1
  show ((wFw0 sp b ++ [_]).set b _)[b]? = _
  rw [List.getElem?_set_self (by rw [List.length_append, wFw0_len]; omega)]
theorem wFw1_cl {sp : List wCell} {b : Nat} (h : wClosed sp) : wClosed (wFw1 sp b) := by
  refine ((wFw0_cl h).add (t := 0) (by decide)).set ?_
  intro f hf h2
  rw [List.length_append, wFw0_len]
  simp only [List.mem_cons, List.not_mem_nil, or_false] at hf
  rcases hf with rfl | rfl | rfl | rfl | rfl | rfl | rfl | rfl | rfl | rfl | rfl | rfl | rfl | rfl
  all_goals first | exact absurd h2 (by decide) | (show _ < _ ; simp; try omega)
theorem wFw2_len {sp : List wCell} {b : Nat} : (wFw2 sp b).length = sp.length + 2 := by
  show ((wFw1 sp b ++ [_]).set b _).length = _
  rw [List.length_set, List.length_append, wFw1_len]
  rfl
theorem wFw2_at {sp : List wCell} {b : Nat} (hb : sp[b]? = some (.inl (1, wFf0 sp.length))) : (wFw2 sp b)[b]? = some (.inl (1, wFf2 sp.length)) := by
  have hlt : b < sp.length := (List.getElem?_eq_some_iff.mp hb).1
  show ((wFw1 sp b ++ [_]).set b _)[b]? = _
  rw [List.getElem?_set_self (by rw [List.length_append, wFw1_len]; omega)]
theorem wFw2_cl {sp : List wCell} {b : Nat} (h : wClosed sp) : wClosed (wFw2 sp b) := by
  refine ((wFw1_cl h).add (t := 0) (by decide)).set ?_
  intro f hf h2
  rw [List.length_append, wFw1_len]
  simp only [List.mem_cons, List.not_mem_nil, or_false] at hf
  rcases hf with rfl | rfl | rfl | rfl | rfl | rfl | rfl | rfl | rfl | rfl | rfl | rfl | rfl | rfl
  all_goals first | exact absurd h2 (by decide) | (show _ < _ ; simp; try omega)
theorem wFw3_len {sp : List wCell} {b : Nat} : (wFw3 sp b).length = sp.length + 3 := by
  show ((wFw2 sp b ++ [_]).set b _).length = _
  rw [List.length_set, List.length_append, wFw2_len]
  rfl
theorem wFw3_at {sp : List wCell} {b : Nat} (hb : sp[b]? = some (.inl (1, wFf0 sp.length))) : (wFw3 sp b)[b]? = some (.inl (1, wFf3 sp.length)) := by
  have hlt : b < sp.length := (List.getElem?_eq_some_iff.mp hb).1
  show ((wFw2 sp b ++ [_]).set b _)[b]? = _
  rw [List.getElem?_set_self (by rw [List.length_append, wFw2_len]; omega)]
theorem wFw3_cl {sp : List wCell} {b : Nat} (h : wClosed sp) : wClosed (wFw3 sp b) := by
  refine ((wFw2_cl h).add (t := 0) (by decide)).set ?_
  intro f hf h2
  rw [List.length_append, wFw2_len]
  simp only [List.mem_cons, List.not_mem_nil, or_false] at hf
  rcases hf with rfl | rfl | rfl | rfl | rfl | rfl | rfl | rfl | rfl | rfl | rfl | rfl | rfl | rfl
  all_goals first | exact absurd h2 (by decide) | (show _ < _ ; simp; try omega)
theorem wFw4_len {sp : List wCell} {b : Nat} : (wFw4 sp b).length = sp.length + 4 := by
  show ((wFw3 sp b ++ [_]).set b _).length = _
  rw [List.length_set, List.length_append, wFw3_len]
  rfl
theorem wFw4_at {sp : List wCell} {b : Nat} (hb : sp[b]? = some (.inl (1, wFf0 sp.length))) : (wFw4 sp b)[b]? = some (.inl (1, wFf4 sp.length)) := by
  have hlt : b < sp.length := (List.getElem?_eq_some_iff.mp hb).1
  show ((wFw3 sp b ++ [_]).set b _)[b]? = _
  rw [List.getElem?_set_self (by rw [List.length_append, wFw3_len]; omega)]
theorem wFw4_cl {sp : List wCell} {b : Nat} (h : wClosed sp) : wClosed (wFw4 sp b) := by
  refine ((wFw3_cl h).add (t := 0) (by decide)).set ?_
  intro f hf h2
  rw [List.length_append, wFw3_len]
  simp only [List.mem_cons, List.not_mem_nil, or_false] at hf
  rcases hf with rfl | rfl | rfl | rfl | rfl | rfl | rfl | rfl | rfl | rfl | rfl | rfl | rfl | rfl
  all_goals first | exact absurd h2 (by decide) | (show _ < _ ; simp; try omega)
theorem wFw5_len {sp : List wCell} {b : Nat} : (wFw5 sp b).length = sp.length + 5 := by
  show ((wFw4 sp b ++ [_]).set b _).length = _
  rw [List.length_set, List.length_append, wFw4_len]
  rfl
theorem wFw5_at {sp : List wCell} {b : Nat} (hb : sp[b]? = some (.inl (1, wFf0 sp.length))) : (wFw5 sp b)[b]? = some (.inl (1, wFf5 sp.length)) := by
  have hlt : b < sp.length := (List.getElem?_eq_some_iff.mp hb).1
  show ((wFw4 sp b ++ [_]).set b _)[b]? = _
  rw [List.getElem?_set_self (by rw [List.length_append, wFw4_len]; omega)]
theorem wFw5_cl {sp : List wCell} {b : Nat} (h : wClosed sp) : wClosed (wFw5 sp b) := by
  refine ((wFw4_cl h).add (t := 0) (by decide)).set ?_
  intro f hf h2
  rw [List.length_append, wFw4_len]
  simp only [List.mem_cons, List.not_mem_nil, or_false] at hf
  rcases hf with rfl | rfl | rfl | rfl | rfl | rfl | rfl | rfl | rfl | rfl | rfl | rfl | rfl | rfl
  all_goals first | exact absurd h2 (by decide) | (show _ < _ ; simp; try omega)
theorem wFw6_len {sp : List wCell} {b : Nat} : (wFw6 sp b).length = sp.length + 6 := by
  show ((wFw5 sp b ++ [_]).set b _).length = _
  rw [List.length_set, List.length_append, wFw5_len]
  rfl
theorem wFw6_at {sp : List wCell} {b : Nat} (hb : sp[b]? = some (.inl (1, wFf0 sp.length))) : (wFw6 sp b)[b]? = some (.inl (1, wFf6 sp.length)) := by
  have hlt : b < sp.length := (List.getElem?_eq_some_iff.mp hb).1
  show ((wFw5 sp b ++ [_]).set b _)[b]? = _
  rw [List.getElem?_set_self (by rw [List.length_append, wFw5_len]; omega)]
theorem wFw6_cl {sp : List wCell} {b : Nat} (h : wClosed sp) : wClosed (wFw6 sp b) := by
  refine ((wFw5_cl h).add (t := 0) (by decide)).set ?_
  intro f hf h2
  rw [List.length_append, wFw5_len]
  simp only [List.mem_cons, List.not_mem_nil, or_false] at hf
  rcases hf with rfl | rfl | rfl | rfl | rfl | rfl | rfl | rfl | rfl | rfl | rfl | rfl | rfl | rfl
  all_goals first | exact absurd h2 (by decide) | (show _ < _ ; simp; try omega)
set_option maxHeartbeats 8000000 in
theorem tX1_init (l : Launch) {D : va_G} {q : Nat → Nat} {ca : wCA} {sp : List wCell} {b : Nat} (hb : sp[b]? = some (.inl (1, wFf0 sp.length))) (hcl : wClosed sp) (μ : wMem) : wMg l yX1_init cX1_init 1 ({ frames := 1, cells := 6, slots := 58, locals := 20 } : Room) D vwCl sp (wFw6 sp b) q ca [.ref (q b)] μ (wZ (wZ (wZ (wZ (wZ (wZ μ (sp.length + 0)) (sp.length + 1)) (sp.length + 2)) (sp.length + 3)) (sp.length + 4)) (sp.length + 5)) := by
  have hlt : b < sp.length := (List.getElem?_eq_some_iff.mp hb).1
  refine wMg_intro (by decide) (Nat.le_of_ble_eq_true rfl) ?_
  intro p e s m args below meth c A hnm C
  refine wr_sub [(0, .ref (q b))] [0] rfl ?_
  refine wr_aload_n 0 C dX1_init_0 0 rfl rfl ?_
  refine wr_objInit 1 C dX1_init_1 q181 q174 q175 ⟨Nat.le_of_ble_eq_true rfl, Nat.le_of_ble_eq_true rfl⟩ (Nat.le_of_ble_eq_true rfl) ?_
  refine wr_aload_n 4 C dX1_init_4 0 rfl rfl ?_
  refine wr_bipush 5 C dX1_init_5 (v := 6) rfl ?_
  refine wr_new_int (N := 6) (kc1 := 1) (ks1 := 6) 7 C dX1_init_7 q252 (by decide) rfl (Nat.le_of_ble_eq_true rfl) rfl rfl ⟨Nat.le_of_ble_eq_true rfl, Nat.le_of_ble_eq_true rfl⟩ (sp.length + 0) (wFw0_len (b := b)) ((wFw0_cl (b := b) hcl).at (wFw0_len (b := b))) rfl (wFw0 sp b ++ [Sum.inr (0, 6)]) rfl ?_
  intro q1 hq1 C1
  rw [← hq1 b (by omega)]
  refine wr_putFR (c0 := b) (x := sp.length + 0) 9 8 (wFw1 sp b) C1 dX1_init_9 (by rw [List.getElem?_append_left (by rw [wFw0_len (b := b)]; omega)]; exact wFw0_at hb) rfl in_X1 tyX1 tyX1_ok nmX1 (by decide) (Nat.le_of_ble_eq_true rfl) q206 rfl (hnm.trans rfl) rfl (fun _ => rfl) (fun _ => rfl) rfl ?_
  clear C
  intro C
  refine wr_aload_n 12 C dX1_init_12 0 rfl rfl ?_
  refine wr_bipush 13 C dX1_init_13 (v := 6) rfl ?_
  refine wr_new_int (N := 6) (kc1 := 2) (ks1 := 12) 15 C dX1_init_15 q252 (by decide) rfl (Nat.le_of_ble_eq_true rfl) rfl rfl ⟨Nat.le_of_ble_eq_true rfl, Nat.le_of_ble_eq_true rfl⟩ (sp.length + 1) (wFw1_len (b := b)) ((wFw1_cl (b := b) hcl).at (wFw1_len (b := b))) rfl (wFw1 sp b ++ [Sum.inr (0, 6)]) rfl ?_
  intro q2 hq2 C2
  rw [← hq2 b (by omega)]
  refine wr_putFR (c0 := b) (x := sp.length + 1) 17 9 (wFw2 sp b) C2 dX1_init_17 (by rw [List.getElem?_append_left (by rw [wFw1_len (b := b)]; omega)]; exact wFw1_at hb) rfl in_X1 tyX1 tyX1_ok nmX1 (by decide) (Nat.le_of_ble_eq_true rfl) q209 rfl (hnm.trans rfl) rfl (fun _ => rfl) (fun _ => rfl) rfl ?_
  clear C
  intro C
  refine wr_aload_n 20 C dX1_init_20 0 rfl rfl ?_
  refine wr_iconst 21 C dX1_init_21 (v := 2) rfl ?_
  refine wr_new_int (N := 2) (kc1 := 3) (ks1 := 14) 22 C dX1_init_22 q252 (by decide) rfl (Nat.le_of_ble_eq_true rfl) rfl rfl ⟨Nat.le_of_ble_eq_true rfl, Nat.le_of_ble_eq_true rfl⟩ (sp.length + 2) (wFw2_len (b := b)) ((wFw2_cl (b := b) hcl).at (wFw2_len (b := b))) rfl (wFw2 sp b ++ [Sum.inr (0, 2)]) rfl ?_
  intro q3 hq3 C3
  rw [← hq3 b (by omega)]
  refine wr_putFR (c0 := b) (x := sp.length + 2) 24 10 (wFw3 sp b) C3 dX1_init_24 (by rw [List.getElem?_append_left (by rw [wFw2_len (b := b)]; omega)]; exact wFw2_at hb) rfl in_X1 tyX1 tyX1_ok nmX1 (by decide) (Nat.le_of_ble_eq_true rfl) q212 rfl (hnm.trans rfl) rfl (fun _ => rfl) (fun _ => rfl) rfl ?_
  clear C
  intro C
  refine wr_aload_n 27 C dX1_init_27 0 rfl rfl ?_
  refine wr_iconst 28 C dX1_init_28 (v := 2) rfl ?_
  refine wr_new_int (N := 2) (kc1 := 4) (ks1 := 16) 29 C dX1_init_29 q252 (by decide) rfl (Nat.le_of_ble_eq_true rfl) rfl rfl ⟨Nat.le_of_ble_eq_true rfl, Nat.le_of_ble_eq_true rfl⟩ (sp.length + 3) (wFw3_len (b := b)) ((wFw3_cl (b := b) hcl).at (wFw3_len (b := b))) rfl (wFw3 sp b ++ [Sum.inr (0, 2)]) rfl ?_
  intro q4 hq4 C4
  rw [← hq4 b (by omega)]
  refine wr_putFR (c0 := b) (x := sp.length + 3) 31 11 (wFw4 sp b) C4 dX1_init_31 (by rw [List.getElem?_append_left (by rw [wFw3_len (b := b)]; omega)]; exact wFw3_at hb) rfl in_X1 tyX1 tyX1_ok nmX1 (by decide) (Nat.le_of_ble_eq_true rfl) q215 rfl (hnm.trans rfl) rfl (fun _ => rfl) (fun _ => rfl) rfl ?_
  clear C
  intro C
  refine wr_aload_n 34 C dX1_init_34 0 rfl rfl ?_
  refine wr_iconst 35 C dX1_init_35 (v := 2) rfl ?_
  refine wr_new_int (N := 2) (kc1 := 5) (ks1 := 18) 36 C dX1_init_36 q252 (by decide) rfl (Nat.le_of_ble_eq_true rfl) rfl rfl ⟨Nat.le_of_ble_eq_true rfl, Nat.le_of_ble_eq_true rfl⟩ (sp.length + 4) (wFw4_len (b := b)) ((wFw4_cl (b := b) hcl).at (wFw4_len (b := b))) rfl (wFw4 sp b ++ [Sum.inr (0, 2)]) rfl ?_
  intro q5 hq5 C5
  rw [← hq5 b (by omega)]
  refine wr_putFR (c0 := b) (x := sp.length + 4) 38 12 (wFw5 sp b) C5 dX1_init_38 (by rw [List.getElem?_append_left (by rw [wFw4_len (b := b)]; omega)]; exact wFw4_at hb) rfl in_X1 tyX1 tyX1_ok nmX1 (by decide) (Nat.le_of_ble_eq_true rfl) q218 rfl (hnm.trans rfl) rfl (fun _ => rfl) (fun _ => rfl) rfl ?_
  clear C
  intro C
  refine wr_aload_n 41 C dX1_init_41 0 rfl rfl ?_
  refine wr_bipush 42 C dX1_init_42 (v := 40) rfl ?_
  refine wr_new_int (N := 40) (kc1 := 6) (ks1 := 58) 44 C dX1_init_44 q252 (by decide) rfl (Nat.le_of_ble_eq_true rfl) rfl rfl ⟨Nat.le_of_ble_eq_true rfl, Nat.le_of_ble_eq_true rfl⟩ (sp.length + 5) (wFw5_len (b := b)) ((wFw5_cl (b := b) hcl).at (wFw5_len (b := b))) rfl (wFw5 sp b ++ [Sum.inr (0, 40)]) rfl ?_
  intro q6 hq6 C6
  rw [← hq6 b (by omega)]
  refine wr_putFR (c0 := b) (x := sp.length + 5) 46 13 (wFw6 sp b) C6 dX1_init_46 (by rw [List.getElem?_append_left (by rw [wFw5_len (b := b)]; omega)]; exact wFw5_at hb) rfl in_X1 tyX1 tyX1_ok nmX1 (by decide) (Nat.le_of_ble_eq_true rfl) q221 rfl (hnm.trans rfl) rfl (fun _ => rfl) (fun _ => rfl) rfl ?_
  clear C
  intro C
  exact wr_vretG (sp0 := sp) (q0 := q) 49 C dX1_init_49 ⟨Nat.le_of_ble_eq_true rfl, Nat.le_of_ble_eq_true rfl⟩ rfl (fun j hj => (hq6 j (by omega)).trans ((hq5 j (by omega)).trans ((hq4 j (by omega)).trans ((hq3 j (by omega)).trans ((hq2 j (by omega)).trans (hq1 j (by omega)))))))
