set_option maxRecDepth 100000
/-- a world with a new row; the new row as that of the slot at the cell b -/
abbrev wAdd (sp : List wCell) (t n : Nat) : List wCell := sp ++ [Sum.inr (t, n)]
abbrev wMake (sp : List wCell) (b t n : Nat) : List wCell := (wAdd sp t n).set b (Sum.inl (5, [(2, sp.length)]))
theorem wr_newZ {p : Program} {l : Launch} {e : Env} {R : Room} {s : State} {m : MethodId} {args : Array Value} {below : List Frame} {meth : Method} {c : Code} {cc : ByteArray} {own : String} {nL : Nat} {ret : Option FieldType} {D : va_G} {cl : List vw_C} {sp : List wCell} {q : Nat → Nat} {ca : wCA} {A : Nat → Prop} {Q : State → Prop} {kc ks : Nat} {μ : wMem} {lv : List (Nat × Value)} {st : List Value} {ty : ArrayType} {k0 : Int32} (pc : Nat) (C : wC p R s m args meth c cc own nL ret D cl sp q ca A) (hd : decode cc pc = .ok (.newarray ty, 2)) (h0 : k0 < 0) (k : ∀ (H : Heap) (locs : List Loc) (ls : Array Slot), va_P D cl (wWs sp q ca μ) H → va_S A s.heap H locs → lv_has ls nL lv → vx_Note p l e R s m args below meth c H locs kc ks Q (F0 m pc ls st) neg_X (toString k0 : String)) : wJ p l e R s m args below meth c nL D cl sp q ca A Q kc ks μ pc lv (.int k0 :: st) :=
  fun H locs ls h1 h2 h3 => vx_newarrayZ C.1 C.2.1 h0 hd (fun tx htx => by rw [htx]; exact k H locs ls h1 h2 h3)
/-- a call of a method that lets the world grow -/
theorem wr_Vg {p : Program} {l : Launch} {e : Env} {R : Room} {s : State} {m : MethodId} {args : Array Value} {below : List Frame} {meth : Method} {c : Code} {cc : ByteArray} {own : String} {nL : Nat} {ret : Option FieldType} {D : va_G} {cl : List vw_C} {sp : List wCell} {q : Nat → Nat} {ca : wCA} {A : Nat → Prop} {Q : State → Prop} {kc ks : Nat} {μ : wMem} {lv : List (Nat × Value)} {st : List Value} {y : MethodName} {cc1 : ByteArray} {nL1 ix ci N b : Nat} {rm : Room} {As : List Value} {T : u_T} {fs : List (Nat × Nat)} {sp1 : List wCell} {μ1 : wMem} {kc1 ks1 : Nat} (pc : Nat) (rest : List Value) (C : wC p R s m args meth c cc own nL ret D cl sp q ca A) (hd : decode cc pc = .ok (.invokevirtual ix, 3)) (hM : wMg l y cc1 nL1 rm D cl sp sp1 q ca (.ref (q b) :: As) μ μ1) (hO : wOkV y cc1 nL1 none As.length) (hl : Cond.methodLink own ix y ∈ lw_all) (hs : sp[b]? = some (.inl (ci, fs))) (hc : cl[ci]? = some (y.cls, T, N)) (hF : wFit rm nL1 R kc ks kc1 ks1) (hw : (rest.map fun v => v.category).sum ≤ 8) (hst : st = As.reverse ++ .ref (q b) :: rest) (k : ∀ q1 : Nat → Nat, (∀ j, j < sp.length → q1 j = q j) → wC p R s m args meth c cc own nL ret D cl sp1 q1 ca A → wJ p l e R s m args below meth c nL D cl sp1 q1 ca A Q kc1 ks1 μ1 (pc + 3) lv rest) : wJ p l e R s m args below meth c nL D cl sp q ca A Q kc ks μ pc lv st := by
  intro H locs ls h1 h2 h3
  subst hst
  obtain ⟨f1, f2, f3, f4, f5, f6⟩ := hF
  subst f1; subst f2
  obtain ⟨o1, o2, o3, o4, o5⟩ := hO
  have hA := wA_in h2 C.2.2.2.2.2.2.2.2.2.1 C.2.2.2.2.2.2.2.2.2.2.1
  exact va_callv (va_runV (rest := rest) (As := As) ⟨C.1, C.2.1, C.2.2.1, C.2.2.2.1, C.2.2.2.2.1⟩ (hM H.size) (cwV As.length C.2.2.2.2.1 (lw_V hl o1 o2 o3 o4) rfl rfl rfl ⟨rfl, o5⟩ ⟨f3, f4⟩) ⟨w_blind, va_recv C.2.2.2.2.2.1 h1 hc (wWs_get hs), fun U hU hW => ⟨rfl, by rw [hU], by rw [hU]; exact h1, va_K.moved hW.alike C.2.2.2.2.2.1, C.2.2.2.2.2.2.2.2.1, wNest_warm hW C.2.2.2.2.2.2.2.2.2.2.2⟩⟩ rfl rfl h3.1 rfl (lv_room hw) hd ⟨f5, f6⟩) h2 (fun a _ h => hA a h) hA (fun u t H1 locs1 ht hvm hpost hB hz hk hS => by
    rw [ht] at hB
    obtain ⟨a1, a2, a3, a4, a5, a6, a7, a8, a9, a10, a11, a12⟩ := C
    exact k u hpost ⟨a1, a2, a3, a4, a5, a6, a7, a8, hB.2.1, fun i hi => hA _ (hB.2.2 i hi), a11, a12⟩ H1 locs1 ls hB.1 hS h3)
abbrev cX5_make : ByteArray := prog_8_method_2_code
def yX5_make : MethodName := ⟨RX5, "make", "(II)V"⟩
def dkwX5_make_1 : List UInt8 := [160, 0, 9, 28, 188, 10, 167, 0, 6, 28, 188, 11, 181, 0, 7, 177]
abbrev dktX5_make_1 : List UInt8 := dkwX5_make_1 ++ []
def dkwX5_make_0 : List UInt8 := [42, 27, 154, 0, 9, 28, 188, 8, 167, 0, 28, 27, 4, 160, 0, 9, 28, 188, 9, 167, 0, 17, 27, 5]
abbrev dktX5_make_0 : List UInt8 := dkwX5_make_0 ++ dktX5_make_1
theorem dksX5_make_0 : cX5_make.data.toList.drop 0 = dktX5_make_0 := by decide +kernel
theorem dksX5_make_1 : cX5_make.data.toList.drop 24 = dktX5_make_1 := dk_seg dksX5_make_0 24 rfl rfl
theorem dX5_make_0 : decode cX5_make 0 = .ok (.aload_n 0, 1) := dk_42 (dk_at dksX5_make_0 0 rfl rfl)
theorem dX5_make_1 : decode cX5_make 1 = .ok (.iload_n 1, 1) := dk_27 (dk_at dksX5_make_0 1 rfl rfl)
theorem dX5_make_2 : decode cX5_make 2 = .ok (.ifCond .ne 9, 3) := dk_154 0 9 (dk_at dksX5_make_0 2 rfl rfl)
theorem dX5_make_5 : decode cX5_make 5 = .ok (.iload_n 2, 1) := dk_28 (dk_at dksX5_make_0 5 rfl rfl)
theorem dX5_make_6 : decode cX5_make 6 = .ok (.newarray .byte, 2) := dk_188_8 (dk_at dksX5_make_0 6 rfl rfl)
theorem dX5_make_8 : decode cX5_make 8 = .ok (.goto 28, 3) := dk_167 0 28 (dk_at dksX5_make_0 8 rfl rfl)
theorem dX5_make_11 : decode cX5_make 11 = .ok (.iload_n 1, 1) := dk_27 (dk_at dksX5_make_0 11 rfl rfl)
theorem dX5_make_12 : decode cX5_make 12 = .ok (.iconst 1, 1) := dk_4 (dk_at dksX5_make_0 12 rfl rfl)
theorem dX5_make_13 : decode cX5_make 13 = .ok (.if_icmp .ne 9, 3) := dk_160 0 9 (dk_at dksX5_make_0 13 rfl rfl)
theorem dX5_make_16 : decode cX5_make 16 = .ok (.iload_n 2, 1) := dk_28 (dk_at dksX5_make_0 16 rfl rfl)
theorem dX5_make_17 : decode cX5_make 17 = .ok (.newarray .short, 2) := dk_188_9 (dk_at dksX5_make_0 17 rfl rfl)
theorem dX5_make_19 : decode cX5_make 19 = .ok (.goto 17, 3) := dk_167 0 17 (dk_at dksX5_make_0 19 rfl rfl)
theorem dX5_make_22 : decode cX5_make 22 = .ok (.iload_n 1, 1) := dk_27 (dk_at dksX5_make_0 22 rfl rfl)
theorem dX5_make_23 : decode cX5_make 23 = .ok (.iconst 2, 1) := dk_5 (dk_at dksX5_make_0 23 rfl rfl)
theorem dX5_make_24 : decode cX5_make 24 = .ok (.if_icmp .ne 9, 3) := dk_160 0 9 (dk_at dksX5_make_1 0 rfl rfl)
theorem dX5_make_27 : decode cX5_make 27 = .ok (.iload_n 2, 1) := dk_28 (dk_at dksX5_make_1 3 rfl rfl)
theorem dX5_make_28 : decode cX5_make 28 = .ok (.newarray .int, 2) := dk_188_10 (dk_at dksX5_make_1 4 rfl rfl)
theorem dX5_make_30 : decode cX5_make 30 = .ok (.goto 6, 3) := dk_167 0 6 (dk_at dksX5_make_1 6 rfl rfl)
theorem dX5_make_33 : decode cX5_make 33 = .ok (.iload_n 2, 1) := dk_28 (dk_at dksX5_make_1 9 rfl rfl)
theorem dX5_make_34 : decode cX5_make 34 = .ok (.newarray .long, 2) := dk_188_11 (dk_at dksX5_make_1 10 rfl rfl)
theorem dX5_make_36 : decode cX5_make 36 = .ok (.putfield 7, 3) := dk_181 0 7 (dk_at dksX5_make_1 12 rfl rfl)
theorem dX5_make_39 : decode cX5_make 39 = .ok (.return_, 1) := dk_177 (dk_at dksX5_make_1 15 rfl rfl)
theorem okX5_make : wOkV yX5_make cX5_make 3 none 2 := ⟨q1340, q1341, q141, q1342, by decide, by decide, by decide +kernel⟩
set_option maxHeartbeats 4000000 in
theorem tX5_make_byte (l : Launch) {D : va_G} {q : Nat → Nat} {ca : wCA} {sp : List wCell} {b : Nat} {f : Nat × Nat} (hb : sp[b]? = some (.inl (5, [f]))) (hno : wNoRef sp sp.length = true) {k : Int32} (hk0 : ¬ k < 0) (hk : k.toNatClampNeg ≤ 60) (μ : wMem) : wMg l yX5_make cX5_make 3 ({ frames := 0, cells := 1, slots := 60, locals := 0 } : Room) D vwCl sp (wMake sp b 2 k.toNatClampNeg) q ca [.ref (q b), .int 0, .int k] μ (wZ μ sp.length) := by
  have hlt : b < sp.length := (List.getElem?_eq_some_iff.mp hb).1
  have hbn : b ≠ sp.length := Nat.ne_of_lt hlt
  refine wMg_intro (by decide) (Nat.le_of_ble_eq_true rfl) ?_
  intro p e s m args below meth c A hnm C
  refine wr_sub [(0, .ref (q b)), (1, .int 0), (2, .int k)] [0, 1, 2] rfl ?_
  refine wr_aload_n 0 C dX5_make_0 0 rfl rfl ?_
  refine wr_iload_n 1 C dX5_make_1 1 rfl rfl ?_
  refine wr_if_ne 2 11 C dX5_make_2 (by decide) (fun h => absurd rfl h) (fun _ => ?_)
  refine wr_iload_n 5 C dX5_make_5 2 rfl rfl ?_
  refine wr_new_byte (N := k.toNatClampNeg) (kc1 := 1) (ks1 := k.toNatClampNeg) 6 C dX5_make_6 q263 hk0 rfl (Nat.le_trans (Nat.mul_le_mul_right _ hk) (by decide)) rfl (Nat.zero_add _) ⟨Nat.le_of_ble_eq_true rfl, hk⟩ sp.length rfl hno rfl (wAdd sp 2 k.toNatClampNeg) rfl ?_
  intro q1 hq C1
  rw [← hq b hbn]
  refine wr_goto 8 C1 dX5_make_8 (tgt := 36) (by decide) ?_
  refine wr_putR (c0 := b) (x := sp.length) 36 0 (wMake sp b 2 k.toNatClampNeg) C1 dX5_make_36 (by rw [List.getElem?_append_left hlt]; exact hb) rfl in_X5 tyX5 tyX5_ok nmX5 (by decide) (by show 0 < 1; decide) q295 rfl (fun _ => rfl) (fun _ => rfl) rfl ?_
  intro C2
  exact wr_vretG (sp0 := sp) (q0 := q) 39 C2 dX5_make_39 ⟨Nat.le_of_ble_eq_true rfl, hk⟩ rfl (fun j hj => hq j (Nat.ne_of_lt hj))
set_option maxHeartbeats 4000000 in
theorem tX5_make_short (l : Launch) {D : va_G} {q : Nat → Nat} {ca : wCA} {sp : List wCell} {b : Nat} {f : Nat × Nat} (hb : sp[b]? = some (.inl (5, [f]))) (hno : wNoRef sp sp.length = true) {k : Int32} (hk0 : ¬ k < 0) (hk : k.toNatClampNeg ≤ 60) (μ : wMem) : wMg l yX5_make cX5_make 3 ({ frames := 0, cells := 1, slots := 60, locals := 0 } : Room) D vwCl sp (wMake sp b 4 k.toNatClampNeg) q ca [.ref (q b), .int 1, .int k] μ (wZ μ sp.length) := by
  have hlt : b < sp.length := (List.getElem?_eq_some_iff.mp hb).1
  have hbn : b ≠ sp.length := Nat.ne_of_lt hlt
  refine wMg_intro (by decide) (Nat.le_of_ble_eq_true rfl) ?_
  intro p e s m args below meth c A hnm C
  refine wr_sub [(0, .ref (q b)), (1, .int 1), (2, .int k)] [0, 1, 2] rfl ?_
  refine wr_aload_n 0 C dX5_make_0 0 rfl rfl ?_
  refine wr_iload_n 1 C dX5_make_1 1 rfl rfl ?_
  refine wr_if_ne 2 11 C dX5_make_2 (by decide) (fun _ => ?_) (fun h => absurd h (by decide))
  refine wr_iload_n 11 C dX5_make_11 1 rfl rfl ?_
  refine wr_iconst 12 C dX5_make_12 (v := 1) rfl ?_
  refine wr_icmp_ne 13 22 C dX5_make_13 (by decide) (fun h => absurd rfl h) (fun _ => ?_)
  refine wr_iload_n 16 C dX5_make_16 2 rfl rfl ?_
  refine wr_new_short (N := k.toNatClampNeg) (kc1 := 1) (ks1 := k.toNatClampNeg) 17 C dX5_make_17 q1343 hk0 rfl (Nat.le_trans (Nat.mul_le_mul_right _ hk) (by decide)) rfl (Nat.zero_add _) ⟨Nat.le_of_ble_eq_true rfl, hk⟩ sp.length rfl hno rfl (wAdd sp 4 k.toNatClampNeg) rfl ?_
  intro q1 hq C1
  rw [← hq b hbn]
  refine wr_goto 19 C1 dX5_make_19 (tgt := 36) (by decide) ?_
  refine wr_putR (c0 := b) (x := sp.length) 36 0 (wMake sp b 4 k.toNatClampNeg) C1 dX5_make_36 (by rw [List.getElem?_append_left hlt]; exact hb) rfl in_X5 tyX5 tyX5_ok nmX5 (by decide) (by show 0 < 1; decide) q295 rfl (fun _ => rfl) (fun _ => rfl) rfl ?_
  intro C2
  exact wr_vretG (sp0 := sp) (q0 := q) 39 C2 dX5_make_39 ⟨Nat.le_of_ble_eq_true rfl, hk⟩ rfl (fun j hj => hq j (Nat.ne_of_lt hj))
set_option maxHeartbeats 4000000 in
theorem tX5_make_int (l : Launch) {D : va_G} {q : Nat → Nat} {ca : wCA} {sp : List wCell} {b : Nat} {f : Nat × Nat} (hb : sp[b]? = some (.inl (5, [f]))) (hno : wNoRef sp sp.length = true) {k : Int32} (hk0 : ¬ k < 0) (hk : k.toNatClampNeg ≤ 60) (μ : wMem) : wMg l yX5_make cX5_make 3 ({ frames := 0, cells := 1, slots := 60, locals := 0 } : Room) D vwCl sp (wMake sp b 0 k.toNatClampNeg) q ca [.ref (q b), .int 2, .int k] μ (wZ μ sp.length) := by
  have hlt : b < sp.length := (List.getElem?_eq_some_iff.mp hb).1
  have hbn : b ≠ sp.length := Nat.ne_of_lt hlt
  refine wMg_intro (by decide) (Nat.le_of_ble_eq_true rfl) ?_
  intro p e s m args below meth c A hnm C
  refine wr_sub [(0, .ref (q b)), (1, .int 2), (2, .int k)] [0, 1, 2] rfl ?_
  refine wr_aload_n 0 C dX5_make_0 0 rfl rfl ?_
  refine wr_iload_n 1 C dX5_make_1 1 rfl rfl ?_
  refine wr_if_ne 2 11 C dX5_make_2 (by decide) (fun _ => ?_) (fun h => absurd h (by decide))
  refine wr_iload_n 11 C dX5_make_11 1 rfl rfl ?_
  refine wr_iconst 12 C dX5_make_12 (v := 1) rfl ?_
  refine wr_icmp_ne 13 22 C dX5_make_13 (by decide) (fun _ => ?_) (fun h => absurd h (by decide))
  refine wr_iload_n 22 C dX5_make_22 1 rfl rfl ?_
  refine wr_iconst 23 C dX5_make_23 (v := 2) rfl ?_
  refine wr_icmp_ne 24 33 C dX5_make_24 (by decide) (fun h => absurd rfl h) (fun _ => ?_)
  refine wr_iload_n 27 C dX5_make_27 2 rfl rfl ?_
  refine wr_new_int (N := k.toNatClampNeg) (kc1 := 1) (ks1 := k.toNatClampNeg) 28 C dX5_make_28 q252 hk0 rfl (Nat.le_trans (Nat.mul_le_mul_right _ hk) (by decide)) rfl (Nat.zero_add _) ⟨Nat.le_of_ble_eq_true rfl, hk⟩ sp.length rfl hno rfl (wAdd sp 0 k.toNatClampNeg) rfl ?_
  intro q1 hq C1
  rw [← hq b hbn]
  refine wr_goto 30 C1 dX5_make_30 (tgt := 36) (by decide) ?_
  refine wr_putR (c0 := b) (x := sp.length) 36 0 (wMake sp b 0 k.toNatClampNeg) C1 dX5_make_36 (by rw [List.getElem?_append_left hlt]; exact hb) rfl in_X5 tyX5 tyX5_ok nmX5 (by decide) (by show 0 < 1; decide) q295 rfl (fun _ => rfl) (fun _ => rfl) rfl ?_
  intro C2
  exact wr_vretG (sp0 := sp) (q0 := q) 39 C2 dX5_make_39 ⟨Nat.le_of_ble_eq_true rfl, hk⟩ rfl (fun j hj => hq j (Nat.ne_of_lt hj))
set_option maxHeartbeats 4000000 in
theorem tX5_make_long (l : Launch) {D : va_G} {q : Nat → Nat} {ca : wCA} {sp : List wCell} {b : Nat} {f : Nat × Nat} (hb : sp[b]? = some (.inl (5, [f]))) (hno : wNoRef sp sp.length = true) {k : Int32} (hk0 : ¬ k < 0) (hk : k.toNatClampNeg ≤ 60) (μ : wMem) : wMg l yX5_make cX5_make 3 ({ frames := 0, cells := 1, slots := 60, locals := 0 } : Room) D vwCl sp (wMake sp b 1 k.toNatClampNeg) q ca [.ref (q b), .int 3, .int k] μ (wZ μ sp.length) := by
  have hlt : b < sp.length := (List.getElem?_eq_some_iff.mp hb).1
  have hbn : b ≠ sp.length := Nat.ne_of_lt hlt
  refine wMg_intro (by decide) (Nat.le_of_ble_eq_true rfl) ?_
  intro p e s m args below meth c A hnm C
  refine wr_sub [(0, .ref (q b)), (1, .int 3), (2, .int k)] [0, 1, 2] rfl ?_
  refine wr_aload_n 0 C dX5_make_0 0 rfl rfl ?_
  refine wr_iload_n 1 C dX5_make_1 1 rfl rfl ?_
  refine wr_if_ne 2 11 C dX5_make_2 (by decide) (fun _ => ?_) (fun h => absurd h (by decide))
  refine wr_iload_n 11 C dX5_make_11 1 rfl rfl ?_
  refine wr_iconst 12 C dX5_make_12 (v := 1) rfl ?_
  refine wr_icmp_ne 13 22 C dX5_make_13 (by decide) (fun _ => ?_) (fun h => absurd h (by decide))
  refine wr_iload_n 22 C dX5_make_22 1 rfl rfl ?_
  refine wr_iconst 23 C dX5_make_23 (v := 2) rfl ?_
  refine wr_icmp_ne 24 33 C dX5_make_24 (by decide) (fun _ => ?_) (fun h => absurd h (by decide))
  refine wr_iload_n 33 C dX5_make_33 2 rfl rfl ?_
  refine wr_new_long (N := k.toNatClampNeg) (kc1 := 1) (ks1 := k.toNatClampNeg) 34 C dX5_make_34 q301 hk0 rfl (Nat.le_trans (Nat.mul_le_mul_right _ hk) (by decide)) rfl (Nat.zero_add _) ⟨Nat.le_of_ble_eq_true rfl, hk⟩ sp.length rfl hno rfl (wAdd sp 1 k.toNatClampNeg) rfl ?_
  intro q1 hq C1
  rw [← hq b hbn]
  refine wr_putR (c0 := b) (x := sp.length) 36 0 (wMake sp b 1 k.toNatClampNeg) C1 dX5_make_36 (by rw [List.getElem?_append_left hlt]; exact hb) rfl in_X5 tyX5 tyX5_ok nmX5 (by decide) (by show 0 < 1; decide) q295 rfl (fun _ => rfl) (fun _ => rfl) rfl ?_
  intro C2
  exact wr_vretG (sp0 := sp) (q0 := q) 39 C2 dX5_make_39 ⟨Nat.le_of_ble_eq_true rfl, hk⟩ rfl (fun j hj => hq j (Nat.ne_of_lt hj))
theorem neg_text (k : Int32) : ((toString k : String) == notModelled) = false ∧ (stringBytes (stringToUtf16 (toString k))).size ≤ 44 := by
  have h := int32_print k
  refine ⟨?_, ?_⟩
  · rw [beq_eq_false_iff_ne]
    intro e
    rw [e] at h
    exact absurd h (by decide)
  · have b1 := stringBytes_size_le (stringToUtf16 (toString k))
    have b2 := utf16_size_le (toString k)
    omega
set_option maxHeartbeats 4000000 in
theorem tX5_make_neg_byte (l : Launch) (hl : l.stackTraces = false) {D : va_G} {q : Nat → Nat} {ca : wCA} {sp : List wCell} {b : Nat} {f : Nat × Nat} (hb : sp[b]? = some (.inl (5, [f]))) {k : Int32} (hk0 : k < 0) (μ : wMem) : wMX neg_X l yX5_make cX5_make 3 none ({ frames := 8, cells := 3, slots := 54, locals := 10248 } : Room) D vwCl sp q ca [.ref (q b), .int 0, .int k] μ := by
  refine wMX_intro (by decide) (Nat.le_of_ble_eq_true rfl) ?_
  intro p e s m args below meth c A C hZ htb
  refine wr_sub [(0, .ref (q b)), (1, .int 0), (2, .int k)] [0, 1, 2] rfl ?_
  refine wr_aload_n 0 C dX5_make_0 0 rfl rfl ?_
  refine wr_iload_n 1 C dX5_make_1 1 rfl rfl ?_
  refine wr_if_ne 2 11 C dX5_make_2 (by decide) (fun h => absurd rfl h) (fun _ => ?_)
  refine wr_iload_n 5 C dX5_make_5 2 rfl rfl ?_
  exact wr_newZ 6 C dX5_make_6 hk0 (fun H locs ls h1 h2 h3 => wr_msg 6 C hl hZ neg_in neg_good neg_fit (neg_text k).1 (neg_text k).2 ⟨Nat.le_of_ble_eq_true rfl, Nat.le_of_ble_eq_true rfl, Nat.le_of_ble_eq_true rfl, Nat.le_of_ble_eq_true rfl, Nat.le_of_ble_eq_true rfl, Nat.le_of_ble_eq_true rfl⟩ (fun H1 locs1 ls1 q9 ce g1 g2 g3 g4 g5 g6 => wr_outX 6 C htb ⟨Nat.le_of_ble_eq_true rfl, Nat.le_of_ble_eq_true rfl⟩ g1 g2 g4 g5 g6) H locs ls h1 h2 h3)
set_option maxHeartbeats 4000000 in
theorem tX5_make_neg_short (l : Launch) (hl : l.stackTraces = false) {D : va_G} {q : Nat → Nat} {ca : wCA} {sp : List wCell} {b : Nat} {f : Nat × Nat} (hb : sp[b]? = some (.inl (5, [f]))) {k : Int32} (hk0 : k < 0) (μ : wMem) : wMX neg_X l yX5_make cX5_make 3 none ({ frames := 8, cells := 3, slots := 54, locals := 10248 } : Room) D vwCl sp q ca [.ref (q b), .int 1, .int k] μ := by
  refine wMX_intro (by decide) (Nat.le_of_ble_eq_true rfl) ?_
  intro p e s m args below meth c A C hZ htb
  refine wr_sub [(0, .ref (q b)), (1, .int 1), (2, .int k)] [0, 1, 2] rfl ?_
  refine wr_aload_n 0 C dX5_make_0 0 rfl rfl ?_
  refine wr_iload_n 1 C dX5_make_1 1 rfl rfl ?_
  refine wr_if_ne 2 11 C dX5_make_2 (by decide) (fun _ => ?_) (fun h => absurd h (by decide))
  refine wr_iload_n 11 C dX5_make_11 1 rfl rfl ?_
  refine wr_iconst 12 C dX5_make_12 (v := 1) rfl ?_
  refine wr_icmp_ne 13 22 C dX5_make_13 (by decide) (fun h => absurd rfl h) (fun _ => ?_)
  refine wr_iload_n 16 C dX5_make_16 2 rfl rfl ?_
  exact wr_newZ 17 C dX5_make_17 hk0 (fun H locs ls h1 h2 h3 => wr_msg 17 C hl hZ neg_in neg_good neg_fit (neg_text k).1 (neg_text k).2 ⟨Nat.le_of_ble_eq_true rfl, Nat.le_of_ble_eq_true rfl, Nat.le_of_ble_eq_true rfl, Nat.le_of_ble_eq_true rfl, Nat.le_of_ble_eq_true rfl, Nat.le_of_ble_eq_true rfl⟩ (fun H1 locs1 ls1 q9 ce g1 g2 g3 g4 g5 g6 => wr_outX 17 C htb ⟨Nat.le_of_ble_eq_true rfl, Nat.le_of_ble_eq_true rfl⟩ g1 g2 g4 g5 g6) H locs ls h1 h2 h3)
set_option maxHeartbeats 4000000 in
theorem tX5_make_neg_int (l : Launch) (hl : l.stackTraces = false) {D : va_G} {q : Nat → Nat} {ca : wCA} {sp : List wCell} {b : Nat} {f : Nat × Nat} (hb : sp[b]? = some (.inl (5, [f]))) {k : Int32} (hk0 : k < 0) (μ : wMem) : wMX neg_X l yX5_make cX5_make 3 none ({ frames := 8, cells := 3, slots := 54, locals := 10248 } : Room) D vwCl sp q ca [.ref (q b), .int 2, .int k] μ := by
  refine wMX_intro (by decide) (Nat.le_of_ble_eq_true rfl) ?_
  intro p e s m args below meth c A C hZ htb
  refine wr_sub [(0, .ref (q b)), (1, .int 2), (2, .int k)] [0, 1, 2] rfl ?_
  refine wr_aload_n 0 C dX5_make_0 0 rfl rfl ?_
  refine wr_iload_n 1 C dX5_make_1 1 rfl rfl ?_
  refine wr_if_ne 2 11 C dX5_make_2 (by decide) (fun _ => ?_) (fun h => absurd h (by decide))
  refine wr_iload_n 11 C dX5_make_11 1 rfl rfl ?_
  refine wr_iconst 12 C dX5_make_12 (v := 1) rfl ?_
  refine wr_icmp_ne 13 22 C dX5_make_13 (by decide) (fun _ => ?_) (fun h => absurd h (by decide))
  refine wr_iload_n 22 C dX5_make_22 1 rfl rfl ?_
  refine wr_iconst 23 C dX5_make_23 (v := 2) rfl ?_
  refine wr_icmp_ne 24 33 C dX5_make_24 (by decide) (fun h => absurd rfl h) (fun _ => ?_)
  refine wr_iload_n 27 C dX5_make_27 2 rfl rfl ?_
  exact wr_newZ 28 C dX5_make_28 hk0 (fun H locs ls h1 h2 h3 => wr_msg 28 C hl hZ neg_in neg_good neg_fit (neg_text k).1 (neg_text k).2 ⟨Nat.le_of_ble_eq_true rfl, Nat.le_of_ble_eq_true rfl, Nat.le_of_ble_eq_true rfl, Nat.le_of_ble_eq_true rfl, Nat.le_of_ble_eq_true rfl, Nat.le_of_ble_eq_true rfl⟩ (fun H1 locs1 ls1 q9 ce g1 g2 g3 g4 g5 g6 => wr_outX 28 C htb ⟨Nat.le_of_ble_eq_true rfl, Nat.le_of_ble_eq_true rfl⟩ g1 g2 g4 g5 g6) H locs ls h1 h2 h3)
set_option maxHeartbeats 4000000 in
theorem tX5_make_neg_long (l : Launch) (hl : l.stackTraces = false) {D : va_G} {q : Nat → Nat} {ca : wCA} {sp : List wCell} {b : Nat} {f : Nat × Nat} (hb : sp[b]? = some (.inl (5, [f]))) {k : Int32} (hk0 : k < 0) (μ : wMem) : wMX neg_X l yX5_make cX5_make 3 none ({ frames := 8, cells := 3, slots := 54, locals := 10248 } : Room) D vwCl sp q ca [.ref (q b), .int 3, .int k] μ := by
  refine wMX_intro (by decide) (Nat.le_of_ble_eq_true rfl) ?_
  intro p e s m args below meth c A C hZ htb
  refine wr_sub [(0, .ref (q b)), (1, .int 3), (2, .int k)] [0, 1, 2] rfl ?_
  refine wr_aload_n 0 C dX5_make_0 0 rfl rfl ?_
  refine wr_iload_n 1 C dX5_make_1 1 rfl rfl ?_
  refine wr_if_ne 2 11 C dX5_make_2 (by decide) (fun _ => ?_) (fun h => absurd h (by decide))
  refine wr_iload_n 11 C dX5_make_11 1 rfl rfl ?_
  refine wr_iconst 12 C dX5_make_12 (v := 1) rfl ?_
  refine wr_icmp_ne 13 22 C dX5_make_13 (by decide) (fun _ => ?_) (fun h => absurd h (by decide))
  refine wr_iload_n 22 C dX5_make_22 1 rfl rfl ?_
  refine wr_iconst 23 C dX5_make_23 (v := 2) rfl ?_
  refine wr_icmp_ne 24 33 C dX5_make_24 (by decide) (fun _ => ?_) (fun h => absurd h (by decide))
  refine wr_iload_n 33 C dX5_make_33 2 rfl rfl ?_
  exact wr_newZ 34 C dX5_make_34 hk0 (fun H locs ls h1 h2 h3 => wr_msg 34 C hl hZ neg_in neg_good neg_fit (neg_text k).1 (neg_text k).2 ⟨Nat.le_of_ble_eq_true rfl, Nat.le_of_ble_eq_true rfl, Nat.le_of_ble_eq_true rfl, Nat.le_of_ble_eq_true rfl, Nat.le_of_ble_eq_true rfl, Nat.le_of_ble_eq_true rfl⟩ (fun H1 locs1 ls1 q9 ce g1 g2 g3 g4 g5 g6 => wr_outX 34 C htb ⟨Nat.le_of_ble_eq_true rfl, Nat.le_of_ble_eq_true rfl⟩ g1 g2 g4 g5 g6) H locs ls h1 h2 h3)
/-- the kind of a row of a width; what is a width; a length that a row may have -/
def wKind (w : Int32) : Nat := if w = 0 then 2 else if w = 1 then 4 else if w = 2 then 0 else 1
def ok_w (w : Int32) : Bool := w == 0 || w == 1 || w == 2 || w == 3
def ok_len (k : Int32) : Bool := decide (¬ k < 0) && decide (k.toNatClampNeg ≤ 60)
def ok_neg (k : Int32) : Bool := decide (k < 0)
theorem ok_w4 {w : Int32} (h : ok_w w = true) : w = 0 ∨ w = 1 ∨ w = 2 ∨ w = 3 := by
  simpa [ok_w, or_assoc] using h
theorem tX5_make (l : Launch) {D : va_G} {q : Nat → Nat} {ca : wCA} {sp : List wCell} {b : Nat} {f : Nat × Nat} (hb : sp[b]? = some (.inl (5, [f]))) (hno : wNoRef sp sp.length = true) {w k : Int32} (hw : ok_w w = true) (hk : ok_len k = true) (μ : wMem) : wMg l yX5_make cX5_make 3 ({ frames := 0, cells := 1, slots := 60, locals := 0 } : Room) D vwCl sp (wMake sp b (wKind w) k.toNatClampNeg) q ca [.ref (q b), .int w, .int k] μ (wZ μ sp.length) := by
  simp only [ok_len, Bool.and_eq_true, decide_eq_true_eq] at hk
  rcases ok_w4 hw with rfl | rfl | rfl | rfl
  · exact tX5_make_byte l hb hno hk.1 hk.2 μ
  · exact tX5_make_short l hb hno hk.1 hk.2 μ
  · exact tX5_make_int l hb hno hk.1 hk.2 μ
  · exact tX5_make_long l hb hno hk.1 hk.2 μ
theorem tX5_make_neg (l : Launch) (hl : l.stackTraces = false) {D : va_G} {q : Nat → Nat} {ca : wCA} {sp : List wCell} {b : Nat} {f : Nat × Nat} (hb : sp[b]? = some (.inl (5, [f]))) {w k : Int32} (hw : ok_w w = true) (hk : ok_neg k = true) (μ : wMem) : wMX neg_X l yX5_make cX5_make 3 none ({ frames := 8, cells := 3, slots := 54, locals := 10248 } : Room) D vwCl sp q ca [.ref (q b), .int w, .int k] μ := by
  simp only [ok_neg, decide_eq_true_eq] at hk
  rcases ok_w4 hw with rfl | rfl | rfl | rfl
  · exact tX5_make_neg_byte l hl hb hk μ
  · exact tX5_make_neg_short l hl hb hk μ
  · exact tX5_make_neg_int l hl hb hk μ
  · exact tX5_make_neg_long l hl hb hk μ
/-- a contract of a method with handlers that returns an int and lets the world grow -/
def wMgW (l : Launch) (y : MethodName) (cc : ByteArray) (nL : Nat) (ret : Option FieldType) (hh : List (Nat × Nat × Nat × Nat)) (rm : Room) (D : va_G) (cl : List vw_C) (sp sp1 : List wCell) (q : Nat → Nat) (ca : wCA) (av : List Value) (μ : wMem) (r0 : Int32 × wMem) : Prop := ∀ sz : Nat, Met l y (wsW_ y cc nL ret hh) rm (va_Pc av (fun U => U.heap.size = sz ∧ va_P D cl (wWs sp q ca μ) U.heap ∧ va_K D cl (wTy ca) U ∧ wInj sp q ∧ wNest U)) (va_Qi (fun (v : Int32) (u : Nat → Nat) => v = r0.1 ∧ ∀ j, j < sp.length → u j = q j) (fun (u : Nat → Nat) t => va_P D cl (wWs sp1 u ca r0.2) t.heap ∧ wInj sp1 u ∧ ∀ i, i < sp1.length → (wA sp q sz) (u i)) (wA sp q sz)) rm.cells rm.slots (wA sp q sz)
theorem wMgW_intro {l : Launch} {y : MethodName} {cc : ByteArray} {nL : Nat} {ret : Option FieldType} {hh : List (Nat × Nat × Nat × Nat)} {rm : Room} {D : va_G} {cl : List vw_C} {sp sp1 : List wCell} {q : Nat → Nat} {ca : wCA} {av : List Value} {μ : wMem} {r0 : Int32 × wMem} (hy : plainName y.cls = true) (hlen : (lg_sl av).length ≤ nL) (h : ∀ (p : Program) (e : Env) (s : State) (m : MethodId) (args : Array Value) (below : List Frame) (meth : Method) (c : Code) (A : Nat → Prop), wC p rm s m args meth c cc y.cls nL ret D cl sp q ca A → wJ p l e rm s m args below meth c nL D cl sp q ca A (MQ below (va_Qi (fun (v : Int32) (u : Nat → Nat) => v = r0.1 ∧ ∀ j, j < sp.length → u j = q j) (fun (u : Nat → Nat) t => va_P D cl (wWs sp1 u ca r0.2) t.heap ∧ wInj sp1 u ∧ ∀ i, i < sp1.length → A (u i)) A) args s rm.cells rm.slots A) 0 0 μ 0 (lv_args 0 av) []) : wMgW l y cc nL ret hh rm D cl sp sp1 q ca av μ r0 := by
  intro sz
  refine va_MetW (cc := cc) (maxL := nL) (ret := ret) (hh := hh) hy rfl ?_
  intro p e s m args below meth c s₁ B hml hv
  obtain ⟨rfl, hsz, hP, hK, hI, hNe⟩ := hv
  have hts0 := atoms_spec (ws := wsW_ y cc nL ret hh) B.pre
  have hts : ∀ w ∈ lw_all, w.before _ s = true := fun w h => hts0 w (List.mem_cons_of_mem _ h)
  have hown : s.vm.findClass y.cls = some m.cls := findClass_of_methodNamed B.named
  subst hsz
  have hl := lv_entry av (n := nL) hlen
  rw [lg_entry_eq]
  exact h p e s m av.toArray below meth c (wA sp q s.heap.size) ⟨B.exec, B.bytes, hml, hown, hts, hK, B.notSynchronized, B.returns, hI, fun i hi => Or.inl ⟨i, hi, rfl⟩, fun a ha => Or.inr ha, hNe⟩ s.heap [] _ hP va_S.rf hl
theorem wr_iretG {p : Program} {R : Room} {s : State} {m : MethodId} {args : Array Value} {meth : Method} {c : Code} {cc : ByteArray} {own : String} {nL : Nat} {D : va_G} {cl : List vw_C} {sp : List wCell} {q : Nat → Nat} {ca : wCA} {A : Nat → Prop} {l : Launch} {e : Env} {below : List Frame} {kc ks : Nat} {μ : wMem} {lv : List (Nat × Value)} {sp0 : List wCell} {q0 : Nat → Nat} {r0 : Int32 × wMem} {v : Int32} (pc : Nat) (C : wC p R s m args meth c cc own nL (some .int) D cl sp q ca A) (hd : decode cc pc = .ok (.ireturn, 1)) (hk : kc ≤ R.cells ∧ ks ≤ R.slots) (h : (v, μ) = r0) (hq : ∀ j, j < sp0.length → q j = q0 j) : wJ p l e R s m args below meth c nL D cl sp q ca A (MQ below (va_Qi (fun (v : Int32) (u : Nat → Nat) => v = r0.1 ∧ ∀ j, j < sp0.length → u j = q0 j) (fun (u : Nat → Nat) t => va_P D cl (wWs sp u ca r0.2) t.heap ∧ wInj sp u ∧ ∀ i, i < sp.length → A (u i)) A) args s R.cells R.slots A) kc ks μ pc lv [.int v] :=
  fun H locs ls h1 h2 h3 => W.widen hk.1 hk.2 (W.iret C.1 C.2.1 C.2.2.2.2.2.2.2.1 (fun t ht hW => ⟨⟨v, q, rfl, ⟨by rw [← h], hq⟩, by rw [← h]; show va_P D cl (wWs sp q ca μ) t.heap; rw [ht]; exact h1, C.2.2.2.2.2.2.2.2.1, C.2.2.2.2.2.2.2.2.2.1⟩, h2.F ht⟩) h2.2.2 hd C.2.2.2.2.2.2.1)
