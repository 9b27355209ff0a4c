set_option maxRecDepth 100000
theorem wFc_byte {ca : wCA} {D : va_G} {cl : List vw_C} {s : State} (h : va_K D cl (wTy ca) s) : s.vm.findClass "[B" = some (ca.1 2) := (h.2 2 (ca.1 2, .byte) rfl).2
theorem wFc_short {ca : wCA} {D : va_G} {cl : List vw_C} {s : State} (h : va_K D cl (wTy ca) s) : s.vm.findClass "[S" = some (ca.1 4) := (h.2 4 (ca.1 4, .short) rfl).2
theorem wFc_int {ca : wCA} {D : va_G} {cl : List vw_C} {s : State} (h : va_K D cl (wTy ca) s) : s.vm.findClass "[I" = some (ca.1 0) := (h.2 0 (ca.1 0, .int) rfl).2
theorem wFc_long {ca : wCA} {D : va_G} {cl : List vw_C} {s : State} (h : va_K D cl (wTy ca) s) : s.vm.findClass "[J" = some (ca.1 1) := (h.2 1 (ca.1 1, .long) rfl).2
theorem wNar8 {x : Int32} : vp_nar .byte x.toInt8.toInt32 = x.toInt8.toInt32 := by
  show x.toInt8.toInt32.toInt8.toInt32 = x.toInt8.toInt32
  simp
theorem wNar16 {x : Int32} : vp_nar .short x.toInt16.toInt32 = x.toInt16.toInt32 := by
  show x.toInt16.toInt32.toInt16.toInt32 = x.toInt16.toInt32
  simp
abbrev cX5_size : ByteArray := prog_8_method_3_code
def yX5_size : MethodName := ⟨RX5, "size", "()I"⟩
def dkwX5_size_3 : List UInt8 := [190, 172]
abbrev dktX5_size_3 : List UInt8 := dkwX5_size_3 ++ []
def dkwX5_size_2 : List UInt8 := [193, 0, 17, 153, 0, 14, 42, 180, 0, 7, 192, 0, 17, 190, 167, 0, 11, 42, 180, 0, 7, 192, 0, 19]
abbrev dktX5_size_2 : List UInt8 := dkwX5_size_2 ++ dktX5_size_3
def dkwX5_size_1 : List UInt8 := [180, 0, 7, 193, 0, 15, 153, 0, 14, 42, 180, 0, 7, 192, 0, 15, 190, 167, 0, 32, 42, 180, 0, 7]
abbrev dktX5_size_1 : List UInt8 := dkwX5_size_1 ++ dktX5_size_2
def dkwX5_size_0 : List UInt8 := [42, 180, 0, 7, 193, 0, 13, 153, 0, 14, 42, 180, 0, 7, 192, 0, 13, 190, 167, 0, 53, 42]
abbrev dktX5_size_0 : List UInt8 := dkwX5_size_0 ++ dktX5_size_1
theorem dksX5_size_0 : cX5_size.data.toList.drop 0 = dktX5_size_0 := by decide +kernel
theorem dksX5_size_1 : cX5_size.data.toList.drop 22 = dktX5_size_1 := dk_seg dksX5_size_0 22 rfl rfl
theorem dksX5_size_2 : cX5_size.data.toList.drop 46 = dktX5_size_2 := dk_seg dksX5_size_1 24 rfl rfl
theorem dksX5_size_3 : cX5_size.data.toList.drop 70 = dktX5_size_3 := dk_seg dksX5_size_2 24 rfl rfl
theorem dX5_size_0 : decode cX5_size 0 = .ok (.aload_n 0, 1) := dk_42 (dk_at dksX5_size_0 0 rfl rfl)
theorem dX5_size_1 : decode cX5_size 1 = .ok (.getfield 7, 3) := dk_180 0 7 (dk_at dksX5_size_0 1 rfl rfl)
theorem dX5_size_4 : decode cX5_size 4 = .ok (.instanceof 13, 3) := dk_193 0 13 (dk_at dksX5_size_0 4 rfl rfl)
theorem dX5_size_7 : decode cX5_size 7 = .ok (.ifCond .eq 14, 3) := dk_153 0 14 (dk_at dksX5_size_0 7 rfl rfl)
theorem dX5_size_10 : decode cX5_size 10 = .ok (.aload_n 0, 1) := dk_42 (dk_at dksX5_size_0 10 rfl rfl)
theorem dX5_size_11 : decode cX5_size 11 = .ok (.getfield 7, 3) := dk_180 0 7 (dk_at dksX5_size_0 11 rfl rfl)
theorem dX5_size_14 : decode cX5_size 14 = .ok (.checkcast 13, 3) := dk_192 0 13 (dk_at dksX5_size_0 14 rfl rfl)
theorem dX5_size_17 : decode cX5_size 17 = .ok (.arraylength, 1) := dk_190 (dk_at dksX5_size_0 17 rfl rfl)
theorem dX5_size_18 : decode cX5_size 18 = .ok (.goto 53, 3) := dk_167 0 53 (dk_at dksX5_size_0 18 rfl rfl)
theorem dX5_size_21 : decode cX5_size 21 = .ok (.aload_n 0, 1) := dk_42 (dk_at dksX5_size_0 21 rfl rfl)
theorem dX5_size_22 : decode cX5_size 22 = .ok (.getfield 7, 3) := dk_180 0 7 (dk_at dksX5_size_1 0 rfl rfl)
theorem dX5_size_25 : decode cX5_size 25 = .ok (.instanceof 15, 3) := dk_193 0 15 (dk_at dksX5_size_1 3 rfl rfl)
theorem dX5_size_28 : decode cX5_size 28 = .ok (.ifCond .eq 14, 3) := dk_153 0 14 (dk_at dksX5_size_1 6 rfl rfl)
theorem dX5_size_31 : decode cX5_size 31 = .ok (.aload_n 0, 1) := dk_42 (dk_at dksX5_size_1 9 rfl rfl)
theorem dX5_size_32 : decode cX5_size 32 = .ok (.getfield 7, 3) := dk_180 0 7 (dk_at dksX5_size_1 10 rfl rfl)
theorem dX5_size_35 : decode cX5_size 35 = .ok (.checkcast 15, 3) := dk_192 0 15 (dk_at dksX5_size_1 13 rfl rfl)
theorem dX5_size_38 : decode cX5_size 38 = .ok (.arraylength, 1) := dk_190 (dk_at dksX5_size_1 16 rfl rfl)
theorem dX5_size_39 : decode cX5_size 39 = .ok (.goto 32, 3) := dk_167 0 32 (dk_at dksX5_size_1 17 rfl rfl)
theorem dX5_size_42 : decode cX5_size 42 = .ok (.aload_n 0, 1) := dk_42 (dk_at dksX5_size_1 20 rfl rfl)
theorem dX5_size_43 : decode cX5_size 43 = .ok (.getfield 7, 3) := dk_180 0 7 (dk_at dksX5_size_1 21 rfl rfl)
theorem dX5_size_46 : decode cX5_size 46 = .ok (.instanceof 17, 3) := dk_193 0 17 (dk_at dksX5_size_2 0 rfl rfl)
theorem dX5_size_49 : decode cX5_size 49 = .ok (.ifCond .eq 14, 3) := dk_153 0 14 (dk_at dksX5_size_2 3 rfl rfl)
theorem dX5_size_52 : decode cX5_size 52 = .ok (.aload_n 0, 1) := dk_42 (dk_at dksX5_size_2 6 rfl rfl)
theorem dX5_size_53 : decode cX5_size 53 = .ok (.getfield 7, 3) := dk_180 0 7 (dk_at dksX5_size_2 7 rfl rfl)
theorem dX5_size_56 : decode cX5_size 56 = .ok (.checkcast 17, 3) := dk_192 0 17 (dk_at dksX5_size_2 10 rfl rfl)
theorem dX5_size_59 : decode cX5_size 59 = .ok (.arraylength, 1) := dk_190 (dk_at dksX5_size_2 13 rfl rfl)
theorem dX5_size_60 : decode cX5_size 60 = .ok (.goto 11, 3) := dk_167 0 11 (dk_at dksX5_size_2 14 rfl rfl)
theorem dX5_size_63 : decode cX5_size 63 = .ok (.aload_n 0, 1) := dk_42 (dk_at dksX5_size_2 17 rfl rfl)
theorem dX5_size_64 : decode cX5_size 64 = .ok (.getfield 7, 3) := dk_180 0 7 (dk_at dksX5_size_2 18 rfl rfl)
theorem dX5_size_67 : decode cX5_size 67 = .ok (.checkcast 19, 3) := dk_192 0 19 (dk_at dksX5_size_2 21 rfl rfl)
theorem dX5_size_70 : decode cX5_size 70 = .ok (.arraylength, 1) := dk_190 (dk_at dksX5_size_3 0 rfl rfl)
theorem dX5_size_71 : decode cX5_size 71 = .ok (.ireturn, 1) := dk_172 (dk_at dksX5_size_3 1 rfl rfl)
set_option maxHeartbeats 4000000 in
theorem tX5_size_byte (l : Launch) {D : va_G} {q : Nat → Nat} {ca : wCA} {sp : List wCell} {b c0 n : Nat} (hb : sp[b]? = some (.inl (5, [(2, c0)]))) (hs : sp[c0]? = some (.inr (2, n))) (μ : wMem) : wMi l yX5_size cX5_size 1 (some .int) ({ frames := 0, cells := 0, slots := 0, locals := 0 } : Room) D vwCl sp q ca [.ref (q b)] μ (Int32.ofNat n, μ) := by
  refine wMi_intro (by decide) (Nat.le_of_ble_eq_true rfl) ?_
  intro p e s m args below meth c A C
  refine wr_sub [(0, .ref (q b))] [0] rfl ?_
  refine wr_aload_n 0 C dX5_size_0 0 rfl rfl ?_
  refine wr_getR 1 0 C dX5_size_1 hb rfl in_X5 (by decide) rfl q295 ?_
  refine wr_instA 4 C dX5_size_4 q1066 hs (wFc_byte C.2.2.2.2.2.1) ?_
  refine wr_if_eq 7 21 C dX5_size_7 (by decide) (fun h => absurd h (by decide)) (fun _ => ?_)
  refine wr_aload_n 10 C dX5_size_10 0 rfl rfl ?_
  refine wr_getR 11 0 C dX5_size_11 hb rfl in_X5 (by decide) rfl q295 ?_
  refine wr_castA 14 C dX5_size_14 q1066 hs (wFc_byte C.2.2.2.2.2.1) ?_
  refine wr_len 17 C dX5_size_17 2 hs rfl ?_
  refine wr_goto 18 C dX5_size_18 (tgt := 71) (by decide) ?_
  exact wr_iret 71 C dX5_size_71 ⟨Nat.le_refl _, Nat.le_refl _⟩ rfl
set_option maxHeartbeats 4000000 in
theorem tX5_size_short (l : Launch) {D : va_G} {q : Nat → Nat} {ca : wCA} {sp : List wCell} {b c0 n : Nat} (hb : sp[b]? = some (.inl (5, [(2, c0)]))) (hs : sp[c0]? = some (.inr (4, n))) (μ : wMem) : wMi l yX5_size cX5_size 1 (some .int) ({ frames := 0, cells := 0, slots := 0, locals := 0 } : Room) D vwCl sp q ca [.ref (q b)] μ (Int32.ofNat n, μ) := by
  refine wMi_intro (by decide) (Nat.le_of_ble_eq_true rfl) ?_
  intro p e s m args below meth c A C
  refine wr_sub [(0, .ref (q b))] [0] rfl ?_
  refine wr_aload_n 0 C dX5_size_0 0 rfl rfl ?_
  refine wr_getR 1 0 C dX5_size_1 hb rfl in_X5 (by decide) rfl q295 ?_
  refine wr_instNo 4 C dX5_size_4 q1066 hs (wFc_short C.2.2.2.2.2.1) (by decide) ?_
  refine wr_if_eq 7 21 C dX5_size_7 (by decide) (fun _ => ?_) (fun h => absurd rfl h)
  refine wr_aload_n 21 C dX5_size_21 0 rfl rfl ?_
  refine wr_getR 22 0 C dX5_size_22 hb rfl in_X5 (by decide) rfl q295 ?_
  refine wr_instA 25 C dX5_size_25 q1067 hs (wFc_short C.2.2.2.2.2.1) ?_
  refine wr_if_eq 28 42 C dX5_size_28 (by decide) (fun h => absurd h (by decide)) (fun _ => ?_)
  refine wr_aload_n 31 C dX5_size_31 0 rfl rfl ?_
  refine wr_getR 32 0 C dX5_size_32 hb rfl in_X5 (by decide) rfl q295 ?_
  refine wr_castA 35 C dX5_size_35 q1067 hs (wFc_short C.2.2.2.2.2.1) ?_
  refine wr_len 38 C dX5_size_38 4 hs rfl ?_
  refine wr_goto 39 C dX5_size_39 (tgt := 71) (by decide) ?_
  exact wr_iret 71 C dX5_size_71 ⟨Nat.le_refl _, Nat.le_refl _⟩ rfl
set_option maxHeartbeats 4000000 in
theorem tX5_size_int (l : Launch) {D : va_G} {q : Nat → Nat} {ca : wCA} {sp : List wCell} {b c0 n : Nat} (hb : sp[b]? = some (.inl (5, [(2, c0)]))) (hs : sp[c0]? = some (.inr (0, n))) (μ : wMem) : wMi l yX5_size cX5_size 1 (some .int) ({ frames := 0, cells := 0, slots := 0, locals := 0 } : Room) D vwCl sp q ca [.ref (q b)] μ (Int32.ofNat n, μ) := by
  refine wMi_intro (by decide) (Nat.le_of_ble_eq_true rfl) ?_
  intro p e s m args below meth c A C
  refine wr_sub [(0, .ref (q b))] [0] rfl ?_
  refine wr_aload_n 0 C dX5_size_0 0 rfl rfl ?_
  refine wr_getR 1 0 C dX5_size_1 hb rfl in_X5 (by decide) rfl q295 ?_
  refine wr_instNo 4 C dX5_size_4 q1066 hs (wFc_int C.2.2.2.2.2.1) (by decide) ?_
  refine wr_if_eq 7 21 C dX5_size_7 (by decide) (fun _ => ?_) (fun h => absurd rfl h)
  refine wr_aload_n 21 C dX5_size_21 0 rfl rfl ?_
  refine wr_getR 22 0 C dX5_size_22 hb rfl in_X5 (by decide) rfl q295 ?_
  refine wr_instNo 25 C dX5_size_25 q1067 hs (wFc_int C.2.2.2.2.2.1) (by decide) ?_
  refine wr_if_eq 28 42 C dX5_size_28 (by decide) (fun _ => ?_) (fun h => absurd rfl h)
  refine wr_aload_n 42 C dX5_size_42 0 rfl rfl ?_
  refine wr_getR 43 0 C dX5_size_43 hb rfl in_X5 (by decide) rfl q295 ?_
  refine wr_instA 46 C dX5_size_46 q1068 hs (wFc_int C.2.2.2.2.2.1) ?_
  refine wr_if_eq 49 63 C dX5_size_49 (by decide) (fun h => absurd h (by decide)) (fun _ => ?_)
  refine wr_aload_n 52 C dX5_size_52 0 rfl rfl ?_
  refine wr_getR 53 0 C dX5_size_53 hb rfl in_X5 (by decide) rfl q295 ?_
  refine wr_castA 56 C dX5_size_56 q1068 hs (wFc_int C.2.2.2.2.2.1) ?_
  refine wr_len 59 C dX5_size_59 0 hs rfl ?_
  refine wr_goto 60 C dX5_size_60 (tgt := 71) (by decide) ?_
  exact wr_iret 71 C dX5_size_71 ⟨Nat.le_refl _, Nat.le_refl _⟩ rfl
set_option maxHeartbeats 4000000 in
theorem tX5_size_long (l : Launch) {D : va_G} {q : Nat → Nat} {ca : wCA} {sp : List wCell} {b c0 n : Nat} (hb : sp[b]? = some (.inl (5, [(2, c0)]))) (hs : sp[c0]? = some (.inr (1, n))) (μ : wMem) : wMi l yX5_size cX5_size 1 (some .int) ({ frames := 0, cells := 0, slots := 0, locals := 0 } : Room) D vwCl sp q ca [.ref (q b)] μ (Int32.ofNat n, μ) := by
  refine wMi_intro (by decide) (Nat.le_of_ble_eq_true rfl) ?_
  intro p e s m args below meth c A C
  refine wr_sub [(0, .ref (q b))] [0] rfl ?_
  refine wr_aload_n 0 C dX5_size_0 0 rfl rfl ?_
  refine wr_getR 1 0 C dX5_size_1 hb rfl in_X5 (by decide) rfl q295 ?_
  refine wr_instNo 4 C dX5_size_4 q1066 hs (wFc_long C.2.2.2.2.2.1) (by decide) ?_
  refine wr_if_eq 7 21 C dX5_size_7 (by decide) (fun _ => ?_) (fun h => absurd rfl h)
  refine wr_aload_n 21 C dX5_size_21 0 rfl rfl ?_
  refine wr_getR 22 0 C dX5_size_22 hb rfl in_X5 (by decide) rfl q295 ?_
  refine wr_instNo 25 C dX5_size_25 q1067 hs (wFc_long C.2.2.2.2.2.1) (by decide) ?_
  refine wr_if_eq 28 42 C dX5_size_28 (by decide) (fun _ => ?_) (fun h => absurd rfl h)
  refine wr_aload_n 42 C dX5_size_42 0 rfl rfl ?_
  refine wr_getR 43 0 C dX5_size_43 hb rfl in_X5 (by decide) rfl q295 ?_
  refine wr_instNo 46 C dX5_size_46 q1068 hs (wFc_long C.2.2.2.2.2.1) (by decide) ?_
  refine wr_if_eq 49 63 C dX5_size_49 (by decide) (fun _ => ?_) (fun h => absurd rfl h)
  refine wr_aload_n 63 C dX5_size_63 0 rfl rfl ?_
  refine wr_getR 64 0 C dX5_size_64 hb rfl in_X5 (by decide) rfl q295 ?_
  refine wr_castA 67 C dX5_size_67 q1069 hs (wFc_long C.2.2.2.2.2.1) ?_
  refine wr_len 70 C dX5_size_70 1 hs rfl ?_
  exact wr_iret 71 C dX5_size_71 ⟨Nat.le_refl _, Nat.le_refl _⟩ rfl
abbrev cX5_at : ByteArray := prog_8_method_4_code
def yX5_at : MethodName := ⟨RX5, "at", "(I)J"⟩
def dkwX5_at_3 : List UInt8 := [180, 0, 7, 192, 0, 19, 27, 47, 173]
abbrev dktX5_at_3 : List UInt8 := dkwX5_at_3 ++ []
def dkwX5_at_2 : List UInt8 := [180, 0, 7, 193, 0, 17, 153, 0, 16, 42, 180, 0, 7, 192, 0, 17, 27, 46, 133, 167, 0, 12, 42]
abbrev dktX5_at_2 : List UInt8 := dkwX5_at_2 ++ dktX5_at_3
def dkwX5_at_1 : List UInt8 := [180, 0, 7, 193, 0, 15, 153, 0, 16, 42, 180, 0, 7, 192, 0, 15, 27, 53, 133, 167, 0, 35, 42]
abbrev dktX5_at_1 : List UInt8 := dkwX5_at_1 ++ dktX5_at_2
def dkwX5_at_0 : List UInt8 := [42, 180, 0, 7, 193, 0, 13, 153, 0, 16, 42, 180, 0, 7, 192, 0, 13, 27, 51, 133, 167, 0, 58, 42]
abbrev dktX5_at_0 : List UInt8 := dkwX5_at_0 ++ dktX5_at_1
theorem dksX5_at_0 : cX5_at.data.toList.drop 0 = dktX5_at_0 := by decide +kernel
theorem dksX5_at_1 : cX5_at.data.toList.drop 24 = dktX5_at_1 := dk_seg dksX5_at_0 24 rfl rfl
theorem dksX5_at_2 : cX5_at.data.toList.drop 47 = dktX5_at_2 := dk_seg dksX5_at_1 23 rfl rfl
theorem dksX5_at_3 : cX5_at.data.toList.drop 70 = dktX5_at_3 := dk_seg dksX5_at_2 23 rfl rfl
theorem dX5_at_0 : decode cX5_at 0 = .ok (.aload_n 0, 1) := dk_42 (dk_at dksX5_at_0 0 rfl rfl)
theorem dX5_at_1 : decode cX5_at 1 = .ok (.getfield 7, 3) := dk_180 0 7 (dk_at dksX5_at_0 1 rfl rfl)
theorem dX5_at_4 : decode cX5_at 4 = .ok (.instanceof 13, 3) := dk_193 0 13 (dk_at dksX5_at_0 4 rfl rfl)
theorem dX5_at_7 : decode cX5_at 7 = .ok (.ifCond .eq 16, 3) := dk_153 0 16 (dk_at dksX5_at_0 7 rfl rfl)
theorem dX5_at_10 : decode cX5_at 10 = .ok (.aload_n 0, 1) := dk_42 (dk_at dksX5_at_0 10 rfl rfl)
theorem dX5_at_11 : decode cX5_at 11 = .ok (.getfield 7, 3) := dk_180 0 7 (dk_at dksX5_at_0 11 rfl rfl)
theorem dX5_at_14 : decode cX5_at 14 = .ok (.checkcast 13, 3) := dk_192 0 13 (dk_at dksX5_at_0 14 rfl rfl)
theorem dX5_at_17 : decode cX5_at 17 = .ok (.iload_n 1, 1) := dk_27 (dk_at dksX5_at_0 17 rfl rfl)
theorem dX5_at_18 : decode cX5_at 18 = .ok (.baload, 1) := dk_51 (dk_at dksX5_at_0 18 rfl rfl)
theorem dX5_at_19 : decode cX5_at 19 = .ok (.i2l, 1) := dk_133 (dk_at dksX5_at_0 19 rfl rfl)
theorem dX5_at_20 : decode cX5_at 20 = .ok (.goto 58, 3) := dk_167 0 58 (dk_at dksX5_at_0 20 rfl rfl)
theorem dX5_at_23 : decode cX5_at 23 = .ok (.aload_n 0, 1) := dk_42 (dk_at dksX5_at_0 23 rfl rfl)
theorem dX5_at_24 : decode cX5_at 24 = .ok (.getfield 7, 3) := dk_180 0 7 (dk_at dksX5_at_1 0 rfl rfl)
theorem dX5_at_27 : decode cX5_at 27 = .ok (.instanceof 15, 3) := dk_193 0 15 (dk_at dksX5_at_1 3 rfl rfl)
theorem dX5_at_30 : decode cX5_at 30 = .ok (.ifCond .eq 16, 3) := dk_153 0 16 (dk_at dksX5_at_1 6 rfl rfl)
theorem dX5_at_33 : decode cX5_at 33 = .ok (.aload_n 0, 1) := dk_42 (dk_at dksX5_at_1 9 rfl rfl)
theorem dX5_at_34 : decode cX5_at 34 = .ok (.getfield 7, 3) := dk_180 0 7 (dk_at dksX5_at_1 10 rfl rfl)
theorem dX5_at_37 : decode cX5_at 37 = .ok (.checkcast 15, 3) := dk_192 0 15 (dk_at dksX5_at_1 13 rfl rfl)
theorem dX5_at_40 : decode cX5_at 40 = .ok (.iload_n 1, 1) := dk_27 (dk_at dksX5_at_1 16 rfl rfl)
theorem dX5_at_41 : decode cX5_at 41 = .ok (.saload, 1) := dk_53 (dk_at dksX5_at_1 17 rfl rfl)
theorem dX5_at_42 : decode cX5_at 42 = .ok (.i2l, 1) := dk_133 (dk_at dksX5_at_1 18 rfl rfl)
theorem dX5_at_43 : decode cX5_at 43 = .ok (.goto 35, 3) := dk_167 0 35 (dk_at dksX5_at_1 19 rfl rfl)
theorem dX5_at_46 : decode cX5_at 46 = .ok (.aload_n 0, 1) := dk_42 (dk_at dksX5_at_1 22 rfl rfl)
theorem dX5_at_47 : decode cX5_at 47 = .ok (.getfield 7, 3) := dk_180 0 7 (dk_at dksX5_at_2 0 rfl rfl)
theorem dX5_at_50 : decode cX5_at 50 = .ok (.instanceof 17, 3) := dk_193 0 17 (dk_at dksX5_at_2 3 rfl rfl)
theorem dX5_at_53 : decode cX5_at 53 = .ok (.ifCond .eq 16, 3) := dk_153 0 16 (dk_at dksX5_at_2 6 rfl rfl)
theorem dX5_at_56 : decode cX5_at 56 = .ok (.aload_n 0, 1) := dk_42 (dk_at dksX5_at_2 9 rfl rfl)
theorem dX5_at_57 : decode cX5_at 57 = .ok (.getfield 7, 3) := dk_180 0 7 (dk_at dksX5_at_2 10 rfl rfl)
theorem dX5_at_60 : decode cX5_at 60 = .ok (.checkcast 17, 3) := dk_192 0 17 (dk_at dksX5_at_2 13 rfl rfl)
theorem dX5_at_63 : decode cX5_at 63 = .ok (.iload_n 1, 1) := dk_27 (dk_at dksX5_at_2 16 rfl rfl)
theorem dX5_at_64 : decode cX5_at 64 = .ok (.iaload, 1) := dk_46 (dk_at dksX5_at_2 17 rfl rfl)
theorem dX5_at_65 : decode cX5_at 65 = .ok (.i2l, 1) := dk_133 (dk_at dksX5_at_2 18 rfl rfl)
theorem dX5_at_66 : decode cX5_at 66 = .ok (.goto 12, 3) := dk_167 0 12 (dk_at dksX5_at_2 19 rfl rfl)
theorem dX5_at_69 : decode cX5_at 69 = .ok (.aload_n 0, 1) := dk_42 (dk_at dksX5_at_2 22 rfl rfl)
theorem dX5_at_70 : decode cX5_at 70 = .ok (.getfield 7, 3) := dk_180 0 7 (dk_at dksX5_at_3 0 rfl rfl)
theorem dX5_at_73 : decode cX5_at 73 = .ok (.checkcast 19, 3) := dk_192 0 19 (dk_at dksX5_at_3 3 rfl rfl)
theorem dX5_at_76 : decode cX5_at 76 = .ok (.iload_n 1, 1) := dk_27 (dk_at dksX5_at_3 6 rfl rfl)
theorem dX5_at_77 : decode cX5_at 77 = .ok (.laload, 1) := dk_47 (dk_at dksX5_at_3 7 rfl rfl)
theorem dX5_at_78 : decode cX5_at 78 = .ok (.lreturn, 1) := dk_173 (dk_at dksX5_at_3 8 rfl rfl)
set_option maxHeartbeats 4000000 in
theorem tX5_at_byte (l : Launch) {D : va_G} {q : Nat → Nat} {ca : wCA} {sp : List wCell} {b c0 n : Nat} (hb : sp[b]? = some (.inl (5, [(2, c0)]))) (hs : sp[c0]? = some (.inr (2, n))) {i : Int32} (hi : ok_in i n = true) (μ : wMem) : wMl l yX5_at cX5_at 2 (some .long) ({ frames := 0, cells := 0, slots := 0, locals := 0 } : Room) D vwCl sp q ca [.ref (q b), .int i] μ ((μ.1 c0 i.toNatClampNeg).toInt64, μ) := by
  refine wMl_intro (by decide) (Nat.le_of_ble_eq_true rfl) ?_
  intro p e s m args below meth c A C
  refine wr_sub [(0, .ref (q b)), (1, .int i)] [0, 1] rfl ?_
  refine wr_aload_n 0 C dX5_at_0 0 rfl rfl ?_
  refine wr_getR 1 0 C dX5_at_1 hb rfl in_X5 (by decide) rfl q295 ?_
  refine wr_instA 4 C dX5_at_4 q1066 hs (wFc_byte C.2.2.2.2.2.1) ?_
  refine wr_if_eq 7 23 C dX5_at_7 (by decide) (fun h => absurd h (by decide)) (fun _ => ?_)
  refine wr_aload_n 10 C dX5_at_10 0 rfl rfl ?_
  refine wr_getR 11 0 C dX5_at_11 hb rfl in_X5 (by decide) rfl q295 ?_
  refine wr_castA 14 C dX5_at_14 q1066 hs (wFc_byte C.2.2.2.2.2.1) ?_
  refine wr_iload_n 17 C dX5_at_17 1 rfl rfl ?_
  refine wr_bald 18 C dX5_at_18 hs hi ?_
  refine wr_i2l 19 C dX5_at_19 ?_
  refine wr_goto 20 C dX5_at_20 (tgt := 78) (by decide) ?_
  exact wr_lret 78 C dX5_at_78 ⟨Nat.le_refl _, Nat.le_refl _⟩ rfl
set_option maxHeartbeats 4000000 in
theorem tX5_at_short (l : Launch) {D : va_G} {q : Nat → Nat} {ca : wCA} {sp : List wCell} {b c0 n : Nat} (hb : sp[b]? = some (.inl (5, [(2, c0)]))) (hs : sp[c0]? = some (.inr (4, n))) {i : Int32} (hi : ok_in i n = true) (μ : wMem) : wMl l yX5_at cX5_at 2 (some .long) ({ frames := 0, cells := 0, slots := 0, locals := 0 } : Room) D vwCl sp q ca [.ref (q b), .int i] μ ((μ.1 c0 i.toNatClampNeg).toInt64, μ) := by
  refine wMl_intro (by decide) (Nat.le_of_ble_eq_true rfl) ?_
  intro p e s m args below meth c A C
  refine wr_sub [(0, .ref (q b)), (1, .int i)] [0, 1] rfl ?_
  refine wr_aload_n 0 C dX5_at_0 0 rfl rfl ?_
  refine wr_getR 1 0 C dX5_at_1 hb rfl in_X5 (by decide) rfl q295 ?_
  refine wr_instNo 4 C dX5_at_4 q1066 hs (wFc_short C.2.2.2.2.2.1) (by decide) ?_
  refine wr_if_eq 7 23 C dX5_at_7 (by decide) (fun _ => ?_) (fun h => absurd rfl h)
  refine wr_aload_n 23 C dX5_at_23 0 rfl rfl ?_
  refine wr_getR 24 0 C dX5_at_24 hb rfl in_X5 (by decide) rfl q295 ?_
  refine wr_instA 27 C dX5_at_27 q1067 hs (wFc_short C.2.2.2.2.2.1) ?_
  refine wr_if_eq 30 46 C dX5_at_30 (by decide) (fun h => absurd h (by decide)) (fun _ => ?_)
  refine wr_aload_n 33 C dX5_at_33 0 rfl rfl ?_
  refine wr_getR 34 0 C dX5_at_34 hb rfl in_X5 (by decide) rfl q295 ?_
  refine wr_castA 37 C dX5_at_37 q1067 hs (wFc_short C.2.2.2.2.2.1) ?_
  refine wr_iload_n 40 C dX5_at_40 1 rfl rfl ?_
  refine wr_sald 41 C dX5_at_41 hs hi ?_
  refine wr_i2l 42 C dX5_at_42 ?_
  refine wr_goto 43 C dX5_at_43 (tgt := 78) (by decide) ?_
  exact wr_lret 78 C dX5_at_78 ⟨Nat.le_refl _, Nat.le_refl _⟩ rfl
set_option maxHeartbeats 4000000 in
theorem tX5_at_int (l : Launch) {D : va_G} {q : Nat → Nat} {ca : wCA} {sp : List wCell} {b c0 n : Nat} (hb : sp[b]? = some (.inl (5, [(2, c0)]))) (hs : sp[c0]? = some (.inr (0, n))) {i : Int32} (hi : ok_in i n = true) (μ : wMem) : wMl l yX5_at cX5_at 2 (some .long) ({ frames := 0, cells := 0, slots := 0, locals := 0 } : Room) D vwCl sp q ca [.ref (q b), .int i] μ ((μ.1 c0 i.toNatClampNeg).toInt64, μ) := by
  refine wMl_intro (by decide) (Nat.le_of_ble_eq_true rfl) ?_
  intro p e s m args below meth c A C
  refine wr_sub [(0, .ref (q b)), (1, .int i)] [0, 1] rfl ?_
  refine wr_aload_n 0 C dX5_at_0 0 rfl rfl ?_
  refine wr_getR 1 0 C dX5_at_1 hb rfl in_X5 (by decide) rfl q295 ?_
  refine wr_instNo 4 C dX5_at_4 q1066 hs (wFc_int C.2.2.2.2.2.1) (by decide) ?_
  refine wr_if_eq 7 23 C dX5_at_7 (by decide) (fun _ => ?_) (fun h => absurd rfl h)
  refine wr_aload_n 23 C dX5_at_23 0 rfl rfl ?_
  refine wr_getR 24 0 C dX5_at_24 hb rfl in_X5 (by decide) rfl q295 ?_
  refine wr_instNo 27 C dX5_at_27 q1067 hs (wFc_int C.2.2.2.2.2.1) (by decide) ?_
  refine wr_if_eq 30 46 C dX5_at_30 (by decide) (fun _ => ?_) (fun h => absurd rfl h)
  refine wr_aload_n 46 C dX5_at_46 0 rfl rfl ?_
  refine wr_getR 47 0 C dX5_at_47 hb rfl in_X5 (by decide) rfl q295 ?_
  refine wr_instA 50 C dX5_at_50 q1068 hs (wFc_int C.2.2.2.2.2.1) ?_
  refine wr_if_eq 53 69 C dX5_at_53 (by decide) (fun h => absurd h (by decide)) (fun _ => ?_)
  refine wr_aload_n 56 C dX5_at_56 0 rfl rfl ?_
  refine wr_getR 57 0 C dX5_at_57 hb rfl in_X5 (by decide) rfl q295 ?_
  refine wr_castA 60 C dX5_at_60 q1068 hs (wFc_int C.2.2.2.2.2.1) ?_
  refine wr_iload_n 63 C dX5_at_63 1 rfl rfl ?_
  refine wr_iald 64 C dX5_at_64 hs hi ?_
  refine wr_i2l 65 C dX5_at_65 ?_
  refine wr_goto 66 C dX5_at_66 (tgt := 78) (by decide) ?_
  exact wr_lret 78 C dX5_at_78 ⟨Nat.le_refl _, Nat.le_refl _⟩ rfl
set_option maxHeartbeats 4000000 in
theorem tX5_at_long (l : Launch) {D : va_G} {q : Nat → Nat} {ca : wCA} {sp : List wCell} {b c0 n : Nat} (hb : sp[b]? = some (.inl (5, [(2, c0)]))) (hs : sp[c0]? = some (.inr (1, n))) {i : Int32} (hi : ok_in i n = true) (μ : wMem) : wMl l yX5_at cX5_at 2 (some .long) ({ frames := 0, cells := 0, slots := 0, locals := 0 } : Room) D vwCl sp q ca [.ref (q b), .int i] μ (μ.2 c0 i.toNatClampNeg, μ) := by
  refine wMl_intro (by decide) (Nat.le_of_ble_eq_true rfl) ?_
  intro p e s m args below meth c A C
  refine wr_sub [(0, .ref (q b)), (1, .int i)] [0, 1] rfl ?_
  refine wr_aload_n 0 C dX5_at_0 0 rfl rfl ?_
  refine wr_getR 1 0 C dX5_at_1 hb rfl in_X5 (by decide) rfl q295 ?_
  refine wr_instNo 4 C dX5_at_4 q1066 hs (wFc_long C.2.2.2.2.2.1) (by decide) ?_
  refine wr_if_eq 7 23 C dX5_at_7 (by decide) (fun _ => ?_) (fun h => absurd rfl h)
  refine wr_aload_n 23 C dX5_at_23 0 rfl rfl ?_
  refine wr_getR 24 0 C dX5_at_24 hb rfl in_X5 (by decide) rfl q295 ?_
  refine wr_instNo 27 C dX5_at_27 q1067 hs (wFc_long C.2.2.2.2.2.1) (by decide) ?_
  refine wr_if_eq 30 46 C dX5_at_30 (by decide) (fun _ => ?_) (fun h => absurd rfl h)
  refine wr_aload_n 46 C dX5_at_46 0 rfl rfl ?_
  refine wr_getR 47 0 C dX5_at_47 hb rfl in_X5 (by decide) rfl q295 ?_
  refine wr_instNo 50 C dX5_at_50 q1068 hs (wFc_long C.2.2.2.2.2.1) (by decide) ?_
  refine wr_if_eq 53 69 C dX5_at_53 (by decide) (fun _ => ?_) (fun h => absurd rfl h)
  refine wr_aload_n 69 C dX5_at_69 0 rfl rfl ?_
  refine wr_getR 70 0 C dX5_at_70 hb rfl in_X5 (by decide) rfl q295 ?_
  refine wr_castA 73 C dX5_at_73 q1069 hs (wFc_long C.2.2.2.2.2.1) ?_
  refine wr_iload_n 76 C dX5_at_76 1 rfl rfl ?_
  refine wr_lald 77 C dX5_at_77 hs hi ?_
  exact wr_lret 78 C dX5_at_78 ⟨Nat.le_refl _, Nat.le_refl _⟩ rfl
abbrev cX5_put : ByteArray := prog_8_method_5_code
def yX5_put : MethodName := ⟨RX5, "put", "(IJ)V"⟩
def dkwX5_put_3 : List UInt8 := [79, 167, 0, 13, 42, 180, 0, 7, 192, 0, 19, 27, 32, 80, 177]
abbrev dktX5_put_3 : List UInt8 := dkwX5_put_3 ++ []
def dkwX5_put_2 : List UInt8 := [86, 167, 0, 37, 42, 180, 0, 7, 193, 0, 17, 153, 0, 17, 42, 180, 0, 7, 192, 0, 17, 27, 32, 136]
abbrev dktX5_put_2 : List UInt8 := dkwX5_put_2 ++ dktX5_put_3
def dkwX5_put_1 : List UInt8 := [167, 0, 62, 42, 180, 0, 7, 193, 0, 15, 153, 0, 18, 42, 180, 0, 7, 192, 0, 15, 27, 32, 136, 147]
abbrev dktX5_put_1 : List UInt8 := dkwX5_put_1 ++ dktX5_put_2
def dkwX5_put_0 : List UInt8 := [42, 180, 0, 7, 193, 0, 13, 153, 0, 18, 42, 180, 0, 7, 192, 0, 13, 27, 32, 136, 145, 84]
abbrev dktX5_put_0 : List UInt8 := dkwX5_put_0 ++ dktX5_put_1
theorem dksX5_put_0 : cX5_put.data.toList.drop 0 = dktX5_put_0 := by decide +kernel
theorem dksX5_put_1 : cX5_put.data.toList.drop 22 = dktX5_put_1 := dk_seg dksX5_put_0 22 rfl rfl
theorem dksX5_put_2 : cX5_put.data.toList.drop 46 = dktX5_put_2 := dk_seg dksX5_put_1 24 rfl rfl
theorem dksX5_put_3 : cX5_put.data.toList.drop 70 = dktX5_put_3 := dk_seg dksX5_put_2 24 rfl rfl
theorem dX5_put_0 : decode cX5_put 0 = .ok (.aload_n 0, 1) := dk_42 (dk_at dksX5_put_0 0 rfl rfl)
theorem dX5_put_1 : decode cX5_put 1 = .ok (.getfield 7, 3) := dk_180 0 7 (dk_at dksX5_put_0 1 rfl rfl)
theorem dX5_put_4 : decode cX5_put 4 = .ok (.instanceof 13, 3) := dk_193 0 13 (dk_at dksX5_put_0 4 rfl rfl)
theorem dX5_put_7 : decode cX5_put 7 = .ok (.ifCond .eq 18, 3) := dk_153 0 18 (dk_at dksX5_put_0 7 rfl rfl)
theorem dX5_put_10 : decode cX5_put 10 = .ok (.aload_n 0, 1) := dk_42 (dk_at dksX5_put_0 10 rfl rfl)
theorem dX5_put_11 : decode cX5_put 11 = .ok (.getfield 7, 3) := dk_180 0 7 (dk_at dksX5_put_0 11 rfl rfl)
theorem dX5_put_14 : decode cX5_put 14 = .ok (.checkcast 13, 3) := dk_192 0 13 (dk_at dksX5_put_0 14 rfl rfl)
theorem dX5_put_17 : decode cX5_put 17 = .ok (.iload_n 1, 1) := dk_27 (dk_at dksX5_put_0 17 rfl rfl)
theorem dX5_put_18 : decode cX5_put 18 = .ok (.lload_n 2, 1) := dk_32 (dk_at dksX5_put_0 18 rfl rfl)
theorem dX5_put_19 : decode cX5_put 19 = .ok (.l2i, 1) := dk_136 (dk_at dksX5_put_0 19 rfl rfl)
theorem dX5_put_20 : decode cX5_put 20 = .ok (.i2b, 1) := dk_145 (dk_at dksX5_put_0 20 rfl rfl)
theorem dX5_put_21 : decode cX5_put 21 = .ok (.bastore, 1) := dk_84 (dk_at dksX5_put_0 21 rfl rfl)
theorem dX5_put_22 : decode cX5_put 22 = .ok (.goto 62, 3) := dk_167 0 62 (dk_at dksX5_put_1 0 rfl rfl)
theorem dX5_put_25 : decode cX5_put 25 = .ok (.aload_n 0, 1) := dk_42 (dk_at dksX5_put_1 3 rfl rfl)
theorem dX5_put_26 : decode cX5_put 26 = .ok (.getfield 7, 3) := dk_180 0 7 (dk_at dksX5_put_1 4 rfl rfl)
theorem dX5_put_29 : decode cX5_put 29 = .ok (.instanceof 15, 3) := dk_193 0 15 (dk_at dksX5_put_1 7 rfl rfl)
theorem dX5_put_32 : decode cX5_put 32 = .ok (.ifCond .eq 18, 3) := dk_153 0 18 (dk_at dksX5_put_1 10 rfl rfl)
theorem dX5_put_35 : decode cX5_put 35 = .ok (.aload_n 0, 1) := dk_42 (dk_at dksX5_put_1 13 rfl rfl)
theorem dX5_put_36 : decode cX5_put 36 = .ok (.getfield 7, 3) := dk_180 0 7 (dk_at dksX5_put_1 14 rfl rfl)
theorem dX5_put_39 : decode cX5_put 39 = .ok (.checkcast 15, 3) := dk_192 0 15 (dk_at dksX5_put_1 17 rfl rfl)
theorem dX5_put_42 : decode cX5_put 42 = .ok (.iload_n 1, 1) := dk_27 (dk_at dksX5_put_1 20 rfl rfl)
theorem dX5_put_43 : decode cX5_put 43 = .ok (.lload_n 2, 1) := dk_32 (dk_at dksX5_put_1 21 rfl rfl)
theorem dX5_put_44 : decode cX5_put 44 = .ok (.l2i, 1) := dk_136 (dk_at dksX5_put_1 22 rfl rfl)
theorem dX5_put_45 : decode cX5_put 45 = .ok (.i2s, 1) := dk_147 (dk_at dksX5_put_1 23 rfl rfl)
theorem dX5_put_46 : decode cX5_put 46 = .ok (.sastore, 1) := dk_86 (dk_at dksX5_put_2 0 rfl rfl)
theorem dX5_put_47 : decode cX5_put 47 = .ok (.goto 37, 3) := dk_167 0 37 (dk_at dksX5_put_2 1 rfl rfl)
theorem dX5_put_50 : decode cX5_put 50 = .ok (.aload_n 0, 1) := dk_42 (dk_at dksX5_put_2 4 rfl rfl)
theorem dX5_put_51 : decode cX5_put 51 = .ok (.getfield 7, 3) := dk_180 0 7 (dk_at dksX5_put_2 5 rfl rfl)
theorem dX5_put_54 : decode cX5_put 54 = .ok (.instanceof 17, 3) := dk_193 0 17 (dk_at dksX5_put_2 8 rfl rfl)
theorem dX5_put_57 : decode cX5_put 57 = .ok (.ifCond .eq 17, 3) := dk_153 0 17 (dk_at dksX5_put_2 11 rfl rfl)
theorem dX5_put_60 : decode cX5_put 60 = .ok (.aload_n 0, 1) := dk_42 (dk_at dksX5_put_2 14 rfl rfl)
theorem dX5_put_61 : decode cX5_put 61 = .ok (.getfield 7, 3) := dk_180 0 7 (dk_at dksX5_put_2 15 rfl rfl)
theorem dX5_put_64 : decode cX5_put 64 = .ok (.checkcast 17, 3) := dk_192 0 17 (dk_at dksX5_put_2 18 rfl rfl)
theorem dX5_put_67 : decode cX5_put 67 = .ok (.iload_n 1, 1) := dk_27 (dk_at dksX5_put_2 21 rfl rfl)
theorem dX5_put_68 : decode cX5_put 68 = .ok (.lload_n 2, 1) := dk_32 (dk_at dksX5_put_2 22 rfl rfl)
theorem dX5_put_69 : decode cX5_put 69 = .ok (.l2i, 1) := dk_136 (dk_at dksX5_put_2 23 rfl rfl)
theorem dX5_put_70 : decode cX5_put 70 = .ok (.iastore, 1) := dk_79 (dk_at dksX5_put_3 0 rfl rfl)
theorem dX5_put_71 : decode cX5_put 71 = .ok (.goto 13, 3) := dk_167 0 13 (dk_at dksX5_put_3 1 rfl rfl)
theorem dX5_put_74 : decode cX5_put 74 = .ok (.aload_n 0, 1) := dk_42 (dk_at dksX5_put_3 4 rfl rfl)
theorem dX5_put_75 : decode cX5_put 75 = .ok (.getfield 7, 3) := dk_180 0 7 (dk_at dksX5_put_3 5 rfl rfl)
theorem dX5_put_78 : decode cX5_put 78 = .ok (.checkcast 19, 3) := dk_192 0 19 (dk_at dksX5_put_3 8 rfl rfl)
theorem dX5_put_81 : decode cX5_put 81 = .ok (.iload_n 1, 1) := dk_27 (dk_at dksX5_put_3 11 rfl rfl)
theorem dX5_put_82 : decode cX5_put 82 = .ok (.lload_n 2, 1) := dk_32 (dk_at dksX5_put_3 12 rfl rfl)
theorem dX5_put_83 : decode cX5_put 83 = .ok (.lastore, 1) := dk_80 (dk_at dksX5_put_3 13 rfl rfl)
theorem dX5_put_84 : decode cX5_put 84 = .ok (.return_, 1) := dk_177 (dk_at dksX5_put_3 14 rfl rfl)
set_option maxHeartbeats 4000000 in
theorem tX5_put_byte (l : Launch) {D : va_G} {q : Nat → Nat} {ca : wCA} {sp : List wCell} {b c0 n : Nat} (hb : sp[b]? = some (.inl (5, [(2, c0)]))) (hs : sp[c0]? = some (.inr (2, n))) {i : Int32} {x : Int64} (hi : ok_in i n = true) (μ : wMem) : wMv l yX5_put cX5_put 4 none ({ frames := 0, cells := 0, slots := 0, locals := 0 } : Room) D vwCl sp q ca [.ref (q b), .int i, .long x] μ (wSI μ c0 i.toNatClampNeg (x.toInt32.toInt8.toInt32)) := by
  refine wMv_intro (by decide) (Nat.le_of_ble_eq_true rfl) ?_
  intro p e s m args below meth c A C
  refine wr_sub [(0, .ref (q b)), (1, .int i), (2, .long x)] [0, 1, 2] rfl ?_
  refine wr_aload_n 0 C dX5_put_0 0 rfl rfl ?_
  refine wr_getR 1 0 C dX5_put_1 hb rfl in_X5 (by decide) rfl q295 ?_
  refine wr_instA 4 C dX5_put_4 q1066 hs (wFc_byte C.2.2.2.2.2.1) ?_
  refine wr_if_eq 7 25 C dX5_put_7 (by decide) (fun h => absurd h (by decide)) (fun _ => ?_)
  refine wr_aload_n 10 C dX5_put_10 0 rfl rfl ?_
  refine wr_getR 11 0 C dX5_put_11 hb rfl in_X5 (by decide) rfl q295 ?_
  refine wr_castA 14 C dX5_put_14 q1066 hs (wFc_byte C.2.2.2.2.2.1) ?_
  refine wr_iload_n 17 C dX5_put_17 1 rfl rfl ?_
  refine wr_lload_n 18 C dX5_put_18 2 rfl rfl ?_
  refine wr_l2i 19 C dX5_put_19 ?_
  refine wr_i2b 20 C dX5_put_20 ?_
  refine wr_bast 21 C dX5_put_21 hs hi wNar8 rfl ?_
  refine wr_goto 22 C dX5_put_22 (tgt := 84) (by decide) ?_
  exact wr_vret 84 C dX5_put_84 ⟨Nat.le_refl _, Nat.le_refl _⟩ rfl
set_option maxHeartbeats 4000000 in
theorem tX5_put_short (l : Launch) {D : va_G} {q : Nat → Nat} {ca : wCA} {sp : List wCell} {b c0 n : Nat} (hb : sp[b]? = some (.inl (5, [(2, c0)]))) (hs : sp[c0]? = some (.inr (4, n))) {i : Int32} {x : Int64} (hi : ok_in i n = true) (μ : wMem) : wMv l yX5_put cX5_put 4 none ({ frames := 0, cells := 0, slots := 0, locals := 0 } : Room) D vwCl sp q ca [.ref (q b), .int i, .long x] μ (wSI μ c0 i.toNatClampNeg (x.toInt32.toInt16.toInt32)) := by
  refine wMv_intro (by decide) (Nat.le_of_ble_eq_true rfl) ?_
  intro p e s m args below meth c A C
  refine wr_sub [(0, .ref (q b)), (1, .int i), (2, .long x)] [0, 1, 2] rfl ?_
  refine wr_aload_n 0 C dX5_put_0 0 rfl rfl ?_
  refine wr_getR 1 0 C dX5_put_1 hb rfl in_X5 (by decide) rfl q295 ?_
  refine wr_instNo 4 C dX5_put_4 q1066 hs (wFc_short C.2.2.2.2.2.1) (by decide) ?_
  refine wr_if_eq 7 25 C dX5_put_7 (by decide) (fun _ => ?_) (fun h => absurd rfl h)
  refine wr_aload_n 25 C dX5_put_25 0 rfl rfl ?_
  refine wr_getR 26 0 C dX5_put_26 hb rfl in_X5 (by decide) rfl q295 ?_
  refine wr_instA 29 C dX5_put_29 q1067 hs (wFc_short C.2.2.2.2.2.1) ?_
  refine wr_if_eq 32 50 C dX5_put_32 (by decide) (fun h => absurd h (by decide)) (fun _ => ?_)
  refine wr_aload_n 35 C dX5_put_35 0 rfl rfl ?_
  refine wr_getR 36 0 C dX5_put_36 hb rfl in_X5 (by decide) rfl q295 ?_
  refine wr_castA 39 C dX5_put_39 q1067 hs (wFc_short C.2.2.2.2.2.1) ?_
  refine wr_iload_n 42 C dX5_put_42 1 rfl rfl ?_
  refine wr_lload_n 43 C dX5_put_43 2 rfl rfl ?_
  refine wr_l2i 44 C dX5_put_44 ?_
  refine wr_i2s 45 C dX5_put_45 ?_
  refine wr_sast 46 C dX5_put_46 hs hi wNar16 rfl ?_
  refine wr_goto 47 C dX5_put_47 (tgt := 84) (by decide) ?_
  exact wr_vret 84 C dX5_put_84 ⟨Nat.le_refl _, Nat.le_refl _⟩ rfl
set_option maxHeartbeats 4000000 in
theorem tX5_put_int (l : Launch) {D : va_G} {q : Nat → Nat} {ca : wCA} {sp : List wCell} {b c0 n : Nat} (hb : sp[b]? = some (.inl (5, [(2, c0)]))) (hs : sp[c0]? = some (.inr (0, n))) {i : Int32} {x : Int64} (hi : ok_in i n = true) (μ : wMem) : wMv l yX5_put cX5_put 4 none ({ frames := 0, cells := 0, slots := 0, locals := 0 } : Room) D vwCl sp q ca [.ref (q b), .int i, .long x] μ (wSI μ c0 i.toNatClampNeg (x.toInt32)) := by
  refine wMv_intro (by decide) (Nat.le_of_ble_eq_true rfl) ?_
  intro p e s m args below meth c A C
  refine wr_sub [(0, .ref (q b)), (1, .int i), (2, .long x)] [0, 1, 2] rfl ?_
  refine wr_aload_n 0 C dX5_put_0 0 rfl rfl ?_
  refine wr_getR 1 0 C dX5_put_1 hb rfl in_X5 (by decide) rfl q295 ?_
  refine wr_instNo 4 C dX5_put_4 q1066 hs (wFc_int C.2.2.2.2.2.1) (by decide) ?_
  refine wr_if_eq 7 25 C dX5_put_7 (by decide) (fun _ => ?_) (fun h => absurd rfl h)
  refine wr_aload_n 25 C dX5_put_25 0 rfl rfl ?_
  refine wr_getR 26 0 C dX5_put_26 hb rfl in_X5 (by decide) rfl q295 ?_
  refine wr_instNo 29 C dX5_put_29 q1067 hs (wFc_int C.2.2.2.2.2.1) (by decide) ?_
  refine wr_if_eq 32 50 C dX5_put_32 (by decide) (fun _ => ?_) (fun h => absurd rfl h)
  refine wr_aload_n 50 C dX5_put_50 0 rfl rfl ?_
  refine wr_getR 51 0 C dX5_put_51 hb rfl in_X5 (by decide) rfl q295 ?_
  refine wr_instA 54 C dX5_put_54 q1068 hs (wFc_int C.2.2.2.2.2.1) ?_
  refine wr_if_eq 57 74 C dX5_put_57 (by decide) (fun h => absurd h (by decide)) (fun _ => ?_)
  refine wr_aload_n 60 C dX5_put_60 0 rfl rfl ?_
  refine wr_getR 61 0 C dX5_put_61 hb rfl in_X5 (by decide) rfl q295 ?_
  refine wr_castA 64 C dX5_put_64 q1068 hs (wFc_int C.2.2.2.2.2.1) ?_
  refine wr_iload_n 67 C dX5_put_67 1 rfl rfl ?_
  refine wr_lload_n 68 C dX5_put_68 2 rfl rfl ?_
  refine wr_l2i 69 C dX5_put_69 ?_
  refine wr_iast 70 C dX5_put_70 hs hi rfl ?_
  refine wr_goto 71 C dX5_put_71 (tgt := 84) (by decide) ?_
  exact wr_vret 84 C dX5_put_84 ⟨Nat.le_refl _, Nat.le_refl _⟩ rfl
set_option maxHeartbeats 4000000 in
theorem tX5_put_long (l : Launch) {D : va_G} {q : Nat → Nat} {ca : wCA} {sp : List wCell} {b c0 n : Nat} (hb : sp[b]? = some (.inl (5, [(2, c0)]))) (hs : sp[c0]? = some (.inr (1, n))) {i : Int32} {x : Int64} (hi : ok_in i n = true) (μ : wMem) : wMv l yX5_put cX5_put 4 none ({ frames := 0, cells := 0, slots := 0, locals := 0 } : Room) D vwCl sp q ca [.ref (q b), .int i, .long x] μ (wSL μ c0 i.toNatClampNeg (x)) := by
  refine wMv_intro (by decide) (Nat.le_of_ble_eq_true rfl) ?_
  intro p e s m args below meth c A C
  refine wr_sub [(0, .ref (q b)), (1, .int i), (2, .long x)] [0, 1, 2] rfl ?_
  refine wr_aload_n 0 C dX5_put_0 0 rfl rfl ?_
  refine wr_getR 1 0 C dX5_put_1 hb rfl in_X5 (by decide) rfl q295 ?_
  refine wr_instNo 4 C dX5_put_4 q1066 hs (wFc_long C.2.2.2.2.2.1) (by decide) ?_
  refine wr_if_eq 7 25 C dX5_put_7 (by decide) (fun _ => ?_) (fun h => absurd rfl h)
  refine wr_aload_n 25 C dX5_put_25 0 rfl rfl ?_
  refine wr_getR 26 0 C dX5_put_26 hb rfl in_X5 (by decide) rfl q295 ?_
  refine wr_instNo 29 C dX5_put_29 q1067 hs (wFc_long C.2.2.2.2.2.1) (by decide) ?_
  refine wr_if_eq 32 50 C dX5_put_32 (by decide) (fun _ => ?_) (fun h => absurd rfl h)
  refine wr_aload_n 50 C dX5_put_50 0 rfl rfl ?_
  refine wr_getR 51 0 C dX5_put_51 hb rfl in_X5 (by decide) rfl q295 ?_
  refine wr_instNo 54 C dX5_put_54 q1068 hs (wFc_long C.2.2.2.2.2.1) (by decide) ?_
  refine wr_if_eq 57 74 C dX5_put_57 (by decide) (fun _ => ?_) (fun h => absurd rfl h)
  refine wr_aload_n 74 C dX5_put_74 0 rfl rfl ?_
  refine wr_getR 75 0 C dX5_put_75 hb rfl in_X5 (by decide) rfl q295 ?_
  refine wr_castA 78 C dX5_put_78 q1069 hs (wFc_long C.2.2.2.2.2.1) ?_
  refine wr_iload_n 81 C dX5_put_81 1 rfl rfl ?_
  refine wr_lload_n 82 C dX5_put_82 2 rfl rfl ?_
  refine wr_last 83 C dX5_put_83 hs hi rfl ?_
  exact wr_vret 84 C dX5_put_84 ⟨Nat.le_refl _, Nat.le_refl _⟩ rfl
/-- a row: an array of one of the four kinds -/
def wRow (sp : List wCell) (c t n : Nat) : Prop := sp[c]? = some (.inr (t, n)) ∧ (t = 2 ∨ t = 4 ∨ t = 0 ∨ t = 1)
/-- what stands at a place of a row; a row with a number put there -/
def wAt (μ : wMem) (c t i : Nat) : Int64 := if t = 1 then μ.2 c i else (μ.1 c i).toInt64
def wPut (μ : wMem) (c t i : Nat) (x : Int64) : wMem := if t = 1 then wSL μ c i x else if t = 2 then wSI μ c i x.toInt32.toInt8.toInt32 else if t = 4 then wSI μ c i x.toInt32.toInt16.toInt32 else wSI μ c i x.toInt32
theorem tX5_size (l : Launch) {D : va_G} {q : Nat → Nat} {ca : wCA} {sp : List wCell} {b c0 t n : Nat} (hb : sp[b]? = some (.inl (5, [(2, c0)]))) (hr : wRow sp c0 t n) (μ : wMem) : wMi l yX5_size cX5_size 1 (some .int) ({ frames := 0, cells := 0, slots := 0, locals := 0 } : Room) D vwCl sp q ca [.ref (q b)] μ (Int32.ofNat n, μ) := by
  obtain ⟨hs, rfl | rfl | rfl | rfl⟩ := hr
  · exact tX5_size_byte l hb hs μ
  · exact tX5_size_short l hb hs μ
  · exact tX5_size_int l hb hs μ
  · exact tX5_size_long l hb hs μ
theorem tX5_at (l : Launch) {D : va_G} {q : Nat → Nat} {ca : wCA} {sp : List wCell} {b c0 t n : Nat} (hb : sp[b]? = some (.inl (5, [(2, c0)]))) (hr : wRow sp c0 t n) {i : Int32} (hi : ok_in i n = true) (μ : wMem) : wMl l yX5_at cX5_at 2 (some .long) ({ frames := 0, cells := 0, slots := 0, locals := 0 } : Room) D vwCl sp q ca [.ref (q b), .int i] μ (wAt μ c0 t i.toNatClampNeg, μ) := by
  obtain ⟨hs, rfl | rfl | rfl | rfl⟩ := hr
  · exact tX5_at_byte l hb hs hi μ
  · exact tX5_at_short l hb hs hi μ
  · exact tX5_at_int l hb hs hi μ
  · exact tX5_at_long l hb hs hi μ
theorem tX5_put (l : Launch) {D : va_G} {q : Nat → Nat} {ca : wCA} {sp : List wCell} {b c0 t n : Nat} (hb : sp[b]? = some (.inl (5, [(2, c0)]))) (hr : wRow sp c0 t n) {i : Int32} {x : Int64} (hi : ok_in i n = true) (μ : wMem) : wMv l yX5_put cX5_put 4 none ({ frames := 0, cells := 0, slots := 0, locals := 0 } : Room) D vwCl sp q ca [.ref (q b), .int i, .long x] μ (wPut μ c0 t i.toNatClampNeg x) := by
  obtain ⟨hs, rfl | rfl | rfl | rfl⟩ := hr
  · exact tX5_put_byte l hb hs hi μ
  · exact tX5_put_short l hb hs hi μ
  · exact tX5_put_int l hb hs hi μ
  · exact tX5_put_long l hb hs hi μ
