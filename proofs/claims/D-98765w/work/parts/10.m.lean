set_option maxRecDepth 100000
abbrev cX6_in : ByteArray := prog_11_method_3_code
def yX6_in : MethodName := ⟨RX6, "in", "(JJJ)Z"⟩
def dkwX6_in_0 : List UInt8 := [30, 32, 148, 155, 0, 14, 30, 22, 4, 148, 157, 0, 7, 4, 167, 0, 4, 3, 172]
abbrev dktX6_in_0 : List UInt8 := dkwX6_in_0 ++ []
theorem dksX6_in_0 : cX6_in.data.toList.drop 0 = dktX6_in_0 := by decide +kernel
theorem dX6_in_0 : decode cX6_in 0 = .ok (.lload_n 0, 1) := dk_30 (dk_at dksX6_in_0 0 rfl rfl)
theorem dX6_in_1 : decode cX6_in 1 = .ok (.lload_n 2, 1) := dk_32 (dk_at dksX6_in_0 1 rfl rfl)
theorem dX6_in_2 : decode cX6_in 2 = .ok (.lcmp, 1) := dk_148 (dk_at dksX6_in_0 2 rfl rfl)
theorem dX6_in_3 : decode cX6_in 3 = .ok (.ifCond .lt 14, 3) := dk_155 0 14 (dk_at dksX6_in_0 3 rfl rfl)
theorem dX6_in_6 : decode cX6_in 6 = .ok (.lload_n 0, 1) := dk_30 (dk_at dksX6_in_0 6 rfl rfl)
theorem dX6_in_7 : decode cX6_in 7 = .ok (.lload 4, 2) := dk_22 4 (dk_at dksX6_in_0 7 rfl rfl)
theorem dX6_in_9 : decode cX6_in 9 = .ok (.lcmp, 1) := dk_148 (dk_at dksX6_in_0 9 rfl rfl)
theorem dX6_in_10 : decode cX6_in 10 = .ok (.ifCond .gt 7, 3) := dk_157 0 7 (dk_at dksX6_in_0 10 rfl rfl)
theorem dX6_in_13 : decode cX6_in 13 = .ok (.iconst 1, 1) := dk_4 (dk_at dksX6_in_0 13 rfl rfl)
theorem dX6_in_14 : decode cX6_in 14 = .ok (.goto 4, 3) := dk_167 0 4 (dk_at dksX6_in_0 14 rfl rfl)
theorem dX6_in_17 : decode cX6_in 17 = .ok (.iconst 0, 1) := dk_3 (dk_at dksX6_in_0 17 rfl rfl)
theorem dX6_in_18 : decode cX6_in 18 = .ok (.ireturn, 1) := dk_172 (dk_at dksX6_in_0 18 rfl rfl)

theorem okX6_in : wOkS yX6_in cX6_in 6 (some .boolean) 3 := ⟨q1553, q145, q1554, by decide, by decide, by decide +kernel⟩
def fX6_in (N : Nat)  (a0 : Int64) (a2 : Int64) (a4 : Int64) (μ : wMem) : Option (Int32 × wMem) :=
  if a0 < a2 then some (0, μ) else if a4 < a0 then some (0, μ) else some (1, μ)
set_option maxHeartbeats 4000000 in
set_option maxRecDepth 100000 in
theorem tX6_in (l : Launch) {D : va_G} {E : List wCell} {q : Nat → Nat} {ca : wCA} (N : Nat)   (a0 : Int64) (a2 : Int64) (a4 : Int64) (μ : wMem) (r0 : (Int32 × wMem)) (hf : fX6_in N  a0 a2 a4 μ = some r0) : wMi l yX6_in cX6_in 6 (some .boolean) ({ frames := 0, cells := 0, slots := 0, locals := 0 } : Room) D vwCl (spM ++ E) q ca [.long a0, .long a2, .long a4] μ r0 := by
  refine wMi_intro (by decide) (Nat.le_of_ble_eq_true rfl) ?_
  intro p e s m args below meth c A C
  unfold fX6_in at hf
  refine wr_sub [(0, .long a0), (2, .long a2), (4, .long a4)] [0, 1, 2] rfl ?_
  refine wr_lload_n 0 C dX6_in_0 0 rfl rfl ?_
  refine wr_lload_n 1 C dX6_in_1 1 rfl rfl ?_
  refine wr_lcmp_lt 2 17 C dX6_in_2 dX6_in_3 (by decide) (fun c1 => ?_) (fun c1 => ?_)
  · replace hf := o_pos c1 hf
    refine wr_iconst 17 C dX6_in_17 (v := 0) rfl ?_
    exact wr_zret 18 C dX6_in_18 rfl ⟨Nat.zero_le _, Nat.zero_le _⟩ (Option.some.inj hf)
  · replace hf := o_neg c1 hf
    refine wr_lload_n 6 C dX6_in_6 0 rfl rfl ?_
    refine wr_lload 7 C dX6_in_7 2 rfl ?_
    refine wr_lcmp_gt 9 17 C dX6_in_9 dX6_in_10 (by decide) (fun c2 => ?_) (fun c2 => ?_)
    · replace hf := o_pos c2 hf
      refine wr_iconst 17 C dX6_in_17 (v := 0) rfl ?_
      exact wr_zret 18 C dX6_in_18 rfl ⟨Nat.zero_le _, Nat.zero_le _⟩ (Option.some.inj hf)
    · replace hf := o_neg c2 hf
      refine wr_iconst 13 C dX6_in_13 (v := 1) rfl ?_
      refine wr_goto 14 C dX6_in_14 (tgt := 18) (by decide) ?_
      exact wr_zret 18 C dX6_in_18 rfl ⟨Nat.zero_le _, Nat.zero_le _⟩ (Option.some.inj hf)
abbrev cX6_isSlot : ByteArray := prog_11_method_4_code
def yX6_isSlot : MethodName := ⟨RX6, "isSlot", "(I)Z"⟩
def dkwX6_isSlot_0 : List UInt8 := [26, 133, 9, 20, 0, 91, 184, 0, 93, 172]
abbrev dktX6_isSlot_0 : List UInt8 := dkwX6_isSlot_0 ++ []
theorem dksX6_isSlot_0 : cX6_isSlot.data.toList.drop 0 = dktX6_isSlot_0 := by decide +kernel
theorem dX6_isSlot_0 : decode cX6_isSlot 0 = .ok (.iload_n 0, 1) := dk_26 (dk_at dksX6_isSlot_0 0 rfl rfl)
theorem dX6_isSlot_1 : decode cX6_isSlot 1 = .ok (.i2l, 1) := dk_133 (dk_at dksX6_isSlot_0 1 rfl rfl)
theorem dX6_isSlot_2 : decode cX6_isSlot 2 = .ok (.lconst 0, 1) := dk_9 (dk_at dksX6_isSlot_0 2 rfl rfl)
theorem dX6_isSlot_3 : decode cX6_isSlot 3 = .ok (.ldc2_w 91, 3) := dk_20 0 91 (dk_at dksX6_isSlot_0 3 rfl rfl)
theorem dX6_isSlot_6 : decode cX6_isSlot 6 = .ok (.invokestatic 93, 3) := dk_184 0 93 (dk_at dksX6_isSlot_0 6 rfl rfl)
theorem dX6_isSlot_9 : decode cX6_isSlot 9 = .ok (.ireturn, 1) := dk_172 (dk_at dksX6_isSlot_0 9 rfl rfl)

theorem okX6_isSlot : wOkS yX6_isSlot cX6_isSlot 1 (some .boolean) 1 := ⟨q1549, q145, q1550, by decide, by decide, by decide +kernel⟩
def fX6_isSlot (N : Nat)  (a0 : Int32) (μ : wMem) : Option (Int32 × wMem) :=
  wBind (fX6_in N  (Int32.toInt64 a0) 0 3 μ) fun v3 μ2 => wG (ok_b v3) (some (v3, μ2))
set_option maxHeartbeats 4000000 in
set_option maxRecDepth 100000 in
theorem tX6_isSlot (l : Launch) {D : va_G} {E : List wCell} {q : Nat → Nat} {ca : wCA} (N : Nat)   (a0 : Int32) (μ : wMem) (r0 : (Int32 × wMem)) (hf : fX6_isSlot N  a0 μ = some r0) : wMi l yX6_isSlot cX6_isSlot 1 (some .boolean) ({ frames := 1, cells := 0, slots := 0, locals := 25 } : Room) D vwCl (spM ++ E) q ca [.int a0] μ r0 := by
  refine wMi_intro (by decide) (Nat.le_of_ble_eq_true rfl) ?_
  intro p e s m args below meth c A C
  unfold fX6_isSlot at hf
  refine wr_sub [(0, .int a0)] [0] rfl ?_
  refine wr_iload_n 0 C dX6_isSlot_0 0 rfl rfl ?_
  refine wr_i2l 1 C dX6_isSlot_1 ?_
  refine wr_lconst 2 C dX6_isSlot_2 (v := 0) rfl ?_
  refine wr_ldc2 3 C dX6_isSlot_3 q1551 ?_
  obtain ⟨v3, μ2, h1, hf⟩ := o_bind hf
  refine wr_Si (kc1 := 0) (ks1 := 0) 6 [] C dX6_isSlot_6 (tX6_in l N   (Int32.toInt64 a0) 0 3 μ (v3, μ2) h1) okX6_in q1552 ⟨rfl, rfl, Nat.le_of_ble_eq_true rfl, Nat.le_of_ble_eq_true rfl, Nat.zero_le _, Nat.zero_le _⟩ (Nat.le_of_ble_eq_true rfl) rfl ?_
  obtain ⟨g4, hf⟩ := o_g hf
  exact wr_zret 9 C dX6_isSlot_9 g4 ⟨Nat.zero_le _, Nat.zero_le _⟩ (Option.some.inj hf)
abbrev cX6_row : ByteArray := prog_11_method_5_code
def yX6_row : MethodName := ⟨RX6, "row", "(III)I"⟩
def dkwX6_row_3 : List UInt8 := [21, 4, 96, 9, 80, 132, 4, 1, 167, 255, 234, 3, 172]
abbrev dktX6_row_3 : List UInt8 := dkwX6_row_3 ++ []
def dkwX6_row_2 : List UInt8 := [180, 0, 13, 27, 29, 79, 3, 54, 4, 21, 4, 29, 162, 0, 22, 42, 180, 0, 16, 16, 60, 27, 104]
abbrev dktX6_row_2 : List UInt8 := dkwX6_row_2 ++ dktX6_row_3
def dkwX6_row_1 : List UInt8 := [29, 16, 60, 164, 0, 6, 16, 254, 172, 29, 156, 0, 6, 16, 253, 172, 42, 180, 0, 7, 27, 28, 79, 42]
abbrev dktX6_row_1 : List UInt8 := dkwX6_row_1 ++ dktX6_row_2
def dkwX6_row_0 : List UInt8 := [42, 3, 181, 0, 88, 27, 184, 0, 97, 153, 0, 21, 28, 133, 9, 20, 0, 91, 184, 0, 93, 153, 0, 9]
abbrev dktX6_row_0 : List UInt8 := dkwX6_row_0 ++ dktX6_row_1
theorem dksX6_row_0 : cX6_row.data.toList.drop 0 = dktX6_row_0 := by decide +kernel
theorem dksX6_row_1 : cX6_row.data.toList.drop 24 = dktX6_row_1 := dk_seg dksX6_row_0 24 rfl rfl
theorem dksX6_row_2 : cX6_row.data.toList.drop 48 = dktX6_row_2 := dk_seg dksX6_row_1 24 rfl rfl
theorem dksX6_row_3 : cX6_row.data.toList.drop 71 = dktX6_row_3 := dk_seg dksX6_row_2 23 rfl rfl
theorem dX6_row_0 : decode cX6_row 0 = .ok (.aload_n 0, 1) := dk_42 (dk_at dksX6_row_0 0 rfl rfl)
theorem dX6_row_1 : decode cX6_row 1 = .ok (.iconst 0, 1) := dk_3 (dk_at dksX6_row_0 1 rfl rfl)
theorem dX6_row_2 : decode cX6_row 2 = .ok (.putfield 88, 3) := dk_181 0 88 (dk_at dksX6_row_0 2 rfl rfl)
theorem dX6_row_5 : decode cX6_row 5 = .ok (.iload_n 1, 1) := dk_27 (dk_at dksX6_row_0 5 rfl rfl)
theorem dX6_row_6 : decode cX6_row 6 = .ok (.invokestatic 97, 3) := dk_184 0 97 (dk_at dksX6_row_0 6 rfl rfl)
theorem dX6_row_9 : decode cX6_row 9 = .ok (.ifCond .eq 21, 3) := dk_153 0 21 (dk_at dksX6_row_0 9 rfl rfl)
theorem dX6_row_12 : decode cX6_row 12 = .ok (.iload_n 2, 1) := dk_28 (dk_at dksX6_row_0 12 rfl rfl)
theorem dX6_row_13 : decode cX6_row 13 = .ok (.i2l, 1) := dk_133 (dk_at dksX6_row_0 13 rfl rfl)
theorem dX6_row_14 : decode cX6_row 14 = .ok (.lconst 0, 1) := dk_9 (dk_at dksX6_row_0 14 rfl rfl)
theorem dX6_row_15 : decode cX6_row 15 = .ok (.ldc2_w 91, 3) := dk_20 0 91 (dk_at dksX6_row_0 15 rfl rfl)
theorem dX6_row_18 : decode cX6_row 18 = .ok (.invokestatic 93, 3) := dk_184 0 93 (dk_at dksX6_row_0 18 rfl rfl)
theorem dX6_row_21 : decode cX6_row 21 = .ok (.ifCond .eq 9, 3) := dk_153 0 9 (dk_at dksX6_row_0 21 rfl rfl)
theorem dX6_row_24 : decode cX6_row 24 = .ok (.iload_n 3, 1) := dk_29 (dk_at dksX6_row_1 0 rfl rfl)
theorem dX6_row_25 : decode cX6_row 25 = .ok (.bipush 60, 2) := dk_16 60 (dk_at dksX6_row_1 1 rfl rfl)
theorem dX6_row_27 : decode cX6_row 27 = .ok (.if_icmp .le 6, 3) := dk_164 0 6 (dk_at dksX6_row_1 3 rfl rfl)
theorem dX6_row_30 : decode cX6_row 30 = .ok (.bipush (-2), 2) := dk_16 254 (dk_at dksX6_row_1 6 rfl rfl)
theorem dX6_row_32 : decode cX6_row 32 = .ok (.ireturn, 1) := dk_172 (dk_at dksX6_row_1 8 rfl rfl)
theorem dX6_row_33 : decode cX6_row 33 = .ok (.iload_n 3, 1) := dk_29 (dk_at dksX6_row_1 9 rfl rfl)
theorem dX6_row_34 : decode cX6_row 34 = .ok (.ifCond .ge 6, 3) := dk_156 0 6 (dk_at dksX6_row_1 10 rfl rfl)
theorem dX6_row_37 : decode cX6_row 37 = .ok (.bipush (-3), 2) := dk_16 253 (dk_at dksX6_row_1 13 rfl rfl)
theorem dX6_row_39 : decode cX6_row 39 = .ok (.ireturn, 1) := dk_172 (dk_at dksX6_row_1 15 rfl rfl)
theorem dX6_row_40 : decode cX6_row 40 = .ok (.aload_n 0, 1) := dk_42 (dk_at dksX6_row_1 16 rfl rfl)
theorem dX6_row_41 : decode cX6_row 41 = .ok (.getfield 7, 3) := dk_180 0 7 (dk_at dksX6_row_1 17 rfl rfl)
theorem dX6_row_44 : decode cX6_row 44 = .ok (.iload_n 1, 1) := dk_27 (dk_at dksX6_row_1 20 rfl rfl)
theorem dX6_row_45 : decode cX6_row 45 = .ok (.iload_n 2, 1) := dk_28 (dk_at dksX6_row_1 21 rfl rfl)
theorem dX6_row_46 : decode cX6_row 46 = .ok (.iastore, 1) := dk_79 (dk_at dksX6_row_1 22 rfl rfl)
theorem dX6_row_47 : decode cX6_row 47 = .ok (.aload_n 0, 1) := dk_42 (dk_at dksX6_row_1 23 rfl rfl)
theorem dX6_row_48 : decode cX6_row 48 = .ok (.getfield 13, 3) := dk_180 0 13 (dk_at dksX6_row_2 0 rfl rfl)
theorem dX6_row_51 : decode cX6_row 51 = .ok (.iload_n 1, 1) := dk_27 (dk_at dksX6_row_2 3 rfl rfl)
theorem dX6_row_52 : decode cX6_row 52 = .ok (.iload_n 3, 1) := dk_29 (dk_at dksX6_row_2 4 rfl rfl)
theorem dX6_row_53 : decode cX6_row 53 = .ok (.iastore, 1) := dk_79 (dk_at dksX6_row_2 5 rfl rfl)
theorem dX6_row_54 : decode cX6_row 54 = .ok (.iconst 0, 1) := dk_3 (dk_at dksX6_row_2 6 rfl rfl)
theorem dX6_row_55 : decode cX6_row 55 = .ok (.istore 4, 2) := dk_54 4 (dk_at dksX6_row_2 7 rfl rfl)
theorem dX6_row_57 : decode cX6_row 57 = .ok (.iload 4, 2) := dk_21 4 (dk_at dksX6_row_2 9 rfl rfl)
theorem dX6_row_59 : decode cX6_row 59 = .ok (.iload_n 3, 1) := dk_29 (dk_at dksX6_row_2 11 rfl rfl)
theorem dX6_row_60 : decode cX6_row 60 = .ok (.if_icmp .ge 22, 3) := dk_162 0 22 (dk_at dksX6_row_2 12 rfl rfl)
theorem dX6_row_63 : decode cX6_row 63 = .ok (.aload_n 0, 1) := dk_42 (dk_at dksX6_row_2 15 rfl rfl)
theorem dX6_row_64 : decode cX6_row 64 = .ok (.getfield 16, 3) := dk_180 0 16 (dk_at dksX6_row_2 16 rfl rfl)
theorem dX6_row_67 : decode cX6_row 67 = .ok (.bipush 60, 2) := dk_16 60 (dk_at dksX6_row_2 19 rfl rfl)
theorem dX6_row_69 : decode cX6_row 69 = .ok (.iload_n 1, 1) := dk_27 (dk_at dksX6_row_2 21 rfl rfl)
theorem dX6_row_70 : decode cX6_row 70 = .ok (.imul, 1) := dk_104 (dk_at dksX6_row_2 22 rfl rfl)
theorem dX6_row_71 : decode cX6_row 71 = .ok (.iload 4, 2) := dk_21 4 (dk_at dksX6_row_3 0 rfl rfl)
theorem dX6_row_73 : decode cX6_row 73 = .ok (.iadd, 1) := dk_96 (dk_at dksX6_row_3 2 rfl rfl)
theorem dX6_row_74 : decode cX6_row 74 = .ok (.lconst 0, 1) := dk_9 (dk_at dksX6_row_3 3 rfl rfl)
theorem dX6_row_75 : decode cX6_row 75 = .ok (.lastore, 1) := dk_80 (dk_at dksX6_row_3 4 rfl rfl)
theorem dX6_row_76 : decode cX6_row 76 = .ok (.iinc 4 1, 3) := dk_132 4 1 (dk_at dksX6_row_3 5 rfl rfl)
theorem dX6_row_79 : decode cX6_row 79 = .ok (.goto (-22), 3) := dk_167 255 234 (dk_at dksX6_row_3 8 rfl rfl)
theorem dX6_row_82 : decode cX6_row 82 = .ok (.iconst 0, 1) := dk_3 (dk_at dksX6_row_3 11 rfl rfl)
theorem dX6_row_83 : decode cX6_row 83 = .ok (.ireturn, 1) := dk_172 (dk_at dksX6_row_3 12 rfl rfl)
theorem puspM_0_0_X6 {p : Program} {l : Launch} {e : Env} {R : Room} {s : State} {m : MethodId} {args : Array Value} {below : List Frame} {meth : Method} {c : Code} {cc : ByteArray} {nL : Nat} {ret : Option FieldType} {D : va_G} {E : List wCell} {q : Nat → Nat} {ca : wCA} {A : Nat → Prop} {Q : State → Prop} {kc ks : Nat} {μ : wMem} {lv : List (Nat × Value)} {st : List Value} {v : Int32} {μ1 : wMem} (pc : Nat) (C : wC p R s m args meth c cc "OnePassportModel" nL ret D vwCl (spM ++ E) q ca A) (hd : decode cc pc = .ok (.putfield 88, 3)) (hμ : μ1 = wSI μ 0 0 v) (k : wJ p l e R s m args below meth c nL D vwCl (spM ++ E) q ca A Q kc ks μ1 (pc + 3) lv st) : wJ p l e R s m args below meth c nL D vwCl (spM ++ E) q ca A Q kc ks μ pc lv (.int v :: .ref (q 0) :: st) := wr_putI pc 0 C hd spM_0 rfl in_X6 tyX6 tyX6_ok nmX6 (by decide) rfl q1399 rfl rfl hμ k
theorem gespM_0_1_X6 {p : Program} {l : Launch} {e : Env} {R : Room} {s : State} {m : MethodId} {args : Array Value} {below : List Frame} {meth : Method} {c : Code} {cc : ByteArray} {nL : Nat} {ret : Option FieldType} {D : va_G} {E : List wCell} {q : Nat → Nat} {ca : wCA} {A : Nat → Prop} {Q : State → Prop} {kc ks : Nat} {μ : wMem} {lv : List (Nat × Value)} {st : List Value} (pc : Nat) (C : wC p R s m args meth c cc "OnePassportModel" nL ret D vwCl (spM ++ E) q ca A) (hd : decode cc pc = .ok (.getfield 7, 3)) (k : wJ p l e R s m args below meth c nL D vwCl (spM ++ E) q ca A Q kc ks μ (pc + 3) lv (.ref (q 1) :: st)) : wJ p l e R s m args below meth c nL D vwCl (spM ++ E) q ca A Q kc ks μ pc lv (.ref (q 0) :: st) := wr_getR pc 1 C hd spM_0 rfl in_X6 (by decide) rfl q1400 k
theorem gespM_0_2_X6 {p : Program} {l : Launch} {e : Env} {R : Room} {s : State} {m : MethodId} {args : Array Value} {below : List Frame} {meth : Method} {c : Code} {cc : ByteArray} {nL : Nat} {ret : Option FieldType} {D : va_G} {E : List wCell} {q : Nat → Nat} {ca : wCA} {A : Nat → Prop} {Q : State → Prop} {kc ks : Nat} {μ : wMem} {lv : List (Nat × Value)} {st : List Value} (pc : Nat) (C : wC p R s m args meth c cc "OnePassportModel" nL ret D vwCl (spM ++ E) q ca A) (hd : decode cc pc = .ok (.getfield 13, 3)) (k : wJ p l e R s m args below meth c nL D vwCl (spM ++ E) q ca A Q kc ks μ (pc + 3) lv (.ref (q 2) :: st)) : wJ p l e R s m args below meth c nL D vwCl (spM ++ E) q ca A Q kc ks μ pc lv (.ref (q 0) :: st) := wr_getR pc 2 C hd spM_0 rfl in_X6 (by decide) rfl q1401 k
theorem gespM_0_3_X6 {p : Program} {l : Launch} {e : Env} {R : Room} {s : State} {m : MethodId} {args : Array Value} {below : List Frame} {meth : Method} {c : Code} {cc : ByteArray} {nL : Nat} {ret : Option FieldType} {D : va_G} {E : List wCell} {q : Nat → Nat} {ca : wCA} {A : Nat → Prop} {Q : State → Prop} {kc ks : Nat} {μ : wMem} {lv : List (Nat × Value)} {st : List Value} (pc : Nat) (C : wC p R s m args meth c cc "OnePassportModel" nL ret D vwCl (spM ++ E) q ca A) (hd : decode cc pc = .ok (.getfield 16, 3)) (k : wJ p l e R s m args below meth c nL D vwCl (spM ++ E) q ca A Q kc ks μ (pc + 3) lv (.ref (q 3) :: st)) : wJ p l e R s m args below meth c nL D vwCl (spM ++ E) q ca A Q kc ks μ pc lv (.ref (q 0) :: st) := wr_getR pc 3 C hd spM_0 rfl in_X6 (by decide) rfl q1402 k
theorem okX6_row : wOkV yX6_row cX6_row 5 (some .int) 3 := ⟨q1545, q1546, q145, q1547, by decide, by decide, by decide +kernel⟩
def gbX6_row_57 (N : Nat)  (x1_ : Int32) (x3_ : Int32) (K : (wMem → Option (Int32 × wMem))) (rec : (Int32 → wMem → Option (Int32 × wMem))) (x4_ : Int32) (μ : wMem) : Option (Int32 × wMem) :=
  if x3_ ≤ x4_ then K  μ else wG (ok_in (((60 : Int32) * x1_) + x4_) 240) (wLet (wSL μ 3 (Int32.toNatClampNeg (((60 : Int32) * x1_) + x4_)) (0 : Int64)) fun μ19 => wLet (x4_ + 1 : Int32) fun x20 => rec x20 μ19)
def gX6_row_57 (N : Nat)  (x1_ : Int32) (x3_ : Int32) (K : (wMem → Option (Int32 × wMem))) : Nat → (Int32 → wMem → Option (Int32 × wMem))
  | 0 => fun _ _ => none
  | k + 1 => gbX6_row_57 N  x1_ x3_ K (gX6_row_57 N  x1_ x3_ K k)
set_option maxHeartbeats 4000000 in
set_option maxRecDepth 100000 in
theorem tX6_row_57 {p : Program} {l : Launch} {e : Env} {s : State} {m : MethodId} {args : Array Value} {below : List Frame} {meth : Method} {c : Code} {D : va_G} {E : List wCell} {q : Nat → Nat} {ca : wCA} {A : Nat → Prop} (C : wC p ({ frames := 2, cells := 0, slots := 0, locals := 45 } : Room) s m args meth c cX6_row yX6_row.cls 5 (some .int) D vwCl (spM ++ E) q ca A) (N : Nat)   (x1_ : Int32) (x3_ : Int32) (K : (wMem → Option (Int32 × wMem))) (r0 : (Int32 × wMem)) (hK : ∀  (μ : wMem), K  μ = some r0 → wJ p l e ({ frames := 2, cells := 0, slots := 0, locals := 45 } : Room) s m args below meth c 5 D vwCl (spM ++ E) q ca A (wQi ({ frames := 2, cells := 0, slots := 0, locals := 45 } : Room) D vwCl (spM ++ E) q ca below args s A r0) 0 0 μ 82 [] []) : ∀ (k : Nat) (x4_ : Int32) (μ : wMem), gX6_row_57 N  x1_ x3_ K k x4_ μ = some r0 → wJ p l e ({ frames := 2, cells := 0, slots := 0, locals := 45 } : Room) s m args below meth c 5 D vwCl (spM ++ E) q ca A (wQi ({ frames := 2, cells := 0, slots := 0, locals := 45 } : Room) D vwCl (spM ++ E) q ca below args s A r0) 0 0 μ 57 [(0, .ref (q 0)), (1, .int x1_), (3, .int x3_), (4, .int x4_)] [] := by
  intro k
  induction k with
  | zero =>
    intro x4_ μ hf
    cases hf
  | succ k ih =>
    intro x4_ μ hf
    replace hf : gbX6_row_57 N  x1_ x3_ K (gX6_row_57 N  x1_ x3_ K k) x4_ μ = some r0 := hf
    unfold gbX6_row_57 at hf
    refine wr_iload 57 C dX6_row_57 3 rfl ?_
    refine wr_iload_n 59 C dX6_row_59 2 rfl rfl ?_
    refine wr_icmp_ge 60 82 C dX6_row_60 (by decide) (fun c17 => ?_) (fun c17 => ?_)
    · replace hf := o_pos c17 hf
      refine wr_sub [] [] rfl ?_
      exact hK  μ hf
    · replace hf := o_neg c17 hf
      refine wr_aload_n 63 C dX6_row_63 0 rfl rfl ?_
      refine gespM_0_3_X6 64 C dX6_row_64 ?_
      refine wr_bipush 67 C dX6_row_67 (v := 60) rfl ?_
      refine wr_iload_n 69 C dX6_row_69 1 rfl rfl ?_
      refine wr_imul 70 C dX6_row_70 ?_
      refine wr_iload 71 C dX6_row_71 3 rfl ?_
      refine wr_iadd 73 C dX6_row_73 ?_
      refine wr_lconst 74 C dX6_row_74 (v := 0) rfl ?_
      obtain ⟨g18, hf⟩ := o_g hf
      obtain ⟨μ19, eμ19, hf⟩ := o_let hf
      refine wr_last 75 C dX6_row_75 spM_3 g18 eμ19 ?_
      obtain ⟨x20, ex20, hf⟩ := o_let hf
      refine wr_iinc 76 [(4, .int x20), (0, .ref (q 0)), (1, .int x1_), (3, .int x3_)] C dX6_row_76 3 rfl (ex20.trans rfl) (Nat.le_of_ble_eq_true rfl) rfl ?_
      refine wr_goto 79 C dX6_row_79 (tgt := 57) (by decide) ?_
      refine wr_sub [(0, .ref (q 0)), (1, .int x1_), (3, .int x3_), (4, .int x20)] [1, 2, 3, 0] rfl ?_
      exact ih x20 μ19 hf
def fX6_row (N : Nat)  (a1 : Int32) (a2 : Int32) (a3 : Int32) (μ : wMem) : Option (Int32 × wMem) :=
  wLet (wSI μ 0 0 (0 : Int32)) fun μ1 => wBind (fX6_isSlot N  a1 μ1) fun v4 μ3 => wLet (fun  (μ5 : wMem) => some ((-2), μ5)) fun Jrow30 => if v4 = 0 then Jrow30  μ3 else wBind (fX6_in N  (Int32.toInt64 a2) 0 3 μ3) fun v9 μ8 => if v9 = 0 then Jrow30  μ8 else if a3 ≤ (60 : Int32) then if 0 ≤ a3 then wG (ok_in a1 4) (wLet (wSI μ8 1 (Int32.toNatClampNeg a1) a2) fun μ14 => wG (ok_in a1 4) (wLet (wSI μ14 2 (Int32.toNatClampNeg a1) a3) fun μ16 => gX6_row_57 N  a1 a3 (fun  (μ21 : wMem) => some (0, μ21)) N 0 μ16)) else some ((-3), μ8) else Jrow30  μ8
set_option maxHeartbeats 4000000 in
set_option maxRecDepth 100000 in
theorem tX6_row (l : Launch) {D : va_G} {E : List wCell} {q : Nat → Nat} {ca : wCA} (N : Nat)   (a1 : Int32) (a2 : Int32) (a3 : Int32) (μ : wMem) (r0 : (Int32 × wMem)) (hf : fX6_row N  a1 a2 a3 μ = some r0) : wMi l yX6_row cX6_row 5 (some .int) ({ frames := 2, cells := 0, slots := 0, locals := 45 } : Room) D vwCl (spM ++ E) q ca [.ref (q 0), .int a1, .int a2, .int a3] μ r0 := by
  refine wMi_intro (by decide) (Nat.le_of_ble_eq_true rfl) ?_
  intro p e s m args below meth c A C
  unfold fX6_row at hf
  refine wr_sub [(0, .ref (q 0)), (1, .int a1), (2, .int a2), (3, .int a3)] [0, 1, 2, 3] rfl ?_
  refine wr_aload_n 0 C dX6_row_0 0 rfl rfl ?_
  refine wr_iconst 1 C dX6_row_1 (v := 0) rfl ?_
  obtain ⟨μ1, eμ1, hf⟩ := o_let hf
  refine puspM_0_0_X6 2 C dX6_row_2 eμ1 ?_
  refine wr_iload_n 5 C dX6_row_5 1 rfl rfl ?_
  obtain ⟨v4, μ3, h2, hf⟩ := o_bind hf
  refine wr_Si (kc1 := 0) (ks1 := 0) 6 [] C dX6_row_6 (tX6_isSlot l N   a1 μ1 (v4, μ3) h2) okX6_isSlot q1548 ⟨rfl, rfl, Nat.le_of_ble_eq_true rfl, Nat.le_of_ble_eq_true rfl, Nat.zero_le _, Nat.zero_le _⟩ (Nat.le_of_ble_eq_true rfl) rfl ?_
  obtain ⟨Jrow30, eJrow30, hf⟩ := o_let hf
  have hJrow30 : ∀  (μ5 : wMem), Jrow30  μ5 = some r0 → wJ p l e ({ frames := 2, cells := 0, slots := 0, locals := 45 } : Room) s m args below meth c 5 D vwCl (spM ++ E) q ca A (wQi ({ frames := 2, cells := 0, slots := 0, locals := 45 } : Room) D vwCl (spM ++ E) q ca below args s A r0) 0 0 μ5 30 [] [] := by
    intro  μ5 hf
    rw [eJrow30] at hf
    refine wr_bipush 30 C dX6_row_30 (v := (-2)) rfl ?_
    exact wr_iret 32 C dX6_row_32 ⟨Nat.zero_le _, Nat.zero_le _⟩ (Option.some.inj hf)
  refine wr_if_eq 9 30 C dX6_row_9 (by decide) (fun c6 => ?_) (fun c6 => ?_)
  · replace hf := o_pos c6 hf
    refine wr_sub [] [] rfl ?_
    exact hJrow30  μ3 hf
  · replace hf := o_neg c6 hf
    refine wr_iload_n 12 C dX6_row_12 2 rfl rfl ?_
    refine wr_i2l 13 C dX6_row_13 ?_
    refine wr_lconst 14 C dX6_row_14 (v := 0) rfl ?_
    refine wr_ldc2 15 C dX6_row_15 q1551 ?_
    obtain ⟨v9, μ8, h7, hf⟩ := o_bind hf
    refine wr_Si (kc1 := 0) (ks1 := 0) 18 [] C dX6_row_18 (tX6_in l N   (Int32.toInt64 a2) 0 3 μ3 (v9, μ8) h7) okX6_in q1552 ⟨rfl, rfl, Nat.le_of_ble_eq_true rfl, Nat.le_of_ble_eq_true rfl, Nat.zero_le _, Nat.zero_le _⟩ (Nat.le_of_ble_eq_true rfl) rfl ?_
    refine wr_if_eq 21 30 C dX6_row_21 (by decide) (fun c10 => ?_) (fun c10 => ?_)
    · replace hf := o_pos c10 hf
      refine wr_sub [] [] rfl ?_
      exact hJrow30  μ8 hf
    · replace hf := o_neg c10 hf
      refine wr_iload_n 24 C dX6_row_24 3 rfl rfl ?_
      refine wr_bipush 25 C dX6_row_25 (v := 60) rfl ?_
      refine wr_icmp_le 27 33 C dX6_row_27 (by decide) (fun c11 => ?_) (fun c11 => ?_)
      · replace hf := o_pos c11 hf
        refine wr_iload_n 33 C dX6_row_33 3 rfl rfl ?_
        refine wr_if_ge 34 40 C dX6_row_34 (by decide) (fun c12 => ?_) (fun c12 => ?_)
        · replace hf := o_pos c12 hf
          refine wr_aload_n 40 C dX6_row_40 0 rfl rfl ?_
          refine gespM_0_1_X6 41 C dX6_row_41 ?_
          refine wr_iload_n 44 C dX6_row_44 1 rfl rfl ?_
          refine wr_iload_n 45 C dX6_row_45 2 rfl rfl ?_
          obtain ⟨g13, hf⟩ := o_g hf
          obtain ⟨μ14, eμ14, hf⟩ := o_let hf
          refine wr_iast 46 C dX6_row_46 spM_1 g13 eμ14 ?_
          refine wr_aload_n 47 C dX6_row_47 0 rfl rfl ?_
          refine gespM_0_2_X6 48 C dX6_row_48 ?_
          refine wr_iload_n 51 C dX6_row_51 1 rfl rfl ?_
          refine wr_iload_n 52 C dX6_row_52 3 rfl rfl ?_
          obtain ⟨g15, hf⟩ := o_g hf
          obtain ⟨μ16, eμ16, hf⟩ := o_let hf
          refine wr_iast 53 C dX6_row_53 spM_2 g15 eμ16 ?_
          refine wr_iconst 54 C dX6_row_54 (v := 0) rfl ?_
          refine wr_istore 55 [(4, .int 0), (0, .ref (q 0)), (1, .int a1), (2, .int a2), (3, .int a3)] C dX6_row_55 rfl (Nat.le_of_ble_eq_true rfl) rfl ?_
          refine wr_sub [(0, .ref (q 0)), (1, .int a1), (3, .int a3), (4, .int 0)] [1, 2, 4, 0] rfl ?_
          refine tX6_row_57 C N   a1 a3 _ r0 (fun  μ21 hf => ?_) N 0 μ16 hf
          · replace hf := hf
            refine wr_iconst 82 C dX6_row_82 (v := 0) rfl ?_
            exact wr_iret 83 C dX6_row_83 ⟨Nat.zero_le _, Nat.zero_le _⟩ (Option.some.inj hf)
        · replace hf := o_neg c12 hf
          refine wr_bipush 37 C dX6_row_37 (v := (-3)) rfl ?_
          exact wr_iret 39 C dX6_row_39 ⟨Nat.zero_le _, Nat.zero_le _⟩ (Option.some.inj hf)
      · replace hf := o_neg c11 hf
        refine wr_sub [] [] rfl ?_
        exact hJrow30  μ8 hf
abbrev cX6_cut : ByteArray := prog_11_method_6_code
def yX6_cut : MethodName := ⟨RX6, "cut", "(JI)J"⟩
def dkwX6_cut_1 : List UInt8 := [5, 160, 0, 9, 30, 136, 133, 167, 0, 4, 30, 173]
abbrev dktX6_cut_1 : List UInt8 := dkwX6_cut_1 ++ []
def dkwX6_cut_0 : List UInt8 := [28, 154, 0, 10, 30, 136, 145, 133, 167, 0, 27, 28, 4, 160, 0, 10, 30, 136, 147, 133, 167, 0, 15, 28]
abbrev dktX6_cut_0 : List UInt8 := dkwX6_cut_0 ++ dktX6_cut_1
theorem dksX6_cut_0 : cX6_cut.data.toList.drop 0 = dktX6_cut_0 := by decide +kernel
theorem dksX6_cut_1 : cX6_cut.data.toList.drop 24 = dktX6_cut_1 := dk_seg dksX6_cut_0 24 rfl rfl
theorem dX6_cut_0 : decode cX6_cut 0 = .ok (.iload_n 2, 1) := dk_28 (dk_at dksX6_cut_0 0 rfl rfl)
theorem dX6_cut_1 : decode cX6_cut 1 = .ok (.ifCond .ne 10, 3) := dk_154 0 10 (dk_at dksX6_cut_0 1 rfl rfl)
theorem dX6_cut_4 : decode cX6_cut 4 = .ok (.lload_n 0, 1) := dk_30 (dk_at dksX6_cut_0 4 rfl rfl)
theorem dX6_cut_5 : decode cX6_cut 5 = .ok (.l2i, 1) := dk_136 (dk_at dksX6_cut_0 5 rfl rfl)
theorem dX6_cut_6 : decode cX6_cut 6 = .ok (.i2b, 1) := dk_145 (dk_at dksX6_cut_0 6 rfl rfl)
theorem dX6_cut_7 : decode cX6_cut 7 = .ok (.i2l, 1) := dk_133 (dk_at dksX6_cut_0 7 rfl rfl)
theorem dX6_cut_8 : decode cX6_cut 8 = .ok (.goto 27, 3) := dk_167 0 27 (dk_at dksX6_cut_0 8 rfl rfl)
theorem dX6_cut_11 : decode cX6_cut 11 = .ok (.iload_n 2, 1) := dk_28 (dk_at dksX6_cut_0 11 rfl rfl)
theorem dX6_cut_12 : decode cX6_cut 12 = .ok (.iconst 1, 1) := dk_4 (dk_at dksX6_cut_0 12 rfl rfl)
theorem dX6_cut_13 : decode cX6_cut 13 = .ok (.if_icmp .ne 10, 3) := dk_160 0 10 (dk_at dksX6_cut_0 13 rfl rfl)
theorem dX6_cut_16 : decode cX6_cut 16 = .ok (.lload_n 0, 1) := dk_30 (dk_at dksX6_cut_0 16 rfl rfl)
theorem dX6_cut_17 : decode cX6_cut 17 = .ok (.l2i, 1) := dk_136 (dk_at dksX6_cut_0 17 rfl rfl)
theorem dX6_cut_18 : decode cX6_cut 18 = .ok (.i2s, 1) := dk_147 (dk_at dksX6_cut_0 18 rfl rfl)
theorem dX6_cut_19 : decode cX6_cut 19 = .ok (.i2l, 1) := dk_133 (dk_at dksX6_cut_0 19 rfl rfl)
theorem dX6_cut_20 : decode cX6_cut 20 = .ok (.goto 15, 3) := dk_167 0 15 (dk_at dksX6_cut_0 20 rfl rfl)
theorem dX6_cut_23 : decode cX6_cut 23 = .ok (.iload_n 2, 1) := dk_28 (dk_at dksX6_cut_0 23 rfl rfl)
theorem dX6_cut_24 : decode cX6_cut 24 = .ok (.iconst 2, 1) := dk_5 (dk_at dksX6_cut_1 0 rfl rfl)
theorem dX6_cut_25 : decode cX6_cut 25 = .ok (.if_icmp .ne 9, 3) := dk_160 0 9 (dk_at dksX6_cut_1 1 rfl rfl)
theorem dX6_cut_28 : decode cX6_cut 28 = .ok (.lload_n 0, 1) := dk_30 (dk_at dksX6_cut_1 4 rfl rfl)
theorem dX6_cut_29 : decode cX6_cut 29 = .ok (.l2i, 1) := dk_136 (dk_at dksX6_cut_1 5 rfl rfl)
theorem dX6_cut_30 : decode cX6_cut 30 = .ok (.i2l, 1) := dk_133 (dk_at dksX6_cut_1 6 rfl rfl)
theorem dX6_cut_31 : decode cX6_cut 31 = .ok (.goto 4, 3) := dk_167 0 4 (dk_at dksX6_cut_1 7 rfl rfl)
theorem dX6_cut_34 : decode cX6_cut 34 = .ok (.lload_n 0, 1) := dk_30 (dk_at dksX6_cut_1 10 rfl rfl)
theorem dX6_cut_35 : decode cX6_cut 35 = .ok (.lreturn, 1) := dk_173 (dk_at dksX6_cut_1 11 rfl rfl)

theorem okX6_cut : wOkS yX6_cut cX6_cut 3 (some .long) 2 := ⟨q1560, q145, q1561, by decide, by decide, by decide +kernel⟩
def fX6_cut (N : Nat)  (a0 : Int64) (a2 : Int32) (μ : wMem) : Option (Int64 × wMem) :=
  if a2 = 0 then some (Int32.toInt64 (Int8.toInt32 (Int32.toInt8 (Int64.toInt32 a0))), μ) else if a2 = (1 : Int32) then some (Int32.toInt64 (Int16.toInt32 (Int32.toInt16 (Int64.toInt32 a0))), μ) else if a2 = (2 : Int32) then some (Int32.toInt64 (Int64.toInt32 a0), μ) else some (a0, μ)
set_option maxHeartbeats 4000000 in
set_option maxRecDepth 100000 in
theorem tX6_cut (l : Launch) {D : va_G} {E : List wCell} {q : Nat → Nat} {ca : wCA} (N : Nat)   (a0 : Int64) (a2 : Int32) (μ : wMem) (r0 : (Int64 × wMem)) (hf : fX6_cut N  a0 a2 μ = some r0) : wMl l yX6_cut cX6_cut 3 (some .long) ({ frames := 0, cells := 0, slots := 0, locals := 0 } : Room) D vwCl (spM ++ E) q ca [.long a0, .int a2] μ r0 := by
  refine wMl_intro (by decide) (Nat.le_of_ble_eq_true rfl) ?_
  intro p e s m args below meth c A C
  unfold fX6_cut at hf
  refine wr_sub [(0, .long a0), (2, .int a2)] [0, 1] rfl ?_
  refine wr_iload_n 0 C dX6_cut_0 1 rfl rfl ?_
  refine wr_if_ne 1 11 C dX6_cut_1 (by decide) (fun c1 => ?_) (fun c1 => ?_)
  · replace hf := o_neg c1 hf
    refine wr_iload_n 11 C dX6_cut_11 1 rfl rfl ?_
    refine wr_iconst 12 C dX6_cut_12 (v := 1) rfl ?_
    refine wr_icmp_ne 13 23 C dX6_cut_13 (by decide) (fun c2 => ?_) (fun c2 => ?_)
    · replace hf := o_neg c2 hf
      refine wr_iload_n 23 C dX6_cut_23 1 rfl rfl ?_
      refine wr_iconst 24 C dX6_cut_24 (v := 2) rfl ?_
      refine wr_icmp_ne 25 34 C dX6_cut_25 (by decide) (fun c3 => ?_) (fun c3 => ?_)
      · replace hf := o_neg c3 hf
        refine wr_lload_n 34 C dX6_cut_34 0 rfl rfl ?_
        exact wr_lret 35 C dX6_cut_35 ⟨Nat.zero_le _, Nat.zero_le _⟩ (Option.some.inj hf)
      · replace hf := o_pos c3 hf
        refine wr_lload_n 28 C dX6_cut_28 0 rfl rfl ?_
        refine wr_l2i 29 C dX6_cut_29 ?_
        refine wr_i2l 30 C dX6_cut_30 ?_
        refine wr_goto 31 C dX6_cut_31 (tgt := 35) (by decide) ?_
        exact wr_lret 35 C dX6_cut_35 ⟨Nat.zero_le _, Nat.zero_le _⟩ (Option.some.inj hf)
    · replace hf := o_pos c2 hf
      refine wr_lload_n 16 C dX6_cut_16 0 rfl rfl ?_
      refine wr_l2i 17 C dX6_cut_17 ?_
      refine wr_i2s 18 C dX6_cut_18 ?_
      refine wr_i2l 19 C dX6_cut_19 ?_
      refine wr_goto 20 C dX6_cut_20 (tgt := 35) (by decide) ?_
      exact wr_lret 35 C dX6_cut_35 ⟨Nat.zero_le _, Nat.zero_le _⟩ (Option.some.inj hf)
  · replace hf := o_pos c1 hf
    refine wr_lload_n 4 C dX6_cut_4 0 rfl rfl ?_
    refine wr_l2i 5 C dX6_cut_5 ?_
    refine wr_i2b 6 C dX6_cut_6 ?_
    refine wr_i2l 7 C dX6_cut_7 ?_
    refine wr_goto 8 C dX6_cut_8 (tgt := 35) (by decide) ?_
    exact wr_lret 35 C dX6_cut_35 ⟨Nat.zero_le _, Nat.zero_le _⟩ (Option.some.inj hf)
abbrev cX6_write : ByteArray := prog_11_method_7_code
def yX6_write : MethodName := ⟨RX6, "write", "(IIJ)I"⟩
def dkwX6_write_3 : List UInt8 := [3, 172]
abbrev dktX6_write_3 : List UInt8 := dkwX6_write_3 ++ []
def dkwX6_write_2 : List UInt8 := [16, 249, 172, 42, 180, 0, 16, 16, 60, 27, 104, 28, 96, 33, 42, 180, 0, 7, 27, 46, 184, 0, 101, 80]
abbrev dktX6_write_2 : List UInt8 := dkwX6_write_2 ++ dktX6_write_3
def dkwX6_write_1 : List UInt8 := [160, 0, 6, 16, 250, 172, 28, 133, 9, 42, 180, 0, 13, 27, 46, 4, 100, 133, 184, 0, 93, 154, 0, 6]
abbrev dktX6_write_1 : List UInt8 := dkwX6_write_1 ++ dktX6_write_2
def dkwX6_write_0 : List UInt8 := [42, 3, 181, 0, 88, 27, 184, 0, 97, 154, 0, 6, 16, 254, 172, 42, 180, 0, 7, 27, 46, 2]
abbrev dktX6_write_0 : List UInt8 := dkwX6_write_0 ++ dktX6_write_1
theorem dksX6_write_0 : cX6_write.data.toList.drop 0 = dktX6_write_0 := by decide +kernel
theorem dksX6_write_1 : cX6_write.data.toList.drop 22 = dktX6_write_1 := dk_seg dksX6_write_0 22 rfl rfl
theorem dksX6_write_2 : cX6_write.data.toList.drop 46 = dktX6_write_2 := dk_seg dksX6_write_1 24 rfl rfl
theorem dksX6_write_3 : cX6_write.data.toList.drop 70 = dktX6_write_3 := dk_seg dksX6_write_2 24 rfl rfl
theorem dX6_write_0 : decode cX6_write 0 = .ok (.aload_n 0, 1) := dk_42 (dk_at dksX6_write_0 0 rfl rfl)
theorem dX6_write_1 : decode cX6_write 1 = .ok (.iconst 0, 1) := dk_3 (dk_at dksX6_write_0 1 rfl rfl)
theorem dX6_write_2 : decode cX6_write 2 = .ok (.putfield 88, 3) := dk_181 0 88 (dk_at dksX6_write_0 2 rfl rfl)
theorem dX6_write_5 : decode cX6_write 5 = .ok (.iload_n 1, 1) := dk_27 (dk_at dksX6_write_0 5 rfl rfl)
theorem dX6_write_6 : decode cX6_write 6 = .ok (.invokestatic 97, 3) := dk_184 0 97 (dk_at dksX6_write_0 6 rfl rfl)
theorem dX6_write_9 : decode cX6_write 9 = .ok (.ifCond .ne 6, 3) := dk_154 0 6 (dk_at dksX6_write_0 9 rfl rfl)
theorem dX6_write_12 : decode cX6_write 12 = .ok (.bipush (-2), 2) := dk_16 254 (dk_at dksX6_write_0 12 rfl rfl)
theorem dX6_write_14 : decode cX6_write 14 = .ok (.ireturn, 1) := dk_172 (dk_at dksX6_write_0 14 rfl rfl)
theorem dX6_write_15 : decode cX6_write 15 = .ok (.aload_n 0, 1) := dk_42 (dk_at dksX6_write_0 15 rfl rfl)
theorem dX6_write_16 : decode cX6_write 16 = .ok (.getfield 7, 3) := dk_180 0 7 (dk_at dksX6_write_0 16 rfl rfl)
theorem dX6_write_19 : decode cX6_write 19 = .ok (.iload_n 1, 1) := dk_27 (dk_at dksX6_write_0 19 rfl rfl)
theorem dX6_write_20 : decode cX6_write 20 = .ok (.iaload, 1) := dk_46 (dk_at dksX6_write_0 20 rfl rfl)
theorem dX6_write_21 : decode cX6_write 21 = .ok (.iconst (-1), 1) := dk_2 (dk_at dksX6_write_0 21 rfl rfl)
theorem dX6_write_22 : decode cX6_write 22 = .ok (.if_icmp .ne 6, 3) := dk_160 0 6 (dk_at dksX6_write_1 0 rfl rfl)
theorem dX6_write_25 : decode cX6_write 25 = .ok (.bipush (-6), 2) := dk_16 250 (dk_at dksX6_write_1 3 rfl rfl)
theorem dX6_write_27 : decode cX6_write 27 = .ok (.ireturn, 1) := dk_172 (dk_at dksX6_write_1 5 rfl rfl)
theorem dX6_write_28 : decode cX6_write 28 = .ok (.iload_n 2, 1) := dk_28 (dk_at dksX6_write_1 6 rfl rfl)
theorem dX6_write_29 : decode cX6_write 29 = .ok (.i2l, 1) := dk_133 (dk_at dksX6_write_1 7 rfl rfl)
theorem dX6_write_30 : decode cX6_write 30 = .ok (.lconst 0, 1) := dk_9 (dk_at dksX6_write_1 8 rfl rfl)
theorem dX6_write_31 : decode cX6_write 31 = .ok (.aload_n 0, 1) := dk_42 (dk_at dksX6_write_1 9 rfl rfl)
theorem dX6_write_32 : decode cX6_write 32 = .ok (.getfield 13, 3) := dk_180 0 13 (dk_at dksX6_write_1 10 rfl rfl)
theorem dX6_write_35 : decode cX6_write 35 = .ok (.iload_n 1, 1) := dk_27 (dk_at dksX6_write_1 13 rfl rfl)
theorem dX6_write_36 : decode cX6_write 36 = .ok (.iaload, 1) := dk_46 (dk_at dksX6_write_1 14 rfl rfl)
theorem dX6_write_37 : decode cX6_write 37 = .ok (.iconst 1, 1) := dk_4 (dk_at dksX6_write_1 15 rfl rfl)
theorem dX6_write_38 : decode cX6_write 38 = .ok (.isub, 1) := dk_100 (dk_at dksX6_write_1 16 rfl rfl)
theorem dX6_write_39 : decode cX6_write 39 = .ok (.i2l, 1) := dk_133 (dk_at dksX6_write_1 17 rfl rfl)
theorem dX6_write_40 : decode cX6_write 40 = .ok (.invokestatic 93, 3) := dk_184 0 93 (dk_at dksX6_write_1 18 rfl rfl)
theorem dX6_write_43 : decode cX6_write 43 = .ok (.ifCond .ne 6, 3) := dk_154 0 6 (dk_at dksX6_write_1 21 rfl rfl)
theorem dX6_write_46 : decode cX6_write 46 = .ok (.bipush (-7), 2) := dk_16 249 (dk_at dksX6_write_2 0 rfl rfl)
theorem dX6_write_48 : decode cX6_write 48 = .ok (.ireturn, 1) := dk_172 (dk_at dksX6_write_2 2 rfl rfl)
theorem dX6_write_49 : decode cX6_write 49 = .ok (.aload_n 0, 1) := dk_42 (dk_at dksX6_write_2 3 rfl rfl)
theorem dX6_write_50 : decode cX6_write 50 = .ok (.getfield 16, 3) := dk_180 0 16 (dk_at dksX6_write_2 4 rfl rfl)
theorem dX6_write_53 : decode cX6_write 53 = .ok (.bipush 60, 2) := dk_16 60 (dk_at dksX6_write_2 7 rfl rfl)
theorem dX6_write_55 : decode cX6_write 55 = .ok (.iload_n 1, 1) := dk_27 (dk_at dksX6_write_2 9 rfl rfl)
theorem dX6_write_56 : decode cX6_write 56 = .ok (.imul, 1) := dk_104 (dk_at dksX6_write_2 10 rfl rfl)
theorem dX6_write_57 : decode cX6_write 57 = .ok (.iload_n 2, 1) := dk_28 (dk_at dksX6_write_2 11 rfl rfl)
theorem dX6_write_58 : decode cX6_write 58 = .ok (.iadd, 1) := dk_96 (dk_at dksX6_write_2 12 rfl rfl)
theorem dX6_write_59 : decode cX6_write 59 = .ok (.lload_n 3, 1) := dk_33 (dk_at dksX6_write_2 13 rfl rfl)
theorem dX6_write_60 : decode cX6_write 60 = .ok (.aload_n 0, 1) := dk_42 (dk_at dksX6_write_2 14 rfl rfl)
theorem dX6_write_61 : decode cX6_write 61 = .ok (.getfield 7, 3) := dk_180 0 7 (dk_at dksX6_write_2 15 rfl rfl)
theorem dX6_write_64 : decode cX6_write 64 = .ok (.iload_n 1, 1) := dk_27 (dk_at dksX6_write_2 18 rfl rfl)
theorem dX6_write_65 : decode cX6_write 65 = .ok (.iaload, 1) := dk_46 (dk_at dksX6_write_2 19 rfl rfl)
theorem dX6_write_66 : decode cX6_write 66 = .ok (.invokestatic 101, 3) := dk_184 0 101 (dk_at dksX6_write_2 20 rfl rfl)
theorem dX6_write_69 : decode cX6_write 69 = .ok (.lastore, 1) := dk_80 (dk_at dksX6_write_2 23 rfl rfl)
theorem dX6_write_70 : decode cX6_write 70 = .ok (.iconst 0, 1) := dk_3 (dk_at dksX6_write_3 0 rfl rfl)
theorem dX6_write_71 : decode cX6_write 71 = .ok (.ireturn, 1) := dk_172 (dk_at dksX6_write_3 1 rfl rfl)

theorem okX6_write : wOkV yX6_write cX6_write 5 (some .int) 3 := ⟨q1556, q1557, q145, q1558, by decide, by decide, by decide +kernel⟩
def fX6_write (N : Nat)  (a1 : Int32) (a2 : Int32) (a3 : Int64) (μ : wMem) : Option (Int32 × wMem) :=
  wLet (wSI μ 0 0 (0 : Int32)) fun μ1 => wBind (fX6_isSlot N  a1 μ1) fun v4 μ3 => if v4 = 0 then some ((-2), μ3) else wG (ok_in a1 4) (if (μ3.1 1 (Int32.toNatClampNeg a1)) = (-1 : Int32) then some ((-6), μ3) else wG (ok_in a1 4) (wBind (fX6_in N  (Int32.toInt64 a2) 0 (Int32.toInt64 ((μ3.1 2 (Int32.toNatClampNeg a1)) - (1 : Int32))) μ3) fun v11 μ10 => if v11 = 0 then some ((-7), μ10) else wG (ok_in a1 4) (wBind (fX6_cut N  a3 (μ10.1 1 (Int32.toNatClampNeg a1)) μ10) fun v16 μ15 => wG (ok_in (((60 : Int32) * a1) + a2) 240) (wLet (wSL μ15 3 (Int32.toNatClampNeg (((60 : Int32) * a1) + a2)) v16) fun μ18 => some (0, μ18)))))
set_option maxHeartbeats 4000000 in
set_option maxRecDepth 100000 in
theorem tX6_write (l : Launch) {D : va_G} {E : List wCell} {q : Nat → Nat} {ca : wCA} (N : Nat)   (a1 : Int32) (a2 : Int32) (a3 : Int64) (μ : wMem) (r0 : (Int32 × wMem)) (hf : fX6_write N  a1 a2 a3 μ = some r0) : wMi l yX6_write cX6_write 5 (some .int) ({ frames := 2, cells := 0, slots := 0, locals := 45 } : Room) D vwCl (spM ++ E) q ca [.ref (q 0), .int a1, .int a2, .long a3] μ r0 := by
  refine wMi_intro (by decide) (Nat.le_of_ble_eq_true rfl) ?_
  intro p e s m args below meth c A C
  unfold fX6_write at hf
  refine wr_sub [(0, .ref (q 0)), (1, .int a1), (2, .int a2), (3, .long a3)] [0, 1, 2, 3] rfl ?_
  refine wr_aload_n 0 C dX6_write_0 0 rfl rfl ?_
  refine wr_iconst 1 C dX6_write_1 (v := 0) rfl ?_
  obtain ⟨μ1, eμ1, hf⟩ := o_let hf
  refine puspM_0_0_X6 2 C dX6_write_2 eμ1 ?_
  refine wr_iload_n 5 C dX6_write_5 1 rfl rfl ?_
  obtain ⟨v4, μ3, h2, hf⟩ := o_bind hf
  refine wr_Si (kc1 := 0) (ks1 := 0) 6 [] C dX6_write_6 (tX6_isSlot l N   a1 μ1 (v4, μ3) h2) okX6_isSlot q1548 ⟨rfl, rfl, Nat.le_of_ble_eq_true rfl, Nat.le_of_ble_eq_true rfl, Nat.zero_le _, Nat.zero_le _⟩ (Nat.le_of_ble_eq_true rfl) rfl ?_
  refine wr_if_ne 9 15 C dX6_write_9 (by decide) (fun c5 => ?_) (fun c5 => ?_)
  · replace hf := o_neg c5 hf
    refine wr_aload_n 15 C dX6_write_15 0 rfl rfl ?_
    refine gespM_0_1_X6 16 C dX6_write_16 ?_
    refine wr_iload_n 19 C dX6_write_19 1 rfl rfl ?_
    obtain ⟨g6, hf⟩ := o_g hf
    refine wr_iald 20 C dX6_write_20 spM_1 g6 ?_
    refine wr_iconst 21 C dX6_write_21 (v := (-1)) rfl ?_
    refine wr_icmp_ne 22 28 C dX6_write_22 (by decide) (fun c7 => ?_) (fun c7 => ?_)
    · replace hf := o_neg c7 hf
      refine wr_iload_n 28 C dX6_write_28 2 rfl rfl ?_
      refine wr_i2l 29 C dX6_write_29 ?_
      refine wr_lconst 30 C dX6_write_30 (v := 0) rfl ?_
      refine wr_aload_n 31 C dX6_write_31 0 rfl rfl ?_
      refine gespM_0_2_X6 32 C dX6_write_32 ?_
      refine wr_iload_n 35 C dX6_write_35 1 rfl rfl ?_
      obtain ⟨g8, hf⟩ := o_g hf
      refine wr_iald 36 C dX6_write_36 spM_2 g8 ?_
      refine wr_iconst 37 C dX6_write_37 (v := 1) rfl ?_
      refine wr_isub 38 C dX6_write_38 ?_
      refine wr_i2l 39 C dX6_write_39 ?_
      obtain ⟨v11, μ10, h9, hf⟩ := o_bind hf
      refine wr_Si (kc1 := 0) (ks1 := 0) 40 [] C dX6_write_40 (tX6_in l N   (Int32.toInt64 a2) 0 (Int32.toInt64 ((μ3.1 2 (Int32.toNatClampNeg a1)) - (1 : Int32))) μ3 (v11, μ10) h9) okX6_in q1552 ⟨rfl, rfl, Nat.le_of_ble_eq_true rfl, Nat.le_of_ble_eq_true rfl, Nat.zero_le _, Nat.zero_le _⟩ (Nat.le_of_ble_eq_true rfl) rfl ?_
      refine wr_if_ne 43 49 C dX6_write_43 (by decide) (fun c12 => ?_) (fun c12 => ?_)
      · replace hf := o_neg c12 hf
        refine wr_aload_n 49 C dX6_write_49 0 rfl rfl ?_
        refine gespM_0_3_X6 50 C dX6_write_50 ?_
        refine wr_bipush 53 C dX6_write_53 (v := 60) rfl ?_
        refine wr_iload_n 55 C dX6_write_55 1 rfl rfl ?_
        refine wr_imul 56 C dX6_write_56 ?_
        refine wr_iload_n 57 C dX6_write_57 2 rfl rfl ?_
        refine wr_iadd 58 C dX6_write_58 ?_
        refine wr_lload_n 59 C dX6_write_59 3 rfl rfl ?_
        refine wr_aload_n 60 C dX6_write_60 0 rfl rfl ?_
        refine gespM_0_1_X6 61 C dX6_write_61 ?_
        refine wr_iload_n 64 C dX6_write_64 1 rfl rfl ?_
        obtain ⟨g13, hf⟩ := o_g hf
        refine wr_iald 65 C dX6_write_65 spM_1 g13 ?_
        obtain ⟨v16, μ15, h14, hf⟩ := o_bind hf
        refine wr_Sl (kc1 := 0) (ks1 := 0) 66 [.int (((60 : Int32) * a1) + a2), .ref (q 3)] C dX6_write_66 (tX6_cut l N   a3 (μ10.1 1 (Int32.toNatClampNeg a1)) μ10 (v16, μ15) h14) okX6_cut q1559 ⟨rfl, rfl, Nat.le_of_ble_eq_true rfl, Nat.le_of_ble_eq_true rfl, Nat.zero_le _, Nat.zero_le _⟩ (Nat.le_of_ble_eq_true rfl) rfl ?_
        obtain ⟨g17, hf⟩ := o_g hf
        obtain ⟨μ18, eμ18, hf⟩ := o_let hf
        refine wr_last 69 C dX6_write_69 spM_3 g17 eμ18 ?_
        refine wr_iconst 70 C dX6_write_70 (v := 0) rfl ?_
        exact wr_iret 71 C dX6_write_71 ⟨Nat.zero_le _, Nat.zero_le _⟩ (Option.some.inj hf)
      · replace hf := o_pos c12 hf
        refine wr_bipush 46 C dX6_write_46 (v := (-7)) rfl ?_
        exact wr_iret 48 C dX6_write_48 ⟨Nat.zero_le _, Nat.zero_le _⟩ (Option.some.inj hf)
    · replace hf := o_pos c7 hf
      refine wr_bipush 25 C dX6_write_25 (v := (-6)) rfl ?_
      exact wr_iret 27 C dX6_write_27 ⟨Nat.zero_le _, Nat.zero_le _⟩ (Option.some.inj hf)
  · replace hf := o_pos c5 hf
    refine wr_bipush 12 C dX6_write_12 (v := (-2)) rfl ?_
    exact wr_iret 14 C dX6_write_14 ⟨Nat.zero_le _, Nat.zero_le _⟩ (Option.some.inj hf)
abbrev cX6_paste : ByteArray := prog_11_method_8_code
def yX6_paste : MethodName := ⟨RX6, "paste", "(IIIII)I"⟩
def dkwX6_paste_8 : List UInt8 := [167, 255, 224, 3, 172]
abbrev dktX6_paste_8 : List UInt8 := dkwX6_paste_8 ++ []
def dkwX6_paste_7 : List UInt8 := [180, 0, 16, 16, 60, 29, 104, 21, 4, 96, 21, 6, 96, 42, 180, 0, 20, 21, 6, 47, 80, 132, 6, 1]
abbrev dktX6_paste_7 : List UInt8 := dkwX6_paste_7 ++ dktX6_paste_8
def dkwX6_paste_6 : List UInt8 := [28, 96, 21, 6, 96, 47, 80, 132, 6, 1, 167, 255, 225, 3, 54, 6, 21, 6, 21, 5, 162, 0, 31, 42]
abbrev dktX6_paste_6 : List UInt8 := dkwX6_paste_6 ++ dktX6_paste_7
def dkwX6_paste_5 : List UInt8 := [3, 54, 6, 21, 6, 21, 5, 162, 0, 30, 42, 180, 0, 20, 21, 6, 42, 180, 0, 16, 16, 60, 27, 104]
abbrev dktX6_paste_5 : List UInt8 := dkwX6_paste_5 ++ dktX6_paste_6
def dkwX6_paste_4 : List UInt8 := [157, 0, 21, 21, 4, 133, 21, 5, 133, 97, 42, 180, 0, 13, 29, 46, 133, 148, 158, 0, 6, 16, 249, 172]
abbrev dktX6_paste_4 : List UInt8 := dkwX6_paste_4 ++ dktX6_paste_5
def dkwX6_paste_3 : List UInt8 := [155, 0, 43, 21, 5, 155, 0, 38, 28, 133, 21, 5, 133, 97, 42, 180, 0, 13, 27, 46, 133, 148]
abbrev dktX6_paste_3 : List UInt8 := dkwX6_paste_3 ++ dktX6_paste_4
def dkwX6_paste_2 : List UInt8 := [180, 0, 7, 27, 46, 42, 180, 0, 7, 29, 46, 159, 0, 6, 16, 248, 172, 28, 155, 0, 48, 21, 4]
abbrev dktX6_paste_2 : List UInt8 := dkwX6_paste_2 ++ dktX6_paste_3
def dkwX6_paste_1 : List UInt8 := [180, 0, 7, 27, 46, 2, 159, 0, 13, 42, 180, 0, 7, 29, 46, 2, 160, 0, 6, 16, 250, 172, 42]
abbrev dktX6_paste_1 : List UInt8 := dkwX6_paste_1 ++ dktX6_paste_2
def dkwX6_paste_0 : List UInt8 := [42, 3, 181, 0, 88, 27, 184, 0, 97, 153, 0, 10, 29, 184, 0, 97, 154, 0, 6, 16, 254, 172, 42]
abbrev dktX6_paste_0 : List UInt8 := dkwX6_paste_0 ++ dktX6_paste_1
theorem dksX6_paste_0 : cX6_paste.data.toList.drop 0 = dktX6_paste_0 := by decide +kernel
theorem dksX6_paste_1 : cX6_paste.data.toList.drop 23 = dktX6_paste_1 := dk_seg dksX6_paste_0 23 rfl rfl
theorem dksX6_paste_2 : cX6_paste.data.toList.drop 46 = dktX6_paste_2 := dk_seg dksX6_paste_1 23 rfl rfl
theorem dksX6_paste_3 : cX6_paste.data.toList.drop 69 = dktX6_paste_3 := dk_seg dksX6_paste_2 23 rfl rfl
theorem dksX6_paste_4 : cX6_paste.data.toList.drop 91 = dktX6_paste_4 := dk_seg dksX6_paste_3 22 rfl rfl
theorem dksX6_paste_5 : cX6_paste.data.toList.drop 115 = dktX6_paste_5 := dk_seg dksX6_paste_4 24 rfl rfl
theorem dksX6_paste_6 : cX6_paste.data.toList.drop 139 = dktX6_paste_6 := dk_seg dksX6_paste_5 24 rfl rfl
theorem dksX6_paste_7 : cX6_paste.data.toList.drop 163 = dktX6_paste_7 := dk_seg dksX6_paste_6 24 rfl rfl
theorem dksX6_paste_8 : cX6_paste.data.toList.drop 187 = dktX6_paste_8 := dk_seg dksX6_paste_7 24 rfl rfl
theorem dX6_paste_0 : decode cX6_paste 0 = .ok (.aload_n 0, 1) := dk_42 (dk_at dksX6_paste_0 0 rfl rfl)
theorem dX6_paste_1 : decode cX6_paste 1 = .ok (.iconst 0, 1) := dk_3 (dk_at dksX6_paste_0 1 rfl rfl)
theorem dX6_paste_2 : decode cX6_paste 2 = .ok (.putfield 88, 3) := dk_181 0 88 (dk_at dksX6_paste_0 2 rfl rfl)
theorem dX6_paste_5 : decode cX6_paste 5 = .ok (.iload_n 1, 1) := dk_27 (dk_at dksX6_paste_0 5 rfl rfl)
theorem dX6_paste_6 : decode cX6_paste 6 = .ok (.invokestatic 97, 3) := dk_184 0 97 (dk_at dksX6_paste_0 6 rfl rfl)
theorem dX6_paste_9 : decode cX6_paste 9 = .ok (.ifCond .eq 10, 3) := dk_153 0 10 (dk_at dksX6_paste_0 9 rfl rfl)
theorem dX6_paste_12 : decode cX6_paste 12 = .ok (.iload_n 3, 1) := dk_29 (dk_at dksX6_paste_0 12 rfl rfl)
theorem dX6_paste_13 : decode cX6_paste 13 = .ok (.invokestatic 97, 3) := dk_184 0 97 (dk_at dksX6_paste_0 13 rfl rfl)
theorem dX6_paste_16 : decode cX6_paste 16 = .ok (.ifCond .ne 6, 3) := dk_154 0 6 (dk_at dksX6_paste_0 16 rfl rfl)
theorem dX6_paste_19 : decode cX6_paste 19 = .ok (.bipush (-2), 2) := dk_16 254 (dk_at dksX6_paste_0 19 rfl rfl)
theorem dX6_paste_21 : decode cX6_paste 21 = .ok (.ireturn, 1) := dk_172 (dk_at dksX6_paste_0 21 rfl rfl)
theorem dX6_paste_22 : decode cX6_paste 22 = .ok (.aload_n 0, 1) := dk_42 (dk_at dksX6_paste_0 22 rfl rfl)
theorem dX6_paste_23 : decode cX6_paste 23 = .ok (.getfield 7, 3) := dk_180 0 7 (dk_at dksX6_paste_1 0 rfl rfl)
theorem dX6_paste_26 : decode cX6_paste 26 = .ok (.iload_n 1, 1) := dk_27 (dk_at dksX6_paste_1 3 rfl rfl)
theorem dX6_paste_27 : decode cX6_paste 27 = .ok (.iaload, 1) := dk_46 (dk_at dksX6_paste_1 4 rfl rfl)
theorem dX6_paste_28 : decode cX6_paste 28 = .ok (.iconst (-1), 1) := dk_2 (dk_at dksX6_paste_1 5 rfl rfl)
theorem dX6_paste_29 : decode cX6_paste 29 = .ok (.if_icmp .eq 13, 3) := dk_159 0 13 (dk_at dksX6_paste_1 6 rfl rfl)
theorem dX6_paste_32 : decode cX6_paste 32 = .ok (.aload_n 0, 1) := dk_42 (dk_at dksX6_paste_1 9 rfl rfl)
theorem dX6_paste_33 : decode cX6_paste 33 = .ok (.getfield 7, 3) := dk_180 0 7 (dk_at dksX6_paste_1 10 rfl rfl)
theorem dX6_paste_36 : decode cX6_paste 36 = .ok (.iload_n 3, 1) := dk_29 (dk_at dksX6_paste_1 13 rfl rfl)
theorem dX6_paste_37 : decode cX6_paste 37 = .ok (.iaload, 1) := dk_46 (dk_at dksX6_paste_1 14 rfl rfl)
theorem dX6_paste_38 : decode cX6_paste 38 = .ok (.iconst (-1), 1) := dk_2 (dk_at dksX6_paste_1 15 rfl rfl)
theorem dX6_paste_39 : decode cX6_paste 39 = .ok (.if_icmp .ne 6, 3) := dk_160 0 6 (dk_at dksX6_paste_1 16 rfl rfl)
theorem dX6_paste_42 : decode cX6_paste 42 = .ok (.bipush (-6), 2) := dk_16 250 (dk_at dksX6_paste_1 19 rfl rfl)
theorem dX6_paste_44 : decode cX6_paste 44 = .ok (.ireturn, 1) := dk_172 (dk_at dksX6_paste_1 21 rfl rfl)
theorem dX6_paste_45 : decode cX6_paste 45 = .ok (.aload_n 0, 1) := dk_42 (dk_at dksX6_paste_1 22 rfl rfl)
theorem dX6_paste_46 : decode cX6_paste 46 = .ok (.getfield 7, 3) := dk_180 0 7 (dk_at dksX6_paste_2 0 rfl rfl)
theorem dX6_paste_49 : decode cX6_paste 49 = .ok (.iload_n 1, 1) := dk_27 (dk_at dksX6_paste_2 3 rfl rfl)
theorem dX6_paste_50 : decode cX6_paste 50 = .ok (.iaload, 1) := dk_46 (dk_at dksX6_paste_2 4 rfl rfl)
theorem dX6_paste_51 : decode cX6_paste 51 = .ok (.aload_n 0, 1) := dk_42 (dk_at dksX6_paste_2 5 rfl rfl)
theorem dX6_paste_52 : decode cX6_paste 52 = .ok (.getfield 7, 3) := dk_180 0 7 (dk_at dksX6_paste_2 6 rfl rfl)
theorem dX6_paste_55 : decode cX6_paste 55 = .ok (.iload_n 3, 1) := dk_29 (dk_at dksX6_paste_2 9 rfl rfl)
theorem dX6_paste_56 : decode cX6_paste 56 = .ok (.iaload, 1) := dk_46 (dk_at dksX6_paste_2 10 rfl rfl)
theorem dX6_paste_57 : decode cX6_paste 57 = .ok (.if_icmp .eq 6, 3) := dk_159 0 6 (dk_at dksX6_paste_2 11 rfl rfl)
theorem dX6_paste_60 : decode cX6_paste 60 = .ok (.bipush (-8), 2) := dk_16 248 (dk_at dksX6_paste_2 14 rfl rfl)
theorem dX6_paste_62 : decode cX6_paste 62 = .ok (.ireturn, 1) := dk_172 (dk_at dksX6_paste_2 16 rfl rfl)
theorem dX6_paste_63 : decode cX6_paste 63 = .ok (.iload_n 2, 1) := dk_28 (dk_at dksX6_paste_2 17 rfl rfl)
theorem dX6_paste_64 : decode cX6_paste 64 = .ok (.ifCond .lt 48, 3) := dk_155 0 48 (dk_at dksX6_paste_2 18 rfl rfl)
theorem dX6_paste_67 : decode cX6_paste 67 = .ok (.iload 4, 2) := dk_21 4 (dk_at dksX6_paste_2 21 rfl rfl)
theorem dX6_paste_69 : decode cX6_paste 69 = .ok (.ifCond .lt 43, 3) := dk_155 0 43 (dk_at dksX6_paste_3 0 rfl rfl)
theorem dX6_paste_72 : decode cX6_paste 72 = .ok (.iload 5, 2) := dk_21 5 (dk_at dksX6_paste_3 3 rfl rfl)
theorem dX6_paste_74 : decode cX6_paste 74 = .ok (.ifCond .lt 38, 3) := dk_155 0 38 (dk_at dksX6_paste_3 5 rfl rfl)
theorem dX6_paste_77 : decode cX6_paste 77 = .ok (.iload_n 2, 1) := dk_28 (dk_at dksX6_paste_3 8 rfl rfl)
theorem dX6_paste_78 : decode cX6_paste 78 = .ok (.i2l, 1) := dk_133 (dk_at dksX6_paste_3 9 rfl rfl)
theorem dX6_paste_79 : decode cX6_paste 79 = .ok (.iload 5, 2) := dk_21 5 (dk_at dksX6_paste_3 10 rfl rfl)
theorem dX6_paste_81 : decode cX6_paste 81 = .ok (.i2l, 1) := dk_133 (dk_at dksX6_paste_3 12 rfl rfl)
theorem dX6_paste_82 : decode cX6_paste 82 = .ok (.ladd, 1) := dk_97 (dk_at dksX6_paste_3 13 rfl rfl)
theorem dX6_paste_83 : decode cX6_paste 83 = .ok (.aload_n 0, 1) := dk_42 (dk_at dksX6_paste_3 14 rfl rfl)
theorem dX6_paste_84 : decode cX6_paste 84 = .ok (.getfield 13, 3) := dk_180 0 13 (dk_at dksX6_paste_3 15 rfl rfl)
theorem dX6_paste_87 : decode cX6_paste 87 = .ok (.iload_n 1, 1) := dk_27 (dk_at dksX6_paste_3 18 rfl rfl)
theorem dX6_paste_88 : decode cX6_paste 88 = .ok (.iaload, 1) := dk_46 (dk_at dksX6_paste_3 19 rfl rfl)
theorem dX6_paste_89 : decode cX6_paste 89 = .ok (.i2l, 1) := dk_133 (dk_at dksX6_paste_3 20 rfl rfl)
theorem dX6_paste_90 : decode cX6_paste 90 = .ok (.lcmp, 1) := dk_148 (dk_at dksX6_paste_3 21 rfl rfl)
theorem dX6_paste_91 : decode cX6_paste 91 = .ok (.ifCond .gt 21, 3) := dk_157 0 21 (dk_at dksX6_paste_4 0 rfl rfl)
theorem dX6_paste_94 : decode cX6_paste 94 = .ok (.iload 4, 2) := dk_21 4 (dk_at dksX6_paste_4 3 rfl rfl)
theorem dX6_paste_96 : decode cX6_paste 96 = .ok (.i2l, 1) := dk_133 (dk_at dksX6_paste_4 5 rfl rfl)
theorem dX6_paste_97 : decode cX6_paste 97 = .ok (.iload 5, 2) := dk_21 5 (dk_at dksX6_paste_4 6 rfl rfl)
theorem dX6_paste_99 : decode cX6_paste 99 = .ok (.i2l, 1) := dk_133 (dk_at dksX6_paste_4 8 rfl rfl)
theorem dX6_paste_100 : decode cX6_paste 100 = .ok (.ladd, 1) := dk_97 (dk_at dksX6_paste_4 9 rfl rfl)
theorem dX6_paste_101 : decode cX6_paste 101 = .ok (.aload_n 0, 1) := dk_42 (dk_at dksX6_paste_4 10 rfl rfl)
theorem dX6_paste_102 : decode cX6_paste 102 = .ok (.getfield 13, 3) := dk_180 0 13 (dk_at dksX6_paste_4 11 rfl rfl)
theorem dX6_paste_105 : decode cX6_paste 105 = .ok (.iload_n 3, 1) := dk_29 (dk_at dksX6_paste_4 14 rfl rfl)
theorem dX6_paste_106 : decode cX6_paste 106 = .ok (.iaload, 1) := dk_46 (dk_at dksX6_paste_4 15 rfl rfl)
theorem dX6_paste_107 : decode cX6_paste 107 = .ok (.i2l, 1) := dk_133 (dk_at dksX6_paste_4 16 rfl rfl)
theorem dX6_paste_108 : decode cX6_paste 108 = .ok (.lcmp, 1) := dk_148 (dk_at dksX6_paste_4 17 rfl rfl)
theorem dX6_paste_109 : decode cX6_paste 109 = .ok (.ifCond .le 6, 3) := dk_158 0 6 (dk_at dksX6_paste_4 18 rfl rfl)
theorem dX6_paste_112 : decode cX6_paste 112 = .ok (.bipush (-7), 2) := dk_16 249 (dk_at dksX6_paste_4 21 rfl rfl)
theorem dX6_paste_114 : decode cX6_paste 114 = .ok (.ireturn, 1) := dk_172 (dk_at dksX6_paste_4 23 rfl rfl)
theorem dX6_paste_115 : decode cX6_paste 115 = .ok (.iconst 0, 1) := dk_3 (dk_at dksX6_paste_5 0 rfl rfl)
theorem dX6_paste_116 : decode cX6_paste 116 = .ok (.istore 6, 2) := dk_54 6 (dk_at dksX6_paste_5 1 rfl rfl)
theorem dX6_paste_118 : decode cX6_paste 118 = .ok (.iload 6, 2) := dk_21 6 (dk_at dksX6_paste_5 3 rfl rfl)
theorem dX6_paste_120 : decode cX6_paste 120 = .ok (.iload 5, 2) := dk_21 5 (dk_at dksX6_paste_5 5 rfl rfl)
theorem dX6_paste_122 : decode cX6_paste 122 = .ok (.if_icmp .ge 30, 3) := dk_162 0 30 (dk_at dksX6_paste_5 7 rfl rfl)
theorem dX6_paste_125 : decode cX6_paste 125 = .ok (.aload_n 0, 1) := dk_42 (dk_at dksX6_paste_5 10 rfl rfl)
theorem dX6_paste_126 : decode cX6_paste 126 = .ok (.getfield 20, 3) := dk_180 0 20 (dk_at dksX6_paste_5 11 rfl rfl)
theorem dX6_paste_129 : decode cX6_paste 129 = .ok (.iload 6, 2) := dk_21 6 (dk_at dksX6_paste_5 14 rfl rfl)
theorem dX6_paste_131 : decode cX6_paste 131 = .ok (.aload_n 0, 1) := dk_42 (dk_at dksX6_paste_5 16 rfl rfl)
theorem dX6_paste_132 : decode cX6_paste 132 = .ok (.getfield 16, 3) := dk_180 0 16 (dk_at dksX6_paste_5 17 rfl rfl)
theorem dX6_paste_135 : decode cX6_paste 135 = .ok (.bipush 60, 2) := dk_16 60 (dk_at dksX6_paste_5 20 rfl rfl)
theorem dX6_paste_137 : decode cX6_paste 137 = .ok (.iload_n 1, 1) := dk_27 (dk_at dksX6_paste_5 22 rfl rfl)
theorem dX6_paste_138 : decode cX6_paste 138 = .ok (.imul, 1) := dk_104 (dk_at dksX6_paste_5 23 rfl rfl)
theorem dX6_paste_139 : decode cX6_paste 139 = .ok (.iload_n 2, 1) := dk_28 (dk_at dksX6_paste_6 0 rfl rfl)
theorem dX6_paste_140 : decode cX6_paste 140 = .ok (.iadd, 1) := dk_96 (dk_at dksX6_paste_6 1 rfl rfl)
theorem dX6_paste_141 : decode cX6_paste 141 = .ok (.iload 6, 2) := dk_21 6 (dk_at dksX6_paste_6 2 rfl rfl)
theorem dX6_paste_143 : decode cX6_paste 143 = .ok (.iadd, 1) := dk_96 (dk_at dksX6_paste_6 4 rfl rfl)
theorem dX6_paste_144 : decode cX6_paste 144 = .ok (.laload, 1) := dk_47 (dk_at dksX6_paste_6 5 rfl rfl)
theorem dX6_paste_145 : decode cX6_paste 145 = .ok (.lastore, 1) := dk_80 (dk_at dksX6_paste_6 6 rfl rfl)
theorem dX6_paste_146 : decode cX6_paste 146 = .ok (.iinc 6 1, 3) := dk_132 6 1 (dk_at dksX6_paste_6 7 rfl rfl)
theorem dX6_paste_149 : decode cX6_paste 149 = .ok (.goto (-31), 3) := dk_167 255 225 (dk_at dksX6_paste_6 10 rfl rfl)
theorem dX6_paste_152 : decode cX6_paste 152 = .ok (.iconst 0, 1) := dk_3 (dk_at dksX6_paste_6 13 rfl rfl)
theorem dX6_paste_153 : decode cX6_paste 153 = .ok (.istore 6, 2) := dk_54 6 (dk_at dksX6_paste_6 14 rfl rfl)
theorem dX6_paste_155 : decode cX6_paste 155 = .ok (.iload 6, 2) := dk_21 6 (dk_at dksX6_paste_6 16 rfl rfl)
theorem dX6_paste_157 : decode cX6_paste 157 = .ok (.iload 5, 2) := dk_21 5 (dk_at dksX6_paste_6 18 rfl rfl)
theorem dX6_paste_159 : decode cX6_paste 159 = .ok (.if_icmp .ge 31, 3) := dk_162 0 31 (dk_at dksX6_paste_6 20 rfl rfl)
theorem dX6_paste_162 : decode cX6_paste 162 = .ok (.aload_n 0, 1) := dk_42 (dk_at dksX6_paste_6 23 rfl rfl)
theorem dX6_paste_163 : decode cX6_paste 163 = .ok (.getfield 16, 3) := dk_180 0 16 (dk_at dksX6_paste_7 0 rfl rfl)
theorem dX6_paste_166 : decode cX6_paste 166 = .ok (.bipush 60, 2) := dk_16 60 (dk_at dksX6_paste_7 3 rfl rfl)
theorem dX6_paste_168 : decode cX6_paste 168 = .ok (.iload_n 3, 1) := dk_29 (dk_at dksX6_paste_7 5 rfl rfl)
theorem dX6_paste_169 : decode cX6_paste 169 = .ok (.imul, 1) := dk_104 (dk_at dksX6_paste_7 6 rfl rfl)
theorem dX6_paste_170 : decode cX6_paste 170 = .ok (.iload 4, 2) := dk_21 4 (dk_at dksX6_paste_7 7 rfl rfl)
theorem dX6_paste_172 : decode cX6_paste 172 = .ok (.iadd, 1) := dk_96 (dk_at dksX6_paste_7 9 rfl rfl)
theorem dX6_paste_173 : decode cX6_paste 173 = .ok (.iload 6, 2) := dk_21 6 (dk_at dksX6_paste_7 10 rfl rfl)
theorem dX6_paste_175 : decode cX6_paste 175 = .ok (.iadd, 1) := dk_96 (dk_at dksX6_paste_7 12 rfl rfl)
theorem dX6_paste_176 : decode cX6_paste 176 = .ok (.aload_n 0, 1) := dk_42 (dk_at dksX6_paste_7 13 rfl rfl)
theorem dX6_paste_177 : decode cX6_paste 177 = .ok (.getfield 20, 3) := dk_180 0 20 (dk_at dksX6_paste_7 14 rfl rfl)
theorem dX6_paste_180 : decode cX6_paste 180 = .ok (.iload 6, 2) := dk_21 6 (dk_at dksX6_paste_7 17 rfl rfl)
theorem dX6_paste_182 : decode cX6_paste 182 = .ok (.laload, 1) := dk_47 (dk_at dksX6_paste_7 19 rfl rfl)
theorem dX6_paste_183 : decode cX6_paste 183 = .ok (.lastore, 1) := dk_80 (dk_at dksX6_paste_7 20 rfl rfl)
theorem dX6_paste_184 : decode cX6_paste 184 = .ok (.iinc 6 1, 3) := dk_132 6 1 (dk_at dksX6_paste_7 21 rfl rfl)
theorem dX6_paste_187 : decode cX6_paste 187 = .ok (.goto (-32), 3) := dk_167 255 224 (dk_at dksX6_paste_8 0 rfl rfl)
theorem dX6_paste_190 : decode cX6_paste 190 = .ok (.iconst 0, 1) := dk_3 (dk_at dksX6_paste_8 3 rfl rfl)
theorem dX6_paste_191 : decode cX6_paste 191 = .ok (.ireturn, 1) := dk_172 (dk_at dksX6_paste_8 4 rfl rfl)
theorem gespM_0_4_X6 {p : Program} {l : Launch} {e : Env} {R : Room} {s : State} {m : MethodId} {args : Array Value} {below : List Frame} {meth : Method} {c : Code} {cc : ByteArray} {nL : Nat} {ret : Option FieldType} {D : va_G} {E : List wCell} {q : Nat → Nat} {ca : wCA} {A : Nat → Prop} {Q : State → Prop} {kc ks : Nat} {μ : wMem} {lv : List (Nat × Value)} {st : List Value} (pc : Nat) (C : wC p R s m args meth c cc "OnePassportModel" nL ret D vwCl (spM ++ E) q ca A) (hd : decode cc pc = .ok (.getfield 20, 3)) (k : wJ p l e R s m args below meth c nL D vwCl (spM ++ E) q ca A Q kc ks μ (pc + 3) lv (.ref (q 4) :: st)) : wJ p l e R s m args below meth c nL D vwCl (spM ++ E) q ca A Q kc ks μ pc lv (.ref (q 0) :: st) := wr_getR pc 4 C hd spM_0 rfl in_X6 (by decide) rfl q1403 k
theorem okX6_paste : wOkV yX6_paste cX6_paste 7 (some .int) 5 := ⟨q1563, q1564, q145, q1565, by decide, by decide, by decide +kernel⟩
def gbX6_paste_118 (N : Nat)  (x1_ : Int32) (x2_ : Int32) (x3_ : Int32) (x4_ : Int32) (x5_ : Int32) (K : (wMem → Option (Int32 × wMem))) (rec : (Int32 → wMem → Option (Int32 × wMem))) (x6_ : Int32) (μ : wMem) : Option (Int32 × wMem) :=
  if x5_ ≤ x6_ then K  μ else wG (ok_in ((((60 : Int32) * x1_) + x2_) + x6_) 240) (wG (ok_in x6_ 60) (wLet (wSL μ 4 (Int32.toNatClampNeg x6_) (μ.2 3 (Int32.toNatClampNeg ((((60 : Int32) * x1_) + x2_) + x6_)))) fun μ30 => wLet (x6_ + 1 : Int32) fun x31 => rec x31 μ30))
def gX6_paste_118 (N : Nat)  (x1_ : Int32) (x2_ : Int32) (x3_ : Int32) (x4_ : Int32) (x5_ : Int32) (K : (wMem → Option (Int32 × wMem))) : Nat → (Int32 → wMem → Option (Int32 × wMem))
  | 0 => fun _ _ => none
  | k + 1 => gbX6_paste_118 N  x1_ x2_ x3_ x4_ x5_ K (gX6_paste_118 N  x1_ x2_ x3_ x4_ x5_ K k)
set_option maxHeartbeats 4000000 in
set_option maxRecDepth 100000 in
theorem tX6_paste_118 {p : Program} {l : Launch} {e : Env} {s : State} {m : MethodId} {args : Array Value} {below : List Frame} {meth : Method} {c : Code} {D : va_G} {E : List wCell} {q : Nat → Nat} {ca : wCA} {A : Nat → Prop} (C : wC p ({ frames := 2, cells := 0, slots := 0, locals := 45 } : Room) s m args meth c cX6_paste yX6_paste.cls 7 (some .int) D vwCl (spM ++ E) q ca A) (N : Nat)   (x1_ : Int32) (x2_ : Int32) (x3_ : Int32) (x4_ : Int32) (x5_ : Int32) (K : (wMem → Option (Int32 × wMem))) (r0 : (Int32 × wMem)) (hK : ∀  (μ : wMem), K  μ = some r0 → wJ p l e ({ frames := 2, cells := 0, slots := 0, locals := 45 } : Room) s m args below meth c 7 D vwCl (spM ++ E) q ca A (wQi ({ frames := 2, cells := 0, slots := 0, locals := 45 } : Room) D vwCl (spM ++ E) q ca below args s A r0) 0 0 μ 152 [(0, .ref (q 0)), (3, .int x3_), (4, .int x4_), (5, .int x5_)] []) : ∀ (k : Nat) (x6_ : Int32) (μ : wMem), gX6_paste_118 N  x1_ x2_ x3_ x4_ x5_ K k x6_ μ = some r0 → wJ p l e ({ frames := 2, cells := 0, slots := 0, locals := 45 } : Room) s m args below meth c 7 D vwCl (spM ++ E) q ca A (wQi ({ frames := 2, cells := 0, slots := 0, locals := 45 } : Room) D vwCl (spM ++ E) q ca below args s A r0) 0 0 μ 118 [(0, .ref (q 0)), (1, .int x1_), (2, .int x2_), (3, .int x3_), (4, .int x4_), (5, .int x5_), (6, .int x6_)] [] := by
  intro k
  induction k with
  | zero =>
    intro x6_ μ hf
    cases hf
  | succ k ih =>
    intro x6_ μ hf
    replace hf : gbX6_paste_118 N  x1_ x2_ x3_ x4_ x5_ K (gX6_paste_118 N  x1_ x2_ x3_ x4_ x5_ K k) x6_ μ = some r0 := hf
    unfold gbX6_paste_118 at hf
    refine wr_iload 118 C dX6_paste_118 6 rfl ?_
    refine wr_iload 120 C dX6_paste_120 5 rfl ?_
    refine wr_icmp_ge 122 152 C dX6_paste_122 (by decide) (fun c27 => ?_) (fun c27 => ?_)
    · replace hf := o_pos c27 hf
      refine wr_sub [(0, .ref (q 0)), (3, .int x3_), (4, .int x4_), (5, .int x5_)] [0, 3, 4, 5] rfl ?_
      exact hK  μ hf
    · replace hf := o_neg c27 hf
      refine wr_aload_n 125 C dX6_paste_125 0 rfl rfl ?_
      refine gespM_0_4_X6 126 C dX6_paste_126 ?_
      refine wr_iload 129 C dX6_paste_129 6 rfl ?_
      refine wr_aload_n 131 C dX6_paste_131 0 rfl rfl ?_
      refine gespM_0_3_X6 132 C dX6_paste_132 ?_
      refine wr_bipush 135 C dX6_paste_135 (v := 60) rfl ?_
      refine wr_iload_n 137 C dX6_paste_137 1 rfl rfl ?_
      refine wr_imul 138 C dX6_paste_138 ?_
      refine wr_iload_n 139 C dX6_paste_139 2 rfl rfl ?_
      refine wr_iadd 140 C dX6_paste_140 ?_
      refine wr_iload 141 C dX6_paste_141 6 rfl ?_
      refine wr_iadd 143 C dX6_paste_143 ?_
      obtain ⟨g28, hf⟩ := o_g hf
      refine wr_lald 144 C dX6_paste_144 spM_3 g28 ?_
      obtain ⟨g29, hf⟩ := o_g hf
      obtain ⟨μ30, eμ30, hf⟩ := o_let hf
      refine wr_last 145 C dX6_paste_145 spM_4 g29 eμ30 ?_
      obtain ⟨x31, ex31, hf⟩ := o_let hf
      refine wr_iinc 146 [(6, .int x31), (0, .ref (q 0)), (1, .int x1_), (2, .int x2_), (3, .int x3_), (4, .int x4_), (5, .int x5_)] C dX6_paste_146 6 rfl (ex31.trans rfl) (Nat.le_of_ble_eq_true rfl) rfl ?_
      refine wr_goto 149 C dX6_paste_149 (tgt := 118) (by decide) ?_
      refine wr_sub [(0, .ref (q 0)), (1, .int x1_), (2, .int x2_), (3, .int x3_), (4, .int x4_), (5, .int x5_), (6, .int x31)] [1, 2, 3, 4, 5, 6, 0] rfl ?_
      exact ih x31 μ30 hf
def gbX6_paste_155 (N : Nat)  (x3_ : Int32) (x4_ : Int32) (x5_ : Int32) (K : (wMem → Option (Int32 × wMem))) (rec : (Int32 → wMem → Option (Int32 × wMem))) (x6_ : Int32) (μ : wMem) : Option (Int32 × wMem) :=
  if x5_ ≤ x6_ then K  μ else wG (ok_in x6_ 60) (wG (ok_in ((((60 : Int32) * x3_) + x4_) + x6_) 240) (wLet (wSL μ 3 (Int32.toNatClampNeg ((((60 : Int32) * x3_) + x4_) + x6_)) (μ.2 4 (Int32.toNatClampNeg x6_))) fun μ36 => wLet (x6_ + 1 : Int32) fun x37 => rec x37 μ36))
def gX6_paste_155 (N : Nat)  (x3_ : Int32) (x4_ : Int32) (x5_ : Int32) (K : (wMem → Option (Int32 × wMem))) : Nat → (Int32 → wMem → Option (Int32 × wMem))
  | 0 => fun _ _ => none
  | k + 1 => gbX6_paste_155 N  x3_ x4_ x5_ K (gX6_paste_155 N  x3_ x4_ x5_ K k)
set_option maxHeartbeats 4000000 in
set_option maxRecDepth 100000 in
theorem tX6_paste_155 {p : Program} {l : Launch} {e : Env} {s : State} {m : MethodId} {args : Array Value} {below : List Frame} {meth : Method} {c : Code} {D : va_G} {E : List wCell} {q : Nat → Nat} {ca : wCA} {A : Nat → Prop} (C : wC p ({ frames := 2, cells := 0, slots := 0, locals := 45 } : Room) s m args meth c cX6_paste yX6_paste.cls 7 (some .int) D vwCl (spM ++ E) q ca A) (N : Nat)   (x3_ : Int32) (x4_ : Int32) (x5_ : Int32) (K : (wMem → Option (Int32 × wMem))) (r0 : (Int32 × wMem)) (hK : ∀  (μ : wMem), K  μ = some r0 → wJ p l e ({ frames := 2, cells := 0, slots := 0, locals := 45 } : Room) s m args below meth c 7 D vwCl (spM ++ E) q ca A (wQi ({ frames := 2, cells := 0, slots := 0, locals := 45 } : Room) D vwCl (spM ++ E) q ca below args s A r0) 0 0 μ 190 [] []) : ∀ (k : Nat) (x6_ : Int32) (μ : wMem), gX6_paste_155 N  x3_ x4_ x5_ K k x6_ μ = some r0 → wJ p l e ({ frames := 2, cells := 0, slots := 0, locals := 45 } : Room) s m args below meth c 7 D vwCl (spM ++ E) q ca A (wQi ({ frames := 2, cells := 0, slots := 0, locals := 45 } : Room) D vwCl (spM ++ E) q ca below args s A r0) 0 0 μ 155 [(0, .ref (q 0)), (3, .int x3_), (4, .int x4_), (5, .int x5_), (6, .int x6_)] [] := by
  intro k
  induction k with
  | zero =>
    intro x6_ μ hf
    cases hf
  | succ k ih =>
    intro x6_ μ hf
    replace hf : gbX6_paste_155 N  x3_ x4_ x5_ K (gX6_paste_155 N  x3_ x4_ x5_ K k) x6_ μ = some r0 := hf
    unfold gbX6_paste_155 at hf
    refine wr_iload 155 C dX6_paste_155 4 rfl ?_
    refine wr_iload 157 C dX6_paste_157 3 rfl ?_
    refine wr_icmp_ge 159 190 C dX6_paste_159 (by decide) (fun c33 => ?_) (fun c33 => ?_)
    · replace hf := o_pos c33 hf
      refine wr_sub [] [] rfl ?_
      exact hK  μ hf
    · replace hf := o_neg c33 hf
      refine wr_aload_n 162 C dX6_paste_162 0 rfl rfl ?_
      refine gespM_0_3_X6 163 C dX6_paste_163 ?_
      refine wr_bipush 166 C dX6_paste_166 (v := 60) rfl ?_
      refine wr_iload_n 168 C dX6_paste_168 1 rfl rfl ?_
      refine wr_imul 169 C dX6_paste_169 ?_
      refine wr_iload 170 C dX6_paste_170 2 rfl ?_
      refine wr_iadd 172 C dX6_paste_172 ?_
      refine wr_iload 173 C dX6_paste_173 4 rfl ?_
      refine wr_iadd 175 C dX6_paste_175 ?_
      refine wr_aload_n 176 C dX6_paste_176 0 rfl rfl ?_
      refine gespM_0_4_X6 177 C dX6_paste_177 ?_
      refine wr_iload 180 C dX6_paste_180 4 rfl ?_
      obtain ⟨g34, hf⟩ := o_g hf
      refine wr_lald 182 C dX6_paste_182 spM_4 g34 ?_
      obtain ⟨g35, hf⟩ := o_g hf
      obtain ⟨μ36, eμ36, hf⟩ := o_let hf
      refine wr_last 183 C dX6_paste_183 spM_3 g35 eμ36 ?_
      obtain ⟨x37, ex37, hf⟩ := o_let hf
      refine wr_iinc 184 [(6, .int x37), (0, .ref (q 0)), (3, .int x3_), (4, .int x4_), (5, .int x5_)] C dX6_paste_184 4 rfl (ex37.trans rfl) (Nat.le_of_ble_eq_true rfl) rfl ?_
      refine wr_goto 187 C dX6_paste_187 (tgt := 155) (by decide) ?_
      refine wr_sub [(0, .ref (q 0)), (3, .int x3_), (4, .int x4_), (5, .int x5_), (6, .int x37)] [1, 2, 3, 4, 0] rfl ?_
      exact ih x37 μ36 hf
def fX6_paste (N : Nat)  (a1 : Int32) (a2 : Int32) (a3 : Int32) (a4 : Int32) (a5 : Int32) (μ : wMem) : Option (Int32 × wMem) :=
  wLet (wSI μ 0 0 (0 : Int32)) fun μ1 => wBind (fX6_isSlot N  a1 μ1) fun v4 μ3 => wLet (fun  (μ5 : wMem) => some ((-2), μ5)) fun Jpaste19 => if v4 = 0 then Jpaste19  μ3 else wBind (fX6_isSlot N  a3 μ3) fun v9 μ8 => if v9 = 0 then Jpaste19  μ8 else wG (ok_in a1 4) (wLet (fun  (μ12 : wMem) => some ((-6), μ12)) fun Jpaste42 => if (μ8.1 1 (Int32.toNatClampNeg a1)) = (-1 : Int32) then Jpaste42  μ8 else wG (ok_in a3 4) (if (μ8.1 1 (Int32.toNatClampNeg a3)) = (-1 : Int32) then Jpaste42  μ8 else wG (ok_in a1 4) (wG (ok_in a3 4) (if (μ8.1 1 (Int32.toNatClampNeg a1)) = (μ8.1 1 (Int32.toNatClampNeg a3)) then wLet (fun  (μ19 : wMem) => some ((-7), μ19)) fun Jpaste112 => if a2 < 0 then Jpaste112  μ8 else if a4 < 0 then Jpaste112  μ8 else if a5 < 0 then Jpaste112  μ8 else wG (ok_in a1 4) (if (Int32.toInt64 (μ8.1 2 (Int32.toNatClampNeg a1))) < ((Int32.toInt64 a2) + (Int32.toInt64 a5)) then Jpaste112  μ8 else wG (ok_in a3 4) (if ((Int32.toInt64 a4) + (Int32.toInt64 a5)) ≤ (Int32.toInt64 (μ8.1 2 (Int32.toNatClampNeg a3))) then gX6_paste_118 N  a1 a2 a3 a4 a5 (fun  (μ32 : wMem) => gX6_paste_155 N  a3 a4 a5 (fun  (μ38 : wMem) => some (0, μ38)) N 0 μ32) N 0 μ8 else Jpaste112  μ8)) else some ((-8), μ8)))))
set_option maxHeartbeats 4000000 in
set_option maxRecDepth 100000 in
theorem tX6_paste (l : Launch) {D : va_G} {E : List wCell} {q : Nat → Nat} {ca : wCA} (N : Nat)   (a1 : Int32) (a2 : Int32) (a3 : Int32) (a4 : Int32) (a5 : Int32) (μ : wMem) (r0 : (Int32 × wMem)) (hf : fX6_paste N  a1 a2 a3 a4 a5 μ = some r0) : wMi l yX6_paste cX6_paste 7 (some .int) ({ frames := 2, cells := 0, slots := 0, locals := 45 } : Room) D vwCl (spM ++ E) q ca [.ref (q 0), .int a1, .int a2, .int a3, .int a4, .int a5] μ r0 := by
  refine wMi_intro (by decide) (Nat.le_of_ble_eq_true rfl) ?_
  intro p e s m args below meth c A C
  unfold fX6_paste at hf
  refine wr_sub [(0, .ref (q 0)), (1, .int a1), (2, .int a2), (3, .int a3), (4, .int a4), (5, .int a5)] [0, 1, 2, 3, 4, 5] rfl ?_
  refine wr_aload_n 0 C dX6_paste_0 0 rfl rfl ?_
  refine wr_iconst 1 C dX6_paste_1 (v := 0) rfl ?_
  obtain ⟨μ1, eμ1, hf⟩ := o_let hf
  refine puspM_0_0_X6 2 C dX6_paste_2 eμ1 ?_
  refine wr_iload_n 5 C dX6_paste_5 1 rfl rfl ?_
  obtain ⟨v4, μ3, h2, hf⟩ := o_bind hf
  refine wr_Si (kc1 := 0) (ks1 := 0) 6 [] C dX6_paste_6 (tX6_isSlot l N   a1 μ1 (v4, μ3) h2) okX6_isSlot q1548 ⟨rfl, rfl, Nat.le_of_ble_eq_true rfl, Nat.le_of_ble_eq_true rfl, Nat.zero_le _, Nat.zero_le _⟩ (Nat.le_of_ble_eq_true rfl) rfl ?_
  obtain ⟨Jpaste19, eJpaste19, hf⟩ := o_let hf
  have hJpaste19 : ∀  (μ5 : wMem), Jpaste19  μ5 = some r0 → wJ p l e ({ frames := 2, cells := 0, slots := 0, locals := 45 } : Room) s m args below meth c 7 D vwCl (spM ++ E) q ca A (wQi ({ frames := 2, cells := 0, slots := 0, locals := 45 } : Room) D vwCl (spM ++ E) q ca below args s A r0) 0 0 μ5 19 [] [] := by
    intro  μ5 hf
    rw [eJpaste19] at hf
    refine wr_bipush 19 C dX6_paste_19 (v := (-2)) rfl ?_
    exact wr_iret 21 C dX6_paste_21 ⟨Nat.zero_le _, Nat.zero_le _⟩ (Option.some.inj hf)
  refine wr_if_eq 9 19 C dX6_paste_9 (by decide) (fun c6 => ?_) (fun c6 => ?_)
  · replace hf := o_pos c6 hf
    refine wr_sub [] [] rfl ?_
    exact hJpaste19  μ3 hf
  · replace hf := o_neg c6 hf
    refine wr_iload_n 12 C dX6_paste_12 3 rfl rfl ?_
    obtain ⟨v9, μ8, h7, hf⟩ := o_bind hf
    refine wr_Si (kc1 := 0) (ks1 := 0) 13 [] C dX6_paste_13 (tX6_isSlot l N   a3 μ3 (v9, μ8) h7) okX6_isSlot q1548 ⟨rfl, rfl, Nat.le_of_ble_eq_true rfl, Nat.le_of_ble_eq_true rfl, Nat.zero_le _, Nat.zero_le _⟩ (Nat.le_of_ble_eq_true rfl) rfl ?_
    refine wr_if_ne 16 22 C dX6_paste_16 (by decide) (fun c10 => ?_) (fun c10 => ?_)
    · replace hf := o_neg c10 hf
      refine wr_aload_n 22 C dX6_paste_22 0 rfl rfl ?_
      refine gespM_0_1_X6 23 C dX6_paste_23 ?_
      refine wr_iload_n 26 C dX6_paste_26 1 rfl rfl ?_
      obtain ⟨g11, hf⟩ := o_g hf
      refine wr_iald 27 C dX6_paste_27 spM_1 g11 ?_
      refine wr_iconst 28 C dX6_paste_28 (v := (-1)) rfl ?_
      obtain ⟨Jpaste42, eJpaste42, hf⟩ := o_let hf
      have hJpaste42 : ∀  (μ12 : wMem), Jpaste42  μ12 = some r0 → wJ p l e ({ frames := 2, cells := 0, slots := 0, locals := 45 } : Room) s m args below meth c 7 D vwCl (spM ++ E) q ca A (wQi ({ frames := 2, cells := 0, slots := 0, locals := 45 } : Room) D vwCl (spM ++ E) q ca below args s A r0) 0 0 μ12 42 [] [] := by
        intro  μ12 hf
        rw [eJpaste42] at hf
        refine wr_bipush 42 C dX6_paste_42 (v := (-6)) rfl ?_
        exact wr_iret 44 C dX6_paste_44 ⟨Nat.zero_le _, Nat.zero_le _⟩ (Option.some.inj hf)
      refine wr_icmp_eq 29 42 C dX6_paste_29 (by decide) (fun c13 => ?_) (fun c13 => ?_)
      · replace hf := o_pos c13 hf
        refine wr_sub [] [] rfl ?_
        exact hJpaste42  μ8 hf
      · replace hf := o_neg c13 hf
        refine wr_aload_n 32 C dX6_paste_32 0 rfl rfl ?_
        refine gespM_0_1_X6 33 C dX6_paste_33 ?_
        refine wr_iload_n 36 C dX6_paste_36 3 rfl rfl ?_
        obtain ⟨g14, hf⟩ := o_g hf
        refine wr_iald 37 C dX6_paste_37 spM_1 g14 ?_
        refine wr_iconst 38 C dX6_paste_38 (v := (-1)) rfl ?_
        refine wr_icmp_ne 39 45 C dX6_paste_39 (by decide) (fun c15 => ?_) (fun c15 => ?_)
        · replace hf := o_neg c15 hf
          refine wr_aload_n 45 C dX6_paste_45 0 rfl rfl ?_
          refine gespM_0_1_X6 46 C dX6_paste_46 ?_
          refine wr_iload_n 49 C dX6_paste_49 1 rfl rfl ?_
          obtain ⟨g16, hf⟩ := o_g hf
          refine wr_iald 50 C dX6_paste_50 spM_1 g16 ?_
          refine wr_aload_n 51 C dX6_paste_51 0 rfl rfl ?_
          refine gespM_0_1_X6 52 C dX6_paste_52 ?_
          refine wr_iload_n 55 C dX6_paste_55 3 rfl rfl ?_
          obtain ⟨g17, hf⟩ := o_g hf
          refine wr_iald 56 C dX6_paste_56 spM_1 g17 ?_
          refine wr_icmp_eq 57 63 C dX6_paste_57 (by decide) (fun c18 => ?_) (fun c18 => ?_)
          · replace hf := o_pos c18 hf
            refine wr_iload_n 63 C dX6_paste_63 2 rfl rfl ?_
            obtain ⟨Jpaste112, eJpaste112, hf⟩ := o_let hf
            have hJpaste112 : ∀  (μ19 : wMem), Jpaste112  μ19 = some r0 → wJ p l e ({ frames := 2, cells := 0, slots := 0, locals := 45 } : Room) s m args below meth c 7 D vwCl (spM ++ E) q ca A (wQi ({ frames := 2, cells := 0, slots := 0, locals := 45 } : Room) D vwCl (spM ++ E) q ca below args s A r0) 0 0 μ19 112 [] [] := by
              intro  μ19 hf
              rw [eJpaste112] at hf
              refine wr_bipush 112 C dX6_paste_112 (v := (-7)) rfl ?_
              exact wr_iret 114 C dX6_paste_114 ⟨Nat.zero_le _, Nat.zero_le _⟩ (Option.some.inj hf)
            refine wr_if_lt 64 112 C dX6_paste_64 (by decide) (fun c20 => ?_) (fun c20 => ?_)
            · replace hf := o_pos c20 hf
              refine wr_sub [] [] rfl ?_
              exact hJpaste112  μ8 hf
            · replace hf := o_neg c20 hf
              refine wr_iload 67 C dX6_paste_67 4 rfl ?_
              refine wr_if_lt 69 112 C dX6_paste_69 (by decide) (fun c21 => ?_) (fun c21 => ?_)
              · replace hf := o_pos c21 hf
                refine wr_sub [] [] rfl ?_
                exact hJpaste112  μ8 hf
              · replace hf := o_neg c21 hf
                refine wr_iload 72 C dX6_paste_72 5 rfl ?_
                refine wr_if_lt 74 112 C dX6_paste_74 (by decide) (fun c22 => ?_) (fun c22 => ?_)
                · replace hf := o_pos c22 hf
                  refine wr_sub [] [] rfl ?_
                  exact hJpaste112  μ8 hf
                · replace hf := o_neg c22 hf
                  refine wr_iload_n 77 C dX6_paste_77 2 rfl rfl ?_
                  refine wr_i2l 78 C dX6_paste_78 ?_
                  refine wr_iload 79 C dX6_paste_79 5 rfl ?_
                  refine wr_i2l 81 C dX6_paste_81 ?_
                  refine wr_ladd 82 C dX6_paste_82 ?_
                  refine wr_aload_n 83 C dX6_paste_83 0 rfl rfl ?_
                  refine gespM_0_2_X6 84 C dX6_paste_84 ?_
                  refine wr_iload_n 87 C dX6_paste_87 1 rfl rfl ?_
                  obtain ⟨g23, hf⟩ := o_g hf
                  refine wr_iald 88 C dX6_paste_88 spM_2 g23 ?_
                  refine wr_i2l 89 C dX6_paste_89 ?_
                  refine wr_lcmp_gt 90 112 C dX6_paste_90 dX6_paste_91 (by decide) (fun c24 => ?_) (fun c24 => ?_)
                  · replace hf := o_pos c24 hf
                    refine wr_sub [] [] rfl ?_
                    exact hJpaste112  μ8 hf
                  · replace hf := o_neg c24 hf
                    refine wr_iload 94 C dX6_paste_94 4 rfl ?_
                    refine wr_i2l 96 C dX6_paste_96 ?_
                    refine wr_iload 97 C dX6_paste_97 5 rfl ?_
                    refine wr_i2l 99 C dX6_paste_99 ?_
                    refine wr_ladd 100 C dX6_paste_100 ?_
                    refine wr_aload_n 101 C dX6_paste_101 0 rfl rfl ?_
                    refine gespM_0_2_X6 102 C dX6_paste_102 ?_
                    refine wr_iload_n 105 C dX6_paste_105 3 rfl rfl ?_
                    obtain ⟨g25, hf⟩ := o_g hf
                    refine wr_iald 106 C dX6_paste_106 spM_2 g25 ?_
                    refine wr_i2l 107 C dX6_paste_107 ?_
                    refine wr_lcmp_le 108 115 C dX6_paste_108 dX6_paste_109 (by decide) (fun c26 => ?_) (fun c26 => ?_)
                    · replace hf := o_pos c26 hf
                      refine wr_iconst 115 C dX6_paste_115 (v := 0) rfl ?_
                      refine wr_istore 116 [(6, .int 0), (0, .ref (q 0)), (1, .int a1), (2, .int a2), (3, .int a3), (4, .int a4), (5, .int a5)] C dX6_paste_116 rfl (Nat.le_of_ble_eq_true rfl) rfl ?_
                      refine wr_sub [(0, .ref (q 0)), (1, .int a1), (2, .int a2), (3, .int a3), (4, .int a4), (5, .int a5), (6, .int 0)] [1, 2, 3, 4, 5, 6, 0] rfl ?_
                      refine tX6_paste_118 C N   a1 a2 a3 a4 a5 _ r0 (fun  μ32 hf => ?_) N 0 μ8 hf
                      · replace hf := hf
                        refine wr_iconst 152 C dX6_paste_152 (v := 0) rfl ?_
                        refine wr_istore 153 [(6, .int 0), (0, .ref (q 0)), (3, .int a3), (4, .int a4), (5, .int a5)] C dX6_paste_153 rfl (Nat.le_of_ble_eq_true rfl) rfl ?_
                        refine wr_sub [(0, .ref (q 0)), (3, .int a3), (4, .int a4), (5, .int a5), (6, .int 0)] [1, 2, 3, 4, 0] rfl ?_
                        refine tX6_paste_155 C N   a3 a4 a5 _ r0 (fun  μ38 hf => ?_) N 0 μ32 hf
                        · replace hf := hf
                          refine wr_iconst 190 C dX6_paste_190 (v := 0) rfl ?_
                          exact wr_iret 191 C dX6_paste_191 ⟨Nat.zero_le _, Nat.zero_le _⟩ (Option.some.inj hf)
                    · replace hf := o_neg c26 hf
                      refine wr_sub [] [] rfl ?_
                      exact hJpaste112  μ8 hf
          · replace hf := o_neg c18 hf
            refine wr_bipush 60 C dX6_paste_60 (v := (-8)) rfl ?_
            exact wr_iret 62 C dX6_paste_62 ⟨Nat.zero_le _, Nat.zero_le _⟩ (Option.some.inj hf)
        · replace hf := o_pos c15 hf
          refine wr_sub [] [] rfl ?_
          exact hJpaste42  μ8 hf
    · replace hf := o_pos c10 hf
      refine wr_sub [] [] rfl ?_
      exact hJpaste19  μ8 hf
abbrev cX6_four : ByteArray := prog_11_method_10_code
def yX6_four : MethodName := ⟨RX6, "four", "(I)V"⟩
def dkwX6_four_1 : List UInt8 := [180, 0, 105, 4, 96, 181, 0, 105, 132, 2, 248, 167, 255, 226, 177]
abbrev dktX6_four_1 : List UInt8 := dkwX6_four_1 ++ []
def dkwX6_four_0 : List UInt8 := [16, 24, 61, 28, 155, 0, 32, 42, 180, 0, 23, 42, 180, 0, 105, 27, 28, 122, 145, 84, 42, 89]
abbrev dktX6_four_0 : List UInt8 := dkwX6_four_0 ++ dktX6_four_1
theorem dksX6_four_0 : cX6_four.data.toList.drop 0 = dktX6_four_0 := by decide +kernel
theorem dksX6_four_1 : cX6_four.data.toList.drop 22 = dktX6_four_1 := dk_seg dksX6_four_0 22 rfl rfl
theorem dX6_four_0 : decode cX6_four 0 = .ok (.bipush 24, 2) := dk_16 24 (dk_at dksX6_four_0 0 rfl rfl)
theorem dX6_four_2 : decode cX6_four 2 = .ok (.istore_n 2, 1) := dk_61 (dk_at dksX6_four_0 2 rfl rfl)
theorem dX6_four_3 : decode cX6_four 3 = .ok (.iload_n 2, 1) := dk_28 (dk_at dksX6_four_0 3 rfl rfl)
theorem dX6_four_4 : decode cX6_four 4 = .ok (.ifCond .lt 32, 3) := dk_155 0 32 (dk_at dksX6_four_0 4 rfl rfl)
theorem dX6_four_7 : decode cX6_four 7 = .ok (.aload_n 0, 1) := dk_42 (dk_at dksX6_four_0 7 rfl rfl)
theorem dX6_four_8 : decode cX6_four 8 = .ok (.getfield 23, 3) := dk_180 0 23 (dk_at dksX6_four_0 8 rfl rfl)
theorem dX6_four_11 : decode cX6_four 11 = .ok (.aload_n 0, 1) := dk_42 (dk_at dksX6_four_0 11 rfl rfl)
theorem dX6_four_12 : decode cX6_four 12 = .ok (.getfield 105, 3) := dk_180 0 105 (dk_at dksX6_four_0 12 rfl rfl)
theorem dX6_four_15 : decode cX6_four 15 = .ok (.iload_n 1, 1) := dk_27 (dk_at dksX6_four_0 15 rfl rfl)
theorem dX6_four_16 : decode cX6_four 16 = .ok (.iload_n 2, 1) := dk_28 (dk_at dksX6_four_0 16 rfl rfl)
theorem dX6_four_17 : decode cX6_four 17 = .ok (.ishr, 1) := dk_122 (dk_at dksX6_four_0 17 rfl rfl)
theorem dX6_four_18 : decode cX6_four 18 = .ok (.i2b, 1) := dk_145 (dk_at dksX6_four_0 18 rfl rfl)
theorem dX6_four_19 : decode cX6_four 19 = .ok (.bastore, 1) := dk_84 (dk_at dksX6_four_0 19 rfl rfl)
theorem dX6_four_20 : decode cX6_four 20 = .ok (.aload_n 0, 1) := dk_42 (dk_at dksX6_four_0 20 rfl rfl)
theorem dX6_four_21 : decode cX6_four 21 = .ok (.dup, 1) := dk_89 (dk_at dksX6_four_0 21 rfl rfl)
theorem dX6_four_22 : decode cX6_four 22 = .ok (.getfield 105, 3) := dk_180 0 105 (dk_at dksX6_four_1 0 rfl rfl)
theorem dX6_four_25 : decode cX6_four 25 = .ok (.iconst 1, 1) := dk_4 (dk_at dksX6_four_1 3 rfl rfl)
theorem dX6_four_26 : decode cX6_four 26 = .ok (.iadd, 1) := dk_96 (dk_at dksX6_four_1 4 rfl rfl)
theorem dX6_four_27 : decode cX6_four 27 = .ok (.putfield 105, 3) := dk_181 0 105 (dk_at dksX6_four_1 5 rfl rfl)
theorem dX6_four_30 : decode cX6_four 30 = .ok (.iinc 2 (-8), 3) := dk_132 2 248 (dk_at dksX6_four_1 8 rfl rfl)
theorem dX6_four_33 : decode cX6_four 33 = .ok (.goto (-30), 3) := dk_167 255 226 (dk_at dksX6_four_1 11 rfl rfl)
theorem dX6_four_36 : decode cX6_four 36 = .ok (.return_, 1) := dk_177 (dk_at dksX6_four_1 14 rfl rfl)
theorem gespM_0_5_X6 {p : Program} {l : Launch} {e : Env} {R : Room} {s : State} {m : MethodId} {args : Array Value} {below : List Frame} {meth : Method} {c : Code} {cc : ByteArray} {nL : Nat} {ret : Option FieldType} {D : va_G} {E : List wCell} {q : Nat → Nat} {ca : wCA} {A : Nat → Prop} {Q : State → Prop} {kc ks : Nat} {μ : wMem} {lv : List (Nat × Value)} {st : List Value} (pc : Nat) (C : wC p R s m args meth c cc "OnePassportModel" nL ret D vwCl (spM ++ E) q ca A) (hd : decode cc pc = .ok (.getfield 23, 3)) (k : wJ p l e R s m args below meth c nL D vwCl (spM ++ E) q ca A Q kc ks μ (pc + 3) lv (.ref (q 5) :: st)) : wJ p l e R s m args below meth c nL D vwCl (spM ++ E) q ca A Q kc ks μ pc lv (.ref (q 0) :: st) := wr_getR pc 5 C hd spM_0 rfl in_X6 (by decide) rfl q1404 k
theorem gespM_0_6_X6 {p : Program} {l : Launch} {e : Env} {R : Room} {s : State} {m : MethodId} {args : Array Value} {below : List Frame} {meth : Method} {c : Code} {cc : ByteArray} {nL : Nat} {ret : Option FieldType} {D : va_G} {E : List wCell} {q : Nat → Nat} {ca : wCA} {A : Nat → Prop} {Q : State → Prop} {kc ks : Nat} {μ : wMem} {lv : List (Nat × Value)} {st : List Value} (pc : Nat) (C : wC p R s m args meth c cc "OnePassportModel" nL ret D vwCl (spM ++ E) q ca A) (hd : decode cc pc = .ok (.getfield 105, 3)) (k : wJ p l e R s m args below meth c nL D vwCl (spM ++ E) q ca A Q kc ks μ (pc + 3) lv (.int (μ.1 0 6) :: st)) : wJ p l e R s m args below meth c nL D vwCl (spM ++ E) q ca A Q kc ks μ pc lv (.ref (q 0) :: st) := wr_getI pc 6 C hd spM_0 rfl in_X6 (by decide) rfl q1405 k
theorem puspM_0_6_X6 {p : Program} {l : Launch} {e : Env} {R : Room} {s : State} {m : MethodId} {args : Array Value} {below : List Frame} {meth : Method} {c : Code} {cc : ByteArray} {nL : Nat} {ret : Option FieldType} {D : va_G} {E : List wCell} {q : Nat → Nat} {ca : wCA} {A : Nat → Prop} {Q : State → Prop} {kc ks : Nat} {μ : wMem} {lv : List (Nat × Value)} {st : List Value} {v : Int32} {μ1 : wMem} (pc : Nat) (C : wC p R s m args meth c cc "OnePassportModel" nL ret D vwCl (spM ++ E) q ca A) (hd : decode cc pc = .ok (.putfield 105, 3)) (hμ : μ1 = wSI μ 0 6 v) (k : wJ p l e R s m args below meth c nL D vwCl (spM ++ E) q ca A Q kc ks μ1 (pc + 3) lv st) : wJ p l e R s m args below meth c nL D vwCl (spM ++ E) q ca A Q kc ks μ pc lv (.int v :: .ref (q 0) :: st) := wr_putI pc 6 C hd spM_0 rfl in_X6 tyX6 tyX6_ok nmX6 (by decide) rfl q1405 rfl rfl hμ k
theorem okX6_four : wOkV yX6_four cX6_four 3 none 1 := ⟨q1572, qs68, q145, q1573, by decide, by decide, by decide +kernel⟩
def gbX6_four_3 (N : Nat)  (x1_ : Int32) (K : (wMem → Option wMem)) (rec : (Int32 → wMem → Option wMem)) (x2_ : Int32) (μ : wMem) : Option wMem :=
  if x2_ < 0 then K  μ else wG (ok_in (μ.1 0 6) 600) (wLet (wSI μ 5 (Int32.toNatClampNeg (μ.1 0 6)) (Int8.toInt32 (Int32.toInt8 (x1_ >>> (x2_ &&& 31))))) fun μ3 => wLet (wSI μ3 0 6 ((μ3.1 0 6) + (1 : Int32))) fun μ4 => wLet (x2_ + (-8) : Int32) fun x5 => rec x5 μ4)
def gX6_four_3 (N : Nat)  (x1_ : Int32) (K : (wMem → Option wMem)) : Nat → (Int32 → wMem → Option wMem)
  | 0 => fun _ _ => none
  | k + 1 => gbX6_four_3 N  x1_ K (gX6_four_3 N  x1_ K k)
set_option maxHeartbeats 4000000 in
set_option maxRecDepth 100000 in
theorem tX6_four_3 {p : Program} {l : Launch} {e : Env} {s : State} {m : MethodId} {args : Array Value} {below : List Frame} {meth : Method} {c : Code} {D : va_G} {E : List wCell} {q : Nat → Nat} {ca : wCA} {A : Nat → Prop} (C : wC p ({ frames := 0, cells := 0, slots := 0, locals := 0 } : Room) s m args meth c cX6_four yX6_four.cls 3 none D vwCl (spM ++ E) q ca A) (N : Nat)   (x1_ : Int32) (K : (wMem → Option wMem)) (r0 : wMem) (hK : ∀  (μ : wMem), K  μ = some r0 → wJ p l e ({ frames := 0, cells := 0, slots := 0, locals := 0 } : Room) s m args below meth c 3 D vwCl (spM ++ E) q ca A (wQv ({ frames := 0, cells := 0, slots := 0, locals := 0 } : Room) D vwCl (spM ++ E) q ca below args s A r0) 0 0 μ 36 [] []) : ∀ (k : Nat) (x2_ : Int32) (μ : wMem), gX6_four_3 N  x1_ K k x2_ μ = some r0 → wJ p l e ({ frames := 0, cells := 0, slots := 0, locals := 0 } : Room) s m args below meth c 3 D vwCl (spM ++ E) q ca A (wQv ({ frames := 0, cells := 0, slots := 0, locals := 0 } : Room) D vwCl (spM ++ E) q ca below args s A r0) 0 0 μ 3 [(0, .ref (q 0)), (1, .int x1_), (2, .int x2_)] [] := by
  intro k
  induction k with
  | zero =>
    intro x2_ μ hf
    cases hf
  | succ k ih =>
    intro x2_ μ hf
    replace hf : gbX6_four_3 N  x1_ K (gX6_four_3 N  x1_ K k) x2_ μ = some r0 := hf
    unfold gbX6_four_3 at hf
    refine wr_iload_n 3 C dX6_four_3 2 rfl rfl ?_
    refine wr_if_lt 4 36 C dX6_four_4 (by decide) (fun c1 => ?_) (fun c1 => ?_)
    · replace hf := o_pos c1 hf
      refine wr_sub [] [] rfl ?_
      exact hK  μ hf
    · replace hf := o_neg c1 hf
      refine wr_aload_n 7 C dX6_four_7 0 rfl rfl ?_
      refine gespM_0_5_X6 8 C dX6_four_8 ?_
      refine wr_aload_n 11 C dX6_four_11 0 rfl rfl ?_
      refine gespM_0_6_X6 12 C dX6_four_12 ?_
      refine wr_iload_n 15 C dX6_four_15 1 rfl rfl ?_
      refine wr_iload_n 16 C dX6_four_16 2 rfl rfl ?_
      refine wr_ishr 17 C dX6_four_17 ?_
      refine wr_i2b 18 C dX6_four_18 ?_
      obtain ⟨g2, hf⟩ := o_g hf
      obtain ⟨μ3, eμ3, hf⟩ := o_let hf
      refine wr_bast 19 C dX6_four_19 spM_5 g2 (pk_vb _) eμ3 ?_
      refine wr_aload_n 20 C dX6_four_20 0 rfl rfl ?_
      refine wr_dup 21 C dX6_four_21 rfl ?_
      refine gespM_0_6_X6 22 C dX6_four_22 ?_
      refine wr_iconst 25 C dX6_four_25 (v := 1) rfl ?_
      refine wr_iadd 26 C dX6_four_26 ?_
      obtain ⟨μ4, eμ4, hf⟩ := o_let hf
      refine puspM_0_6_X6 27 C dX6_four_27 eμ4 ?_
      obtain ⟨x5, ex5, hf⟩ := o_let hf
      refine wr_iinc 30 [(2, .int x5), (0, .ref (q 0)), (1, .int x1_)] C dX6_four_30 2 rfl (ex5.trans rfl) (Nat.le_of_ble_eq_true rfl) rfl ?_
      refine wr_goto 33 C dX6_four_33 (tgt := 3) (by decide) ?_
      refine wr_sub [(0, .ref (q 0)), (1, .int x1_), (2, .int x5)] [1, 2, 0] rfl ?_
      exact ih x5 μ4 hf
def fX6_four (N : Nat)  (a1 : Int32) (μ : wMem) : Option wMem :=
  gX6_four_3 N  a1 (fun  (μ6 : wMem) => some μ6) N 24 μ
set_option maxHeartbeats 4000000 in
set_option maxRecDepth 100000 in
theorem tX6_four (l : Launch) {D : va_G} {E : List wCell} {q : Nat → Nat} {ca : wCA} (N : Nat)   (a1 : Int32) (μ : wMem) (r0 : wMem) (hf : fX6_four N  a1 μ = some r0) : wMv l yX6_four cX6_four 3 none ({ frames := 0, cells := 0, slots := 0, locals := 0 } : Room) D vwCl (spM ++ E) q ca [.ref (q 0), .int a1] μ r0 := by
  refine wMv_intro (by decide) (Nat.le_of_ble_eq_true rfl) ?_
  intro p e s m args below meth c A C
  unfold fX6_four at hf
  refine wr_sub [(0, .ref (q 0)), (1, .int a1)] [0, 1] rfl ?_
  refine wr_bipush 0 C dX6_four_0 (v := 24) rfl ?_
  refine wr_istore_n 2 [(2, .int 24), (0, .ref (q 0)), (1, .int a1)] C dX6_four_2 rfl rfl (Nat.le_of_ble_eq_true rfl) rfl ?_
  refine wr_sub [(0, .ref (q 0)), (1, .int a1), (2, .int 24)] [1, 2, 0] rfl ?_
  refine tX6_four_3 C N   a1 _ r0 (fun  μ6 hf => ?_) N 24 μ hf
  · replace hf := hf
    exact wr_vret 36 C dX6_four_36 ⟨Nat.zero_le _, Nat.zero_le _⟩ (Option.some.inj hf)
abbrev cX6_feed : ByteArray := prog_11_method_9_code
def yX6_feed : MethodName := ⟨RX6, "feed", "(IIIII)I"⟩
def dkwX6_feed_2 : List UInt8 := [182, 0, 108, 42, 180, 0, 105, 172]
abbrev dktX6_feed_2 : List UInt8 := dkwX6_feed_2 ++ []
def dkwX6_feed_1 : List UInt8 := [182, 0, 108, 42, 28, 182, 0, 108, 42, 29, 182, 0, 108, 42, 21, 4, 182, 0, 108, 42, 21, 5]
abbrev dktX6_feed_1 : List UInt8 := dkwX6_feed_1 ++ dktX6_feed_2
def dkwX6_feed_0 : List UInt8 := [42, 3, 181, 0, 88, 42, 180, 0, 105, 16, 20, 96, 17, 2, 88, 164, 0, 5, 2, 172, 42, 27]
abbrev dktX6_feed_0 : List UInt8 := dkwX6_feed_0 ++ dktX6_feed_1
theorem dksX6_feed_0 : cX6_feed.data.toList.drop 0 = dktX6_feed_0 := by decide +kernel
theorem dksX6_feed_1 : cX6_feed.data.toList.drop 22 = dktX6_feed_1 := dk_seg dksX6_feed_0 22 rfl rfl
theorem dksX6_feed_2 : cX6_feed.data.toList.drop 44 = dktX6_feed_2 := dk_seg dksX6_feed_1 22 rfl rfl
theorem dX6_feed_0 : decode cX6_feed 0 = .ok (.aload_n 0, 1) := dk_42 (dk_at dksX6_feed_0 0 rfl rfl)
theorem dX6_feed_1 : decode cX6_feed 1 = .ok (.iconst 0, 1) := dk_3 (dk_at dksX6_feed_0 1 rfl rfl)
theorem dX6_feed_2 : decode cX6_feed 2 = .ok (.putfield 88, 3) := dk_181 0 88 (dk_at dksX6_feed_0 2 rfl rfl)
theorem dX6_feed_5 : decode cX6_feed 5 = .ok (.aload_n 0, 1) := dk_42 (dk_at dksX6_feed_0 5 rfl rfl)
theorem dX6_feed_6 : decode cX6_feed 6 = .ok (.getfield 105, 3) := dk_180 0 105 (dk_at dksX6_feed_0 6 rfl rfl)
theorem dX6_feed_9 : decode cX6_feed 9 = .ok (.bipush 20, 2) := dk_16 20 (dk_at dksX6_feed_0 9 rfl rfl)
theorem dX6_feed_11 : decode cX6_feed 11 = .ok (.iadd, 1) := dk_96 (dk_at dksX6_feed_0 11 rfl rfl)
theorem dX6_feed_12 : decode cX6_feed 12 = .ok (.sipush 600, 3) := dk_17 2 88 (dk_at dksX6_feed_0 12 rfl rfl)
theorem dX6_feed_15 : decode cX6_feed 15 = .ok (.if_icmp .le 5, 3) := dk_164 0 5 (dk_at dksX6_feed_0 15 rfl rfl)
theorem dX6_feed_18 : decode cX6_feed 18 = .ok (.iconst (-1), 1) := dk_2 (dk_at dksX6_feed_0 18 rfl rfl)
theorem dX6_feed_19 : decode cX6_feed 19 = .ok (.ireturn, 1) := dk_172 (dk_at dksX6_feed_0 19 rfl rfl)
theorem dX6_feed_20 : decode cX6_feed 20 = .ok (.aload_n 0, 1) := dk_42 (dk_at dksX6_feed_0 20 rfl rfl)
theorem dX6_feed_21 : decode cX6_feed 21 = .ok (.iload_n 1, 1) := dk_27 (dk_at dksX6_feed_0 21 rfl rfl)
theorem dX6_feed_22 : decode cX6_feed 22 = .ok (.invokevirtual 108, 3) := dk_182 0 108 (dk_at dksX6_feed_1 0 rfl rfl)
theorem dX6_feed_25 : decode cX6_feed 25 = .ok (.aload_n 0, 1) := dk_42 (dk_at dksX6_feed_1 3 rfl rfl)
theorem dX6_feed_26 : decode cX6_feed 26 = .ok (.iload_n 2, 1) := dk_28 (dk_at dksX6_feed_1 4 rfl rfl)
theorem dX6_feed_27 : decode cX6_feed 27 = .ok (.invokevirtual 108, 3) := dk_182 0 108 (dk_at dksX6_feed_1 5 rfl rfl)
theorem dX6_feed_30 : decode cX6_feed 30 = .ok (.aload_n 0, 1) := dk_42 (dk_at dksX6_feed_1 8 rfl rfl)
theorem dX6_feed_31 : decode cX6_feed 31 = .ok (.iload_n 3, 1) := dk_29 (dk_at dksX6_feed_1 9 rfl rfl)
theorem dX6_feed_32 : decode cX6_feed 32 = .ok (.invokevirtual 108, 3) := dk_182 0 108 (dk_at dksX6_feed_1 10 rfl rfl)
theorem dX6_feed_35 : decode cX6_feed 35 = .ok (.aload_n 0, 1) := dk_42 (dk_at dksX6_feed_1 13 rfl rfl)
theorem dX6_feed_36 : decode cX6_feed 36 = .ok (.iload 4, 2) := dk_21 4 (dk_at dksX6_feed_1 14 rfl rfl)
theorem dX6_feed_38 : decode cX6_feed 38 = .ok (.invokevirtual 108, 3) := dk_182 0 108 (dk_at dksX6_feed_1 16 rfl rfl)
theorem dX6_feed_41 : decode cX6_feed 41 = .ok (.aload_n 0, 1) := dk_42 (dk_at dksX6_feed_1 19 rfl rfl)
theorem dX6_feed_42 : decode cX6_feed 42 = .ok (.iload 5, 2) := dk_21 5 (dk_at dksX6_feed_1 20 rfl rfl)
theorem dX6_feed_44 : decode cX6_feed 44 = .ok (.invokevirtual 108, 3) := dk_182 0 108 (dk_at dksX6_feed_2 0 rfl rfl)
theorem dX6_feed_47 : decode cX6_feed 47 = .ok (.aload_n 0, 1) := dk_42 (dk_at dksX6_feed_2 3 rfl rfl)
theorem dX6_feed_48 : decode cX6_feed 48 = .ok (.getfield 105, 3) := dk_180 0 105 (dk_at dksX6_feed_2 4 rfl rfl)
theorem dX6_feed_51 : decode cX6_feed 51 = .ok (.ireturn, 1) := dk_172 (dk_at dksX6_feed_2 7 rfl rfl)

theorem okX6_feed : wOkV yX6_feed cX6_feed 6 (some .int) 5 := ⟨q1567, q1568, q145, q1569, by decide, by decide, by decide +kernel⟩
def fX6_feed (N : Nat)  (a1 : Int32) (a2 : Int32) (a3 : Int32) (a4 : Int32) (a5 : Int32) (μ : wMem) : Option (Int32 × wMem) :=
  wLet (wSI μ 0 0 (0 : Int32)) fun μ1 => if ((μ1.1 0 6) + (20 : Int32)) ≤ (600 : Int32) then wBindV (fX6_four N  a1 μ1) fun μ4 => wBindV (fX6_four N  a2 μ4) fun μ6 => wBindV (fX6_four N  a3 μ6) fun μ8 => wBindV (fX6_four N  a4 μ8) fun μ10 => wBindV (fX6_four N  a5 μ10) fun μ12 => some (μ12.1 0 6, μ12) else some ((-1), μ1)
set_option maxHeartbeats 4000000 in
set_option maxRecDepth 100000 in
theorem tX6_feed (l : Launch) {D : va_G} {E : List wCell} {q : Nat → Nat} {ca : wCA} (N : Nat)   (a1 : Int32) (a2 : Int32) (a3 : Int32) (a4 : Int32) (a5 : Int32) (μ : wMem) (r0 : (Int32 × wMem)) (hf : fX6_feed N  a1 a2 a3 a4 a5 μ = some r0) : wMi l yX6_feed cX6_feed 6 (some .int) ({ frames := 1, cells := 0, slots := 0, locals := 22 } : Room) D vwCl (spM ++ E) q ca [.ref (q 0), .int a1, .int a2, .int a3, .int a4, .int a5] μ r0 := by
  refine wMi_intro (by decide) (Nat.le_of_ble_eq_true rfl) ?_
  intro p e s m args below meth c A C
  unfold fX6_feed at hf
  refine wr_sub [(0, .ref (q 0)), (1, .int a1), (2, .int a2), (3, .int a3), (4, .int a4), (5, .int a5)] [0, 1, 2, 3, 4, 5] rfl ?_
  refine wr_aload_n 0 C dX6_feed_0 0 rfl rfl ?_
  refine wr_iconst 1 C dX6_feed_1 (v := 0) rfl ?_
  obtain ⟨μ1, eμ1, hf⟩ := o_let hf
  refine puspM_0_0_X6 2 C dX6_feed_2 eμ1 ?_
  refine wr_aload_n 5 C dX6_feed_5 0 rfl rfl ?_
  refine gespM_0_6_X6 6 C dX6_feed_6 ?_
  refine wr_bipush 9 C dX6_feed_9 (v := 20) rfl ?_
  refine wr_iadd 11 C dX6_feed_11 ?_
  refine wr_sipush 12 C dX6_feed_12 (v := 600) rfl ?_
  refine wr_icmp_le 15 20 C dX6_feed_15 (by decide) (fun c2 => ?_) (fun c2 => ?_)
  · replace hf := o_pos c2 hf
    refine wr_aload_n 20 C dX6_feed_20 0 rfl rfl ?_
    refine wr_iload_n 21 C dX6_feed_21 1 rfl rfl ?_
    obtain ⟨μ4, h3, hf⟩ := o_bindV hf
    refine wr_Vv (kc1 := 0) (ks1 := 0) 22 [] C dX6_feed_22 (tX6_four l N   a1 μ1 μ4 h3) okX6_four q1570 (b := 0) spM_0 rfl ⟨rfl, rfl, Nat.le_of_ble_eq_true rfl, Nat.le_of_ble_eq_true rfl, Nat.zero_le _, Nat.zero_le _⟩ (Nat.le_of_ble_eq_true rfl) rfl ?_
    refine wr_aload_n 25 C dX6_feed_25 0 rfl rfl ?_
    refine wr_iload_n 26 C dX6_feed_26 2 rfl rfl ?_
    obtain ⟨μ6, h5, hf⟩ := o_bindV hf
    refine wr_Vv (kc1 := 0) (ks1 := 0) 27 [] C dX6_feed_27 (tX6_four l N   a2 μ4 μ6 h5) okX6_four q1570 (b := 0) spM_0 rfl ⟨rfl, rfl, Nat.le_of_ble_eq_true rfl, Nat.le_of_ble_eq_true rfl, Nat.zero_le _, Nat.zero_le _⟩ (Nat.le_of_ble_eq_true rfl) rfl ?_
    refine wr_aload_n 30 C dX6_feed_30 0 rfl rfl ?_
    refine wr_iload_n 31 C dX6_feed_31 3 rfl rfl ?_
    obtain ⟨μ8, h7, hf⟩ := o_bindV hf
    refine wr_Vv (kc1 := 0) (ks1 := 0) 32 [] C dX6_feed_32 (tX6_four l N   a3 μ6 μ8 h7) okX6_four q1570 (b := 0) spM_0 rfl ⟨rfl, rfl, Nat.le_of_ble_eq_true rfl, Nat.le_of_ble_eq_true rfl, Nat.zero_le _, Nat.zero_le _⟩ (Nat.le_of_ble_eq_true rfl) rfl ?_
    refine wr_aload_n 35 C dX6_feed_35 0 rfl rfl ?_
    refine wr_iload 36 C dX6_feed_36 4 rfl ?_
    obtain ⟨μ10, h9, hf⟩ := o_bindV hf
    refine wr_Vv (kc1 := 0) (ks1 := 0) 38 [] C dX6_feed_38 (tX6_four l N   a4 μ8 μ10 h9) okX6_four q1570 (b := 0) spM_0 rfl ⟨rfl, rfl, Nat.le_of_ble_eq_true rfl, Nat.le_of_ble_eq_true rfl, Nat.zero_le _, Nat.zero_le _⟩ (Nat.le_of_ble_eq_true rfl) rfl ?_
    refine wr_aload_n 41 C dX6_feed_41 0 rfl rfl ?_
    refine wr_iload 42 C dX6_feed_42 5 rfl ?_
    obtain ⟨μ12, h11, hf⟩ := o_bindV hf
    refine wr_Vv (kc1 := 0) (ks1 := 0) 44 [] C dX6_feed_44 (tX6_four l N   a5 μ10 μ12 h11) okX6_four q1570 (b := 0) spM_0 rfl ⟨rfl, rfl, Nat.le_of_ble_eq_true rfl, Nat.le_of_ble_eq_true rfl, Nat.zero_le _, Nat.zero_le _⟩ (Nat.le_of_ble_eq_true rfl) rfl ?_
    refine wr_aload_n 47 C dX6_feed_47 0 rfl rfl ?_
    refine gespM_0_6_X6 48 C dX6_feed_48 ?_
    exact wr_iret 51 C dX6_feed_51 ⟨Nat.zero_le _, Nat.zero_le _⟩ (Option.some.inj hf)
  · replace hf := o_neg c2 hf
    refine wr_iconst 18 C dX6_feed_18 (v := (-1)) rfl ?_
    exact wr_iret 19 C dX6_feed_19 ⟨Nat.zero_le _, Nat.zero_le _⟩ (Option.some.inj hf)
abbrev cX6_end : ByteArray := prog_11_method_11_code
def yX6_end : MethodName := ⟨RX6, "end", "(I)I"⟩
def dkwX6_end_1 : List UInt8 := [181, 0, 105, 27, 172]
abbrev dktX6_end_1 : List UInt8 := dkwX6_end_1 ++ []
def dkwX6_end_0 : List UInt8 := [42, 3, 181, 0, 88, 27, 133, 9, 42, 180, 0, 105, 133, 184, 0, 93, 154, 0, 5, 2, 172, 42, 27]
abbrev dktX6_end_0 : List UInt8 := dkwX6_end_0 ++ dktX6_end_1
theorem dksX6_end_0 : cX6_end.data.toList.drop 0 = dktX6_end_0 := by decide +kernel
theorem dksX6_end_1 : cX6_end.data.toList.drop 23 = dktX6_end_1 := dk_seg dksX6_end_0 23 rfl rfl
theorem dX6_end_0 : decode cX6_end 0 = .ok (.aload_n 0, 1) := dk_42 (dk_at dksX6_end_0 0 rfl rfl)
theorem dX6_end_1 : decode cX6_end 1 = .ok (.iconst 0, 1) := dk_3 (dk_at dksX6_end_0 1 rfl rfl)
theorem dX6_end_2 : decode cX6_end 2 = .ok (.putfield 88, 3) := dk_181 0 88 (dk_at dksX6_end_0 2 rfl rfl)
theorem dX6_end_5 : decode cX6_end 5 = .ok (.iload_n 1, 1) := dk_27 (dk_at dksX6_end_0 5 rfl rfl)
theorem dX6_end_6 : decode cX6_end 6 = .ok (.i2l, 1) := dk_133 (dk_at dksX6_end_0 6 rfl rfl)
theorem dX6_end_7 : decode cX6_end 7 = .ok (.lconst 0, 1) := dk_9 (dk_at dksX6_end_0 7 rfl rfl)
theorem dX6_end_8 : decode cX6_end 8 = .ok (.aload_n 0, 1) := dk_42 (dk_at dksX6_end_0 8 rfl rfl)
theorem dX6_end_9 : decode cX6_end 9 = .ok (.getfield 105, 3) := dk_180 0 105 (dk_at dksX6_end_0 9 rfl rfl)
theorem dX6_end_12 : decode cX6_end 12 = .ok (.i2l, 1) := dk_133 (dk_at dksX6_end_0 12 rfl rfl)
theorem dX6_end_13 : decode cX6_end 13 = .ok (.invokestatic 93, 3) := dk_184 0 93 (dk_at dksX6_end_0 13 rfl rfl)
theorem dX6_end_16 : decode cX6_end 16 = .ok (.ifCond .ne 5, 3) := dk_154 0 5 (dk_at dksX6_end_0 16 rfl rfl)
theorem dX6_end_19 : decode cX6_end 19 = .ok (.iconst (-1), 1) := dk_2 (dk_at dksX6_end_0 19 rfl rfl)
theorem dX6_end_20 : decode cX6_end 20 = .ok (.ireturn, 1) := dk_172 (dk_at dksX6_end_0 20 rfl rfl)
theorem dX6_end_21 : decode cX6_end 21 = .ok (.aload_n 0, 1) := dk_42 (dk_at dksX6_end_0 21 rfl rfl)
theorem dX6_end_22 : decode cX6_end 22 = .ok (.iload_n 1, 1) := dk_27 (dk_at dksX6_end_0 22 rfl rfl)
theorem dX6_end_23 : decode cX6_end 23 = .ok (.putfield 105, 3) := dk_181 0 105 (dk_at dksX6_end_1 0 rfl rfl)
theorem dX6_end_26 : decode cX6_end 26 = .ok (.iload_n 1, 1) := dk_27 (dk_at dksX6_end_1 3 rfl rfl)
theorem dX6_end_27 : decode cX6_end 27 = .ok (.ireturn, 1) := dk_172 (dk_at dksX6_end_1 4 rfl rfl)

theorem okX6_end : wOkV yX6_end cX6_end 2 (some .int) 1 := ⟨q1575, q1576, q145, q1577, by decide, by decide, by decide +kernel⟩
def fX6_end (N : Nat)  (a1 : Int32) (μ : wMem) : Option (Int32 × wMem) :=
  wLet (wSI μ 0 0 (0 : Int32)) fun μ1 => wBind (fX6_in N  (Int32.toInt64 a1) 0 (Int32.toInt64 (μ1.1 0 6)) μ1) fun v4 μ3 => if v4 = 0 then some ((-1), μ3) else wLet (wSI μ3 0 6 a1) fun μ6 => some (a1, μ6)
set_option maxHeartbeats 4000000 in
set_option maxRecDepth 100000 in
theorem tX6_end (l : Launch) {D : va_G} {E : List wCell} {q : Nat → Nat} {ca : wCA} (N : Nat)   (a1 : Int32) (μ : wMem) (r0 : (Int32 × wMem)) (hf : fX6_end N  a1 μ = some r0) : wMi l yX6_end cX6_end 2 (some .int) ({ frames := 1, cells := 0, slots := 0, locals := 25 } : Room) D vwCl (spM ++ E) q ca [.ref (q 0), .int a1] μ r0 := by
  refine wMi_intro (by decide) (Nat.le_of_ble_eq_true rfl) ?_
  intro p e s m args below meth c A C
  unfold fX6_end at hf
  refine wr_sub [(0, .ref (q 0)), (1, .int a1)] [0, 1] rfl ?_
  refine wr_aload_n 0 C dX6_end_0 0 rfl rfl ?_
  refine wr_iconst 1 C dX6_end_1 (v := 0) rfl ?_
  obtain ⟨μ1, eμ1, hf⟩ := o_let hf
  refine puspM_0_0_X6 2 C dX6_end_2 eμ1 ?_
  refine wr_iload_n 5 C dX6_end_5 1 rfl rfl ?_
  refine wr_i2l 6 C dX6_end_6 ?_
  refine wr_lconst 7 C dX6_end_7 (v := 0) rfl ?_
  refine wr_aload_n 8 C dX6_end_8 0 rfl rfl ?_
  refine gespM_0_6_X6 9 C dX6_end_9 ?_
  refine wr_i2l 12 C dX6_end_12 ?_
  obtain ⟨v4, μ3, h2, hf⟩ := o_bind hf
  refine wr_Si (kc1 := 0) (ks1 := 0) 13 [] C dX6_end_13 (tX6_in l N   (Int32.toInt64 a1) 0 (Int32.toInt64 (μ1.1 0 6)) μ1 (v4, μ3) h2) okX6_in q1552 ⟨rfl, rfl, Nat.le_of_ble_eq_true rfl, Nat.le_of_ble_eq_true rfl, Nat.zero_le _, Nat.zero_le _⟩ (Nat.le_of_ble_eq_true rfl) rfl ?_
  refine wr_if_ne 16 21 C dX6_end_16 (by decide) (fun c5 => ?_) (fun c5 => ?_)
  · replace hf := o_neg c5 hf
    refine wr_aload_n 21 C dX6_end_21 0 rfl rfl ?_
    refine wr_iload_n 22 C dX6_end_22 1 rfl rfl ?_
    obtain ⟨μ6, eμ6, hf⟩ := o_let hf
    refine puspM_0_6_X6 23 C dX6_end_23 eμ6 ?_
    refine wr_iload_n 26 C dX6_end_26 1 rfl rfl ?_
    exact wr_iret 27 C dX6_end_27 ⟨Nat.zero_le _, Nat.zero_le _⟩ (Option.some.inj hf)
  · replace hf := o_pos c5 hf
    refine wr_iconst 19 C dX6_end_19 (v := (-1)) rfl ?_
    exact wr_iret 20 C dX6_end_20 ⟨Nat.zero_le _, Nat.zero_le _⟩ (Option.some.inj hf)
abbrev cX6_fault : ByteArray := prog_11_method_24_code
def yX6_fault : MethodName := ⟨RX6, "fault", "(I)I"⟩
def dkwX6_fault_1 : List UInt8 := [180, 0, 27, 167, 0, 4, 2, 172]
abbrev dktX6_fault_1 : List UInt8 := dkwX6_fault_1 ++ []
def dkwX6_fault_0 : List UInt8 := [42, 3, 181, 0, 88, 27, 154, 0, 10, 42, 180, 0, 167, 167, 0, 16, 27, 4, 160, 0, 10, 42]
abbrev dktX6_fault_0 : List UInt8 := dkwX6_fault_0 ++ dktX6_fault_1
theorem dksX6_fault_0 : cX6_fault.data.toList.drop 0 = dktX6_fault_0 := by decide +kernel
theorem dksX6_fault_1 : cX6_fault.data.toList.drop 22 = dktX6_fault_1 := dk_seg dksX6_fault_0 22 rfl rfl
theorem dX6_fault_0 : decode cX6_fault 0 = .ok (.aload_n 0, 1) := dk_42 (dk_at dksX6_fault_0 0 rfl rfl)
theorem dX6_fault_1 : decode cX6_fault 1 = .ok (.iconst 0, 1) := dk_3 (dk_at dksX6_fault_0 1 rfl rfl)
theorem dX6_fault_2 : decode cX6_fault 2 = .ok (.putfield 88, 3) := dk_181 0 88 (dk_at dksX6_fault_0 2 rfl rfl)
theorem dX6_fault_5 : decode cX6_fault 5 = .ok (.iload_n 1, 1) := dk_27 (dk_at dksX6_fault_0 5 rfl rfl)
theorem dX6_fault_6 : decode cX6_fault 6 = .ok (.ifCond .ne 10, 3) := dk_154 0 10 (dk_at dksX6_fault_0 6 rfl rfl)
theorem dX6_fault_9 : decode cX6_fault 9 = .ok (.aload_n 0, 1) := dk_42 (dk_at dksX6_fault_0 9 rfl rfl)
theorem dX6_fault_10 : decode cX6_fault 10 = .ok (.getfield 167, 3) := dk_180 0 167 (dk_at dksX6_fault_0 10 rfl rfl)
theorem dX6_fault_13 : decode cX6_fault 13 = .ok (.goto 16, 3) := dk_167 0 16 (dk_at dksX6_fault_0 13 rfl rfl)
theorem dX6_fault_16 : decode cX6_fault 16 = .ok (.iload_n 1, 1) := dk_27 (dk_at dksX6_fault_0 16 rfl rfl)
theorem dX6_fault_17 : decode cX6_fault 17 = .ok (.iconst 1, 1) := dk_4 (dk_at dksX6_fault_0 17 rfl rfl)
theorem dX6_fault_18 : decode cX6_fault 18 = .ok (.if_icmp .ne 10, 3) := dk_160 0 10 (dk_at dksX6_fault_0 18 rfl rfl)
theorem dX6_fault_21 : decode cX6_fault 21 = .ok (.aload_n 0, 1) := dk_42 (dk_at dksX6_fault_0 21 rfl rfl)
theorem dX6_fault_22 : decode cX6_fault 22 = .ok (.getfield 27, 3) := dk_180 0 27 (dk_at dksX6_fault_1 0 rfl rfl)
theorem dX6_fault_25 : decode cX6_fault 25 = .ok (.goto 4, 3) := dk_167 0 4 (dk_at dksX6_fault_1 3 rfl rfl)
theorem dX6_fault_28 : decode cX6_fault 28 = .ok (.iconst (-1), 1) := dk_2 (dk_at dksX6_fault_1 6 rfl rfl)
theorem dX6_fault_29 : decode cX6_fault 29 = .ok (.ireturn, 1) := dk_172 (dk_at dksX6_fault_1 7 rfl rfl)
theorem gespM_0_14_X6 {p : Program} {l : Launch} {e : Env} {R : Room} {s : State} {m : MethodId} {args : Array Value} {below : List Frame} {meth : Method} {c : Code} {cc : ByteArray} {nL : Nat} {ret : Option FieldType} {D : va_G} {E : List wCell} {q : Nat → Nat} {ca : wCA} {A : Nat → Prop} {Q : State → Prop} {kc ks : Nat} {μ : wMem} {lv : List (Nat × Value)} {st : List Value} (pc : Nat) (C : wC p R s m args meth c cc "OnePassportModel" nL ret D vwCl (spM ++ E) q ca A) (hd : decode cc pc = .ok (.getfield 167, 3)) (k : wJ p l e R s m args below meth c nL D vwCl (spM ++ E) q ca A Q kc ks μ (pc + 3) lv (.int (μ.1 0 14) :: st)) : wJ p l e R s m args below meth c nL D vwCl (spM ++ E) q ca A Q kc ks μ pc lv (.ref (q 0) :: st) := wr_getI pc 14 C hd spM_0 rfl in_X6 (by decide) rfl q1413 k
theorem gespM_0_15_X6 {p : Program} {l : Launch} {e : Env} {R : Room} {s : State} {m : MethodId} {args : Array Value} {below : List Frame} {meth : Method} {c : Code} {cc : ByteArray} {nL : Nat} {ret : Option FieldType} {D : va_G} {E : List wCell} {q : Nat → Nat} {ca : wCA} {A : Nat → Prop} {Q : State → Prop} {kc ks : Nat} {μ : wMem} {lv : List (Nat × Value)} {st : List Value} (pc : Nat) (C : wC p R s m args meth c cc "OnePassportModel" nL ret D vwCl (spM ++ E) q ca A) (hd : decode cc pc = .ok (.getfield 27, 3)) (k : wJ p l e R s m args below meth c nL D vwCl (spM ++ E) q ca A Q kc ks μ (pc + 3) lv (.int (μ.1 0 15) :: st)) : wJ p l e R s m args below meth c nL D vwCl (spM ++ E) q ca A Q kc ks μ pc lv (.ref (q 0) :: st) := wr_getI pc 15 C hd spM_0 rfl in_X6 (by decide) rfl q1414 k
theorem okX6_fault : wOkV yX6_fault cX6_fault 2 (some .int) 1 := ⟨q1579, q1580, q145, q1581, by decide, by decide, by decide +kernel⟩
def fX6_fault (N : Nat)  (a1 : Int32) (μ : wMem) : Option (Int32 × wMem) :=
  wLet (wSI μ 0 0 (0 : Int32)) fun μ1 => if a1 = 0 then some (μ1.1 0 14, μ1) else if a1 = (1 : Int32) then some (μ1.1 0 15, μ1) else some ((-1), μ1)
set_option maxHeartbeats 4000000 in
set_option maxRecDepth 100000 in
theorem tX6_fault (l : Launch) {D : va_G} {E : List wCell} {q : Nat → Nat} {ca : wCA} (N : Nat)   (a1 : Int32) (μ : wMem) (r0 : (Int32 × wMem)) (hf : fX6_fault N  a1 μ = some r0) : wMi l yX6_fault cX6_fault 2 (some .int) ({ frames := 0, cells := 0, slots := 0, locals := 0 } : Room) D vwCl (spM ++ E) q ca [.ref (q 0), .int a1] μ r0 := by
  refine wMi_intro (by decide) (Nat.le_of_ble_eq_true rfl) ?_
  intro p e s m args below meth c A C
  unfold fX6_fault at hf
  refine wr_sub [(0, .ref (q 0)), (1, .int a1)] [0, 1] rfl ?_
  refine wr_aload_n 0 C dX6_fault_0 0 rfl rfl ?_
  refine wr_iconst 1 C dX6_fault_1 (v := 0) rfl ?_
  obtain ⟨μ1, eμ1, hf⟩ := o_let hf
  refine puspM_0_0_X6 2 C dX6_fault_2 eμ1 ?_
  refine wr_iload_n 5 C dX6_fault_5 1 rfl rfl ?_
  refine wr_if_ne 6 16 C dX6_fault_6 (by decide) (fun c2 => ?_) (fun c2 => ?_)
  · replace hf := o_neg c2 hf
    refine wr_iload_n 16 C dX6_fault_16 1 rfl rfl ?_
    refine wr_iconst 17 C dX6_fault_17 (v := 1) rfl ?_
    refine wr_icmp_ne 18 28 C dX6_fault_18 (by decide) (fun c3 => ?_) (fun c3 => ?_)
    · replace hf := o_neg c3 hf
      refine wr_iconst 28 C dX6_fault_28 (v := (-1)) rfl ?_
      exact wr_iret 29 C dX6_fault_29 ⟨Nat.zero_le _, Nat.zero_le _⟩ (Option.some.inj hf)
    · replace hf := o_pos c3 hf
      refine wr_aload_n 21 C dX6_fault_21 0 rfl rfl ?_
      refine gespM_0_15_X6 22 C dX6_fault_22 ?_
      refine wr_goto 25 C dX6_fault_25 (tgt := 29) (by decide) ?_
      exact wr_iret 29 C dX6_fault_29 ⟨Nat.zero_le _, Nat.zero_le _⟩ (Option.some.inj hf)
  · replace hf := o_pos c2 hf
    refine wr_aload_n 9 C dX6_fault_9 0 rfl rfl ?_
    refine gespM_0_14_X6 10 C dX6_fault_10 ?_
    refine wr_goto 13 C dX6_fault_13 (tgt := 29) (by decide) ?_
    exact wr_iret 29 C dX6_fault_29 ⟨Nat.zero_le _, Nat.zero_le _⟩ (Option.some.inj hf)
abbrev cX6_tells : ByteArray := prog_11_method_26_code
def yX6_tells : MethodName := ⟨RX6, "tells", "(II)V"⟩
def dkwX6_tells_0 : List UInt8 := [42, 180, 0, 34, 16, 28, 27, 96, 28, 79, 177]
abbrev dktX6_tells_0 : List UInt8 := dkwX6_tells_0 ++ []
theorem dksX6_tells_0 : cX6_tells.data.toList.drop 0 = dktX6_tells_0 := by decide +kernel
theorem dX6_tells_0 : decode cX6_tells 0 = .ok (.aload_n 0, 1) := dk_42 (dk_at dksX6_tells_0 0 rfl rfl)
theorem dX6_tells_1 : decode cX6_tells 1 = .ok (.getfield 34, 3) := dk_180 0 34 (dk_at dksX6_tells_0 1 rfl rfl)
theorem dX6_tells_4 : decode cX6_tells 4 = .ok (.bipush 28, 2) := dk_16 28 (dk_at dksX6_tells_0 4 rfl rfl)
theorem dX6_tells_6 : decode cX6_tells 6 = .ok (.iload_n 1, 1) := dk_27 (dk_at dksX6_tells_0 6 rfl rfl)
theorem dX6_tells_7 : decode cX6_tells 7 = .ok (.iadd, 1) := dk_96 (dk_at dksX6_tells_0 7 rfl rfl)
theorem dX6_tells_8 : decode cX6_tells 8 = .ok (.iload_n 2, 1) := dk_28 (dk_at dksX6_tells_0 8 rfl rfl)
theorem dX6_tells_9 : decode cX6_tells 9 = .ok (.iastore, 1) := dk_79 (dk_at dksX6_tells_0 9 rfl rfl)
theorem dX6_tells_10 : decode cX6_tells 10 = .ok (.return_, 1) := dk_177 (dk_at dksX6_tells_0 10 rfl rfl)
theorem gespM_0_17_X6 {p : Program} {l : Launch} {e : Env} {R : Room} {s : State} {m : MethodId} {args : Array Value} {below : List Frame} {meth : Method} {c : Code} {cc : ByteArray} {nL : Nat} {ret : Option FieldType} {D : va_G} {E : List wCell} {q : Nat → Nat} {ca : wCA} {A : Nat → Prop} {Q : State → Prop} {kc ks : Nat} {μ : wMem} {lv : List (Nat × Value)} {st : List Value} (pc : Nat) (C : wC p R s m args meth c cc "OnePassportModel" nL ret D vwCl (spM ++ E) q ca A) (hd : decode cc pc = .ok (.getfield 34, 3)) (k : wJ p l e R s m args below meth c nL D vwCl (spM ++ E) q ca A Q kc ks μ (pc + 3) lv (.ref (q 7) :: st)) : wJ p l e R s m args below meth c nL D vwCl (spM ++ E) q ca A Q kc ks μ pc lv (.ref (q 0) :: st) := wr_getR pc 17 C hd spM_0 rfl in_X6 (by decide) rfl q1416 k
theorem okX6_tells : wOkV yX6_tells cX6_tells 3 none 2 := ⟨q1592, qs70, q145, q1593, by decide, by decide, by decide +kernel⟩
def fX6_tells (N : Nat)  (a1 : Int32) (a2 : Int32) (μ : wMem) : Option wMem :=
  wG (ok_in ((28 : Int32) + a1) 35) (wLet (wSI μ 7 (Int32.toNatClampNeg ((28 : Int32) + a1)) a2) fun μ2 => some μ2)
set_option maxHeartbeats 4000000 in
set_option maxRecDepth 100000 in
theorem tX6_tells (l : Launch) {D : va_G} {E : List wCell} {q : Nat → Nat} {ca : wCA} (N : Nat)   (a1 : Int32) (a2 : Int32) (μ : wMem) (r0 : wMem) (hf : fX6_tells N  a1 a2 μ = some r0) : wMv l yX6_tells cX6_tells 3 none ({ frames := 0, cells := 0, slots := 0, locals := 0 } : Room) D vwCl (spM ++ E) q ca [.ref (q 0), .int a1, .int a2] μ r0 := by
  refine wMv_intro (by decide) (Nat.le_of_ble_eq_true rfl) ?_
  intro p e s m args below meth c A C
  unfold fX6_tells at hf
  refine wr_sub [(0, .ref (q 0)), (1, .int a1), (2, .int a2)] [0, 1, 2] rfl ?_
  refine wr_aload_n 0 C dX6_tells_0 0 rfl rfl ?_
  refine gespM_0_17_X6 1 C dX6_tells_1 ?_
  refine wr_bipush 4 C dX6_tells_4 (v := 28) rfl ?_
  refine wr_iload_n 6 C dX6_tells_6 1 rfl rfl ?_
  refine wr_iadd 7 C dX6_tells_7 ?_
  refine wr_iload_n 8 C dX6_tells_8 2 rfl rfl ?_
  obtain ⟨g1, hf⟩ := o_g hf
  obtain ⟨μ2, eμ2, hf⟩ := o_let hf
  refine wr_iast 9 C dX6_tells_9 spM_7 g1 eμ2 ?_
  exact wr_vret 10 C dX6_tells_10 ⟨Nat.zero_le _, Nat.zero_le _⟩ (Option.some.inj hf)
abbrev cX6_clears : ByteArray := prog_11_method_29_code
def yX6_clears : MethodName := ⟨RX6, "clears", "()V"⟩
def dkwX6_clears_1 : List UInt8 := [167, 255, 241, 177]
abbrev dktX6_clears_1 : List UInt8 := dkwX6_clears_1 ++ []
def dkwX6_clears_0 : List UInt8 := [42, 180, 0, 31, 7, 3, 79, 3, 60, 27, 16, 7, 162, 0, 15, 42, 27, 3, 182, 0, 193, 132, 1, 1]
abbrev dktX6_clears_0 : List UInt8 := dkwX6_clears_0 ++ dktX6_clears_1
theorem dksX6_clears_0 : cX6_clears.data.toList.drop 0 = dktX6_clears_0 := by decide +kernel
theorem dksX6_clears_1 : cX6_clears.data.toList.drop 24 = dktX6_clears_1 := dk_seg dksX6_clears_0 24 rfl rfl
theorem dX6_clears_0 : decode cX6_clears 0 = .ok (.aload_n 0, 1) := dk_42 (dk_at dksX6_clears_0 0 rfl rfl)
theorem dX6_clears_1 : decode cX6_clears 1 = .ok (.getfield 31, 3) := dk_180 0 31 (dk_at dksX6_clears_0 1 rfl rfl)
theorem dX6_clears_4 : decode cX6_clears 4 = .ok (.iconst 4, 1) := dk_7 (dk_at dksX6_clears_0 4 rfl rfl)
theorem dX6_clears_5 : decode cX6_clears 5 = .ok (.iconst 0, 1) := dk_3 (dk_at dksX6_clears_0 5 rfl rfl)
theorem dX6_clears_6 : decode cX6_clears 6 = .ok (.iastore, 1) := dk_79 (dk_at dksX6_clears_0 6 rfl rfl)
theorem dX6_clears_7 : decode cX6_clears 7 = .ok (.iconst 0, 1) := dk_3 (dk_at dksX6_clears_0 7 rfl rfl)
theorem dX6_clears_8 : decode cX6_clears 8 = .ok (.istore_n 1, 1) := dk_60 (dk_at dksX6_clears_0 8 rfl rfl)
theorem dX6_clears_9 : decode cX6_clears 9 = .ok (.iload_n 1, 1) := dk_27 (dk_at dksX6_clears_0 9 rfl rfl)
theorem dX6_clears_10 : decode cX6_clears 10 = .ok (.bipush 7, 2) := dk_16 7 (dk_at dksX6_clears_0 10 rfl rfl)
theorem dX6_clears_12 : decode cX6_clears 12 = .ok (.if_icmp .ge 15, 3) := dk_162 0 15 (dk_at dksX6_clears_0 12 rfl rfl)
theorem dX6_clears_15 : decode cX6_clears 15 = .ok (.aload_n 0, 1) := dk_42 (dk_at dksX6_clears_0 15 rfl rfl)
theorem dX6_clears_16 : decode cX6_clears 16 = .ok (.iload_n 1, 1) := dk_27 (dk_at dksX6_clears_0 16 rfl rfl)
theorem dX6_clears_17 : decode cX6_clears 17 = .ok (.iconst 0, 1) := dk_3 (dk_at dksX6_clears_0 17 rfl rfl)
theorem dX6_clears_18 : decode cX6_clears 18 = .ok (.invokevirtual 193, 3) := dk_182 0 193 (dk_at dksX6_clears_0 18 rfl rfl)
theorem dX6_clears_21 : decode cX6_clears 21 = .ok (.iinc 1 1, 3) := dk_132 1 1 (dk_at dksX6_clears_0 21 rfl rfl)
theorem dX6_clears_24 : decode cX6_clears 24 = .ok (.goto (-15), 3) := dk_167 255 241 (dk_at dksX6_clears_1 0 rfl rfl)
theorem dX6_clears_27 : decode cX6_clears 27 = .ok (.return_, 1) := dk_177 (dk_at dksX6_clears_1 3 rfl rfl)
theorem gespM_0_16_X6 {p : Program} {l : Launch} {e : Env} {R : Room} {s : State} {m : MethodId} {args : Array Value} {below : List Frame} {meth : Method} {c : Code} {cc : ByteArray} {nL : Nat} {ret : Option FieldType} {D : va_G} {E : List wCell} {q : Nat → Nat} {ca : wCA} {A : Nat → Prop} {Q : State → Prop} {kc ks : Nat} {μ : wMem} {lv : List (Nat × Value)} {st : List Value} (pc : Nat) (C : wC p R s m args meth c cc "OnePassportModel" nL ret D vwCl (spM ++ E) q ca A) (hd : decode cc pc = .ok (.getfield 31, 3)) (k : wJ p l e R s m args below meth c nL D vwCl (spM ++ E) q ca A Q kc ks μ (pc + 3) lv (.ref (q 6) :: st)) : wJ p l e R s m args below meth c nL D vwCl (spM ++ E) q ca A Q kc ks μ pc lv (.ref (q 0) :: st) := wr_getR pc 16 C hd spM_0 rfl in_X6 (by decide) rfl q1415 k
theorem okX6_clears : wOkV yX6_clears cX6_clears 2 none 0 := ⟨q1588, qs69, q145, q1589, by decide, by decide, by decide +kernel⟩
def gbX6_clears_9 (N : Nat)   (K : (wMem → Option wMem)) (rec : (Int32 → wMem → Option wMem)) (x1_ : Int32) (μ : wMem) : Option wMem :=
  if (7 : Int32) ≤ x1_ then K  μ else wBindV (fX6_tells N  x1_ 0 μ) fun μ5 => wLet (x1_ + 1 : Int32) fun x6 => rec x6 μ5
def gX6_clears_9 (N : Nat)   (K : (wMem → Option wMem)) : Nat → (Int32 → wMem → Option wMem)
  | 0 => fun _ _ => none
  | k + 1 => gbX6_clears_9 N   K (gX6_clears_9 N   K k)
set_option maxHeartbeats 4000000 in
set_option maxRecDepth 100000 in
theorem tX6_clears_9 {p : Program} {l : Launch} {e : Env} {s : State} {m : MethodId} {args : Array Value} {below : List Frame} {meth : Method} {c : Code} {D : va_G} {E : List wCell} {q : Nat → Nat} {ca : wCA} {A : Nat → Prop} (C : wC p ({ frames := 1, cells := 0, slots := 0, locals := 22 } : Room) s m args meth c cX6_clears yX6_clears.cls 2 none D vwCl (spM ++ E) q ca A) (N : Nat)    (K : (wMem → Option wMem)) (r0 : wMem) (hK : ∀  (μ : wMem), K  μ = some r0 → wJ p l e ({ frames := 1, cells := 0, slots := 0, locals := 22 } : Room) s m args below meth c 2 D vwCl (spM ++ E) q ca A (wQv ({ frames := 1, cells := 0, slots := 0, locals := 22 } : Room) D vwCl (spM ++ E) q ca below args s A r0) 0 0 μ 27 [] []) : ∀ (k : Nat) (x1_ : Int32) (μ : wMem), gX6_clears_9 N   K k x1_ μ = some r0 → wJ p l e ({ frames := 1, cells := 0, slots := 0, locals := 22 } : Room) s m args below meth c 2 D vwCl (spM ++ E) q ca A (wQv ({ frames := 1, cells := 0, slots := 0, locals := 22 } : Room) D vwCl (spM ++ E) q ca below args s A r0) 0 0 μ 9 [(0, .ref (q 0)), (1, .int x1_)] [] := by
  intro k
  induction k with
  | zero =>
    intro x1_ μ hf
    cases hf
  | succ k ih =>
    intro x1_ μ hf
    replace hf : gbX6_clears_9 N   K (gX6_clears_9 N   K k) x1_ μ = some r0 := hf
    unfold gbX6_clears_9 at hf
    refine wr_iload_n 9 C dX6_clears_9 1 rfl rfl ?_
    refine wr_bipush 10 C dX6_clears_10 (v := 7) rfl ?_
    refine wr_icmp_ge 12 27 C dX6_clears_12 (by decide) (fun c3 => ?_) (fun c3 => ?_)
    · replace hf := o_pos c3 hf
      refine wr_sub [] [] rfl ?_
      exact hK  μ hf
    · replace hf := o_neg c3 hf
      refine wr_aload_n 15 C dX6_clears_15 0 rfl rfl ?_
      refine wr_iload_n 16 C dX6_clears_16 1 rfl rfl ?_
      refine wr_iconst 17 C dX6_clears_17 (v := 0) rfl ?_
      obtain ⟨μ5, h4, hf⟩ := o_bindV hf
      refine wr_Vv (kc1 := 0) (ks1 := 0) 18 [] C dX6_clears_18 (tX6_tells l N   x1_ 0 μ μ5 h4) okX6_tells q1590 (b := 0) spM_0 rfl ⟨rfl, rfl, Nat.le_of_ble_eq_true rfl, Nat.le_of_ble_eq_true rfl, Nat.zero_le _, Nat.zero_le _⟩ (Nat.le_of_ble_eq_true rfl) rfl ?_
      obtain ⟨x6, ex6, hf⟩ := o_let hf
      refine wr_iinc 21 [(1, .int x6), (0, .ref (q 0))] C dX6_clears_21 1 rfl (ex6.trans rfl) (Nat.le_of_ble_eq_true rfl) rfl ?_
      refine wr_goto 24 C dX6_clears_24 (tgt := 9) (by decide) ?_
      refine wr_sub [(0, .ref (q 0)), (1, .int x6)] [1, 0] rfl ?_
      exact ih x6 μ5 hf
def fX6_clears (N : Nat)   (μ : wMem) : Option wMem :=
  wG (ok_in (4 : Int32) 5) (wLet (wSI μ 6 (Int32.toNatClampNeg (4 : Int32)) (0 : Int32)) fun μ2 => gX6_clears_9 N   (fun  (μ7 : wMem) => some μ7) N 0 μ2)
set_option maxHeartbeats 4000000 in
set_option maxRecDepth 100000 in
theorem tX6_clears (l : Launch) {D : va_G} {E : List wCell} {q : Nat → Nat} {ca : wCA} (N : Nat)    (μ : wMem) (r0 : wMem) (hf : fX6_clears N   μ = some r0) : wMv l yX6_clears cX6_clears 2 none ({ frames := 1, cells := 0, slots := 0, locals := 22 } : Room) D vwCl (spM ++ E) q ca [.ref (q 0)] μ r0 := by
  refine wMv_intro (by decide) (Nat.le_of_ble_eq_true rfl) ?_
  intro p e s m args below meth c A C
  unfold fX6_clears at hf
  refine wr_sub [(0, .ref (q 0))] [0] rfl ?_
  refine wr_aload_n 0 C dX6_clears_0 0 rfl rfl ?_
  refine gespM_0_16_X6 1 C dX6_clears_1 ?_
  refine wr_iconst 4 C dX6_clears_4 (v := 4) rfl ?_
  refine wr_iconst 5 C dX6_clears_5 (v := 0) rfl ?_
  obtain ⟨g1, hf⟩ := o_g hf
  obtain ⟨μ2, eμ2, hf⟩ := o_let hf
  refine wr_iast 6 C dX6_clears_6 spM_6 g1 eμ2 ?_
  refine wr_iconst 7 C dX6_clears_7 (v := 0) rfl ?_
  refine wr_istore_n 8 [(1, .int 0), (0, .ref (q 0))] C dX6_clears_8 rfl rfl (Nat.le_of_ble_eq_true rfl) rfl ?_
  refine wr_sub [(0, .ref (q 0)), (1, .int 0)] [1, 0] rfl ?_
  refine tX6_clears_9 C N    _ r0 (fun  μ7 hf => ?_) N 0 μ2 hf
  · replace hf := hf
    exact wr_vret 27 C dX6_clears_27 ⟨Nat.zero_le _, Nat.zero_le _⟩ (Option.some.inj hf)
abbrev cX6_isByte : ByteArray := prog_11_method_12_code
def yX6_isByte : MethodName := ⟨RX6, "isByte", "(III)Z"⟩
def dkwX6_isByte_1 : List UInt8 := [29, 163, 0, 7, 4, 167, 0, 4, 3, 172]
abbrev dktX6_isByte_1 : List UInt8 := dkwX6_isByte_1 ++ []
def dkwX6_isByte_0 : List UInt8 := [27, 42, 180, 0, 105, 162, 0, 27, 42, 180, 0, 23, 27, 51, 28, 161, 0, 17, 42, 180, 0, 23, 27, 51]
abbrev dktX6_isByte_0 : List UInt8 := dkwX6_isByte_0 ++ dktX6_isByte_1
theorem dksX6_isByte_0 : cX6_isByte.data.toList.drop 0 = dktX6_isByte_0 := by decide +kernel
theorem dksX6_isByte_1 : cX6_isByte.data.toList.drop 24 = dktX6_isByte_1 := dk_seg dksX6_isByte_0 24 rfl rfl
theorem dX6_isByte_0 : decode cX6_isByte 0 = .ok (.iload_n 1, 1) := dk_27 (dk_at dksX6_isByte_0 0 rfl rfl)
theorem dX6_isByte_1 : decode cX6_isByte 1 = .ok (.aload_n 0, 1) := dk_42 (dk_at dksX6_isByte_0 1 rfl rfl)
theorem dX6_isByte_2 : decode cX6_isByte 2 = .ok (.getfield 105, 3) := dk_180 0 105 (dk_at dksX6_isByte_0 2 rfl rfl)
theorem dX6_isByte_5 : decode cX6_isByte 5 = .ok (.if_icmp .ge 27, 3) := dk_162 0 27 (dk_at dksX6_isByte_0 5 rfl rfl)
theorem dX6_isByte_8 : decode cX6_isByte 8 = .ok (.aload_n 0, 1) := dk_42 (dk_at dksX6_isByte_0 8 rfl rfl)
theorem dX6_isByte_9 : decode cX6_isByte 9 = .ok (.getfield 23, 3) := dk_180 0 23 (dk_at dksX6_isByte_0 9 rfl rfl)
theorem dX6_isByte_12 : decode cX6_isByte 12 = .ok (.iload_n 1, 1) := dk_27 (dk_at dksX6_isByte_0 12 rfl rfl)
theorem dX6_isByte_13 : decode cX6_isByte 13 = .ok (.baload, 1) := dk_51 (dk_at dksX6_isByte_0 13 rfl rfl)
theorem dX6_isByte_14 : decode cX6_isByte 14 = .ok (.iload_n 2, 1) := dk_28 (dk_at dksX6_isByte_0 14 rfl rfl)
theorem dX6_isByte_15 : decode cX6_isByte 15 = .ok (.if_icmp .lt 17, 3) := dk_161 0 17 (dk_at dksX6_isByte_0 15 rfl rfl)
theorem dX6_isByte_18 : decode cX6_isByte 18 = .ok (.aload_n 0, 1) := dk_42 (dk_at dksX6_isByte_0 18 rfl rfl)
theorem dX6_isByte_19 : decode cX6_isByte 19 = .ok (.getfield 23, 3) := dk_180 0 23 (dk_at dksX6_isByte_0 19 rfl rfl)
theorem dX6_isByte_22 : decode cX6_isByte 22 = .ok (.iload_n 1, 1) := dk_27 (dk_at dksX6_isByte_0 22 rfl rfl)
theorem dX6_isByte_23 : decode cX6_isByte 23 = .ok (.baload, 1) := dk_51 (dk_at dksX6_isByte_0 23 rfl rfl)
theorem dX6_isByte_24 : decode cX6_isByte 24 = .ok (.iload_n 3, 1) := dk_29 (dk_at dksX6_isByte_1 0 rfl rfl)
theorem dX6_isByte_25 : decode cX6_isByte 25 = .ok (.if_icmp .gt 7, 3) := dk_163 0 7 (dk_at dksX6_isByte_1 1 rfl rfl)
theorem dX6_isByte_28 : decode cX6_isByte 28 = .ok (.iconst 1, 1) := dk_4 (dk_at dksX6_isByte_1 4 rfl rfl)
theorem dX6_isByte_29 : decode cX6_isByte 29 = .ok (.goto 4, 3) := dk_167 0 4 (dk_at dksX6_isByte_1 5 rfl rfl)
theorem dX6_isByte_32 : decode cX6_isByte 32 = .ok (.iconst 0, 1) := dk_3 (dk_at dksX6_isByte_1 8 rfl rfl)
theorem dX6_isByte_33 : decode cX6_isByte 33 = .ok (.ireturn, 1) := dk_172 (dk_at dksX6_isByte_1 9 rfl rfl)

theorem okX6_isByte : wOkV yX6_isByte cX6_isByte 4 (some .boolean) 3 := ⟨q1604, qs73, q145, q1605, by decide, by decide, by decide +kernel⟩
def fX6_isByte (N : Nat)  (a1 : Int32) (a2 : Int32) (a3 : Int32) (μ : wMem) : Option (Int32 × wMem) :=
  if (μ.1 0 6) ≤ a1 then some (0, μ) else wG (ok_in a1 600) (if (μ.1 5 (Int32.toNatClampNeg a1)) < a2 then some (0, μ) else wG (ok_in a1 600) (if a3 < (μ.1 5 (Int32.toNatClampNeg a1)) then some (0, μ) else some (1, μ)))
set_option maxHeartbeats 4000000 in
set_option maxRecDepth 100000 in
theorem tX6_isByte (l : Launch) {D : va_G} {E : List wCell} {q : Nat → Nat} {ca : wCA} (N : Nat)   (a1 : Int32) (a2 : Int32) (a3 : Int32) (μ : wMem) (r0 : (Int32 × wMem)) (hf : fX6_isByte N  a1 a2 a3 μ = some r0) : wMi l yX6_isByte cX6_isByte 4 (some .boolean) ({ frames := 0, cells := 0, slots := 0, locals := 0 } : Room) D vwCl (spM ++ E) q ca [.ref (q 0), .int a1, .int a2, .int a3] μ r0 := by
  refine wMi_intro (by decide) (Nat.le_of_ble_eq_true rfl) ?_
  intro p e s m args below meth c A C
  unfold fX6_isByte at hf
  refine wr_sub [(0, .ref (q 0)), (1, .int a1), (2, .int a2), (3, .int a3)] [0, 1, 2, 3] rfl ?_
  refine wr_iload_n 0 C dX6_isByte_0 1 rfl rfl ?_
  refine wr_aload_n 1 C dX6_isByte_1 0 rfl rfl ?_
  refine gespM_0_6_X6 2 C dX6_isByte_2 ?_
  refine wr_icmp_ge 5 32 C dX6_isByte_5 (by decide) (fun c1 => ?_) (fun c1 => ?_)
  · replace hf := o_pos c1 hf
    refine wr_iconst 32 C dX6_isByte_32 (v := 0) rfl ?_
    exact wr_zret 33 C dX6_isByte_33 rfl ⟨Nat.zero_le _, Nat.zero_le _⟩ (Option.some.inj hf)
  · replace hf := o_neg c1 hf
    refine wr_aload_n 8 C dX6_isByte_8 0 rfl rfl ?_
    refine gespM_0_5_X6 9 C dX6_isByte_9 ?_
    refine wr_iload_n 12 C dX6_isByte_12 1 rfl rfl ?_
    obtain ⟨g2, hf⟩ := o_g hf
    refine wr_bald 13 C dX6_isByte_13 spM_5 g2 ?_
    refine wr_iload_n 14 C dX6_isByte_14 2 rfl rfl ?_
    refine wr_icmp_lt 15 32 C dX6_isByte_15 (by decide) (fun c3 => ?_) (fun c3 => ?_)
    · replace hf := o_pos c3 hf
      refine wr_iconst 32 C dX6_isByte_32 (v := 0) rfl ?_
      exact wr_zret 33 C dX6_isByte_33 rfl ⟨Nat.zero_le _, Nat.zero_le _⟩ (Option.some.inj hf)
    · replace hf := o_neg c3 hf
      refine wr_aload_n 18 C dX6_isByte_18 0 rfl rfl ?_
      refine gespM_0_5_X6 19 C dX6_isByte_19 ?_
      refine wr_iload_n 22 C dX6_isByte_22 1 rfl rfl ?_
      obtain ⟨g4, hf⟩ := o_g hf
      refine wr_bald 23 C dX6_isByte_23 spM_5 g4 ?_
      refine wr_iload_n 24 C dX6_isByte_24 3 rfl rfl ?_
      refine wr_icmp_gt 25 32 C dX6_isByte_25 (by decide) (fun c5 => ?_) (fun c5 => ?_)
      · replace hf := o_pos c5 hf
        refine wr_iconst 32 C dX6_isByte_32 (v := 0) rfl ?_
        exact wr_zret 33 C dX6_isByte_33 rfl ⟨Nat.zero_le _, Nat.zero_le _⟩ (Option.some.inj hf)
      · replace hf := o_neg c5 hf
        refine wr_iconst 28 C dX6_isByte_28 (v := 1) rfl ?_
        refine wr_goto 29 C dX6_isByte_29 (tgt := 33) (by decide) ?_
        exact wr_zret 33 C dX6_isByte_33 rfl ⟨Nat.zero_le _, Nat.zero_le _⟩ (Option.some.inj hf)
abbrev cX6_next : ByteArray := prog_11_method_13_code
def yX6_next : MethodName := ⟨RX6, "next", "()V"⟩
def dkwX6_next_13 : List UInt8 := [181, 0, 112, 177]
abbrev dktX6_next_13 : List UInt8 := dkwX6_next_13 ++ []
def dkwX6_next_12 : List UInt8 := [180, 0, 112, 51, 16, 59, 160, 0, 7, 6, 167, 0, 4, 7, 181, 0, 129, 42, 89, 180, 0, 112, 4, 96]
abbrev dktX6_next_12 : List UInt8 := dkwX6_next_12 ++ dktX6_next_13
def dkwX6_next_11 : List UInt8 := [181, 0, 122, 42, 89, 180, 0, 112, 4, 96, 181, 0, 112, 167, 255, 193, 42, 42, 180, 0, 23, 42]
abbrev dktX6_next_11 : List UInt8 := dkwX6_next_11 ++ dktX6_next_12
def dkwX6_next_10 : List UInt8 := [167, 0, 23, 16, 10, 42, 180, 0, 122, 104, 42, 180, 0, 23, 42, 180, 0, 112, 51, 96, 16, 48, 100]
abbrev dktX6_next_10 : List UInt8 := dkwX6_next_10 ++ dktX6_next_11
def dkwX6_next_9 : List UInt8 := [16, 48, 16, 57, 182, 0, 115, 153, 0, 87, 42, 42, 180, 0, 122, 18, 138, 164, 0, 8, 18, 139]
abbrev dktX6_next_9 : List UInt8 := dkwX6_next_9 ++ dktX6_next_10
def dkwX6_next_8 : List UInt8 := [180, 0, 112, 16, 48, 16, 57, 182, 0, 115, 153, 0, 74, 42, 5, 181, 0, 129, 42, 42, 180, 0, 112]
abbrev dktX6_next_8 : List UInt8 := dkwX6_next_8 ++ dktX6_next_9
def dkwX6_next_7 : List UInt8 := [181, 0, 125, 42, 89, 180, 0, 112, 4, 96, 181, 0, 112, 132, 1, 1, 167, 255, 176, 167, 0, 122, 42, 42]
abbrev dktX6_next_7 : List UInt8 := dkwX6_next_7 ++ dktX6_next_8
def dkwX6_next_6 : List UInt8 := [180, 0, 112, 51, 133, 97, 20, 0, 136, 101, 181, 0, 125, 27, 16, 11, 164, 0, 10, 42, 20, 0, 132]
abbrev dktX6_next_6 : List UInt8 := dkwX6_next_6 ++ dktX6_next_7
def dkwX6_next_5 : List UInt8 := [16, 11, 164, 0, 9, 20, 0, 132, 167, 0, 26, 20, 0, 134, 42, 180, 0, 125, 105, 42, 180, 0, 23, 42]
abbrev dktX6_next_5 : List UInt8 := dkwX6_next_5 ++ dktX6_next_6
def dkwX6_next_4 : List UInt8 := [4, 181, 0, 129, 3, 60, 42, 42, 180, 0, 112, 16, 97, 16, 122, 182, 0, 115, 153, 0, 71, 42, 27]
abbrev dktX6_next_4 : List UInt8 := dkwX6_next_4 ++ dktX6_next_5
def dkwX6_next_3 : List UInt8 := [42, 3, 181, 0, 129, 167, 0, 230, 42, 42, 180, 0, 112, 16, 97, 16, 122, 182, 0, 115, 153, 0, 96, 42]
abbrev dktX6_next_3 : List UInt8 := dkwX6_next_3 ++ dktX6_next_4
def dkwX6_next_2 : List UInt8 := [181, 0, 119, 42, 3, 181, 0, 122, 42, 9, 181, 0, 125, 42, 180, 0, 112, 42, 180, 0, 105, 160, 0, 11]
abbrev dktX6_next_2 : List UInt8 := dkwX6_next_2 ++ dktX6_next_3
def dkwX6_next_1 : List UInt8 := [182, 0, 115, 153, 0, 16, 42, 89, 180, 0, 112, 4, 96, 181, 0, 112, 167, 255, 216, 42, 42, 180, 0, 112]
abbrev dktX6_next_1 : List UInt8 := dkwX6_next_1 ++ dktX6_next_2
def dkwX6_next_0 : List UInt8 := [42, 42, 180, 0, 112, 16, 32, 16, 32, 182, 0, 115, 154, 0, 18, 42, 42, 180, 0, 112, 16, 10, 16, 10]
abbrev dktX6_next_0 : List UInt8 := dkwX6_next_0 ++ dktX6_next_1
theorem dksX6_next_0 : cX6_next.data.toList.drop 0 = dktX6_next_0 := by decide +kernel
theorem dksX6_next_1 : cX6_next.data.toList.drop 24 = dktX6_next_1 := dk_seg dksX6_next_0 24 rfl rfl
theorem dksX6_next_2 : cX6_next.data.toList.drop 48 = dktX6_next_2 := dk_seg dksX6_next_1 24 rfl rfl
theorem dksX6_next_3 : cX6_next.data.toList.drop 72 = dktX6_next_3 := dk_seg dksX6_next_2 24 rfl rfl
theorem dksX6_next_4 : cX6_next.data.toList.drop 96 = dktX6_next_4 := dk_seg dksX6_next_3 24 rfl rfl
theorem dksX6_next_5 : cX6_next.data.toList.drop 119 = dktX6_next_5 := dk_seg dksX6_next_4 23 rfl rfl
theorem dksX6_next_6 : cX6_next.data.toList.drop 143 = dktX6_next_6 := dk_seg dksX6_next_5 24 rfl rfl
theorem dksX6_next_7 : cX6_next.data.toList.drop 166 = dktX6_next_7 := dk_seg dksX6_next_6 23 rfl rfl
theorem dksX6_next_8 : cX6_next.data.toList.drop 190 = dktX6_next_8 := dk_seg dksX6_next_7 24 rfl rfl
theorem dksX6_next_9 : cX6_next.data.toList.drop 213 = dktX6_next_9 := dk_seg dksX6_next_8 23 rfl rfl
theorem dksX6_next_10 : cX6_next.data.toList.drop 235 = dktX6_next_10 := dk_seg dksX6_next_9 22 rfl rfl
theorem dksX6_next_11 : cX6_next.data.toList.drop 258 = dktX6_next_11 := dk_seg dksX6_next_10 23 rfl rfl
theorem dksX6_next_12 : cX6_next.data.toList.drop 280 = dktX6_next_12 := dk_seg dksX6_next_11 22 rfl rfl
theorem dksX6_next_13 : cX6_next.data.toList.drop 304 = dktX6_next_13 := dk_seg dksX6_next_12 24 rfl rfl
theorem dX6_next_0 : decode cX6_next 0 = .ok (.aload_n 0, 1) := dk_42 (dk_at dksX6_next_0 0 rfl rfl)
theorem dX6_next_1 : decode cX6_next 1 = .ok (.aload_n 0, 1) := dk_42 (dk_at dksX6_next_0 1 rfl rfl)
theorem dX6_next_2 : decode cX6_next 2 = .ok (.getfield 112, 3) := dk_180 0 112 (dk_at dksX6_next_0 2 rfl rfl)
theorem dX6_next_5 : decode cX6_next 5 = .ok (.bipush 32, 2) := dk_16 32 (dk_at dksX6_next_0 5 rfl rfl)
theorem dX6_next_7 : decode cX6_next 7 = .ok (.bipush 32, 2) := dk_16 32 (dk_at dksX6_next_0 7 rfl rfl)
theorem dX6_next_9 : decode cX6_next 9 = .ok (.invokevirtual 115, 3) := dk_182 0 115 (dk_at dksX6_next_0 9 rfl rfl)
theorem dX6_next_12 : decode cX6_next 12 = .ok (.ifCond .ne 18, 3) := dk_154 0 18 (dk_at dksX6_next_0 12 rfl rfl)
theorem dX6_next_15 : decode cX6_next 15 = .ok (.aload_n 0, 1) := dk_42 (dk_at dksX6_next_0 15 rfl rfl)
theorem dX6_next_16 : decode cX6_next 16 = .ok (.aload_n 0, 1) := dk_42 (dk_at dksX6_next_0 16 rfl rfl)
theorem dX6_next_17 : decode cX6_next 17 = .ok (.getfield 112, 3) := dk_180 0 112 (dk_at dksX6_next_0 17 rfl rfl)
theorem dX6_next_20 : decode cX6_next 20 = .ok (.bipush 10, 2) := dk_16 10 (dk_at dksX6_next_0 20 rfl rfl)
theorem dX6_next_22 : decode cX6_next 22 = .ok (.bipush 10, 2) := dk_16 10 (dk_at dksX6_next_0 22 rfl rfl)
theorem dX6_next_24 : decode cX6_next 24 = .ok (.invokevirtual 115, 3) := dk_182 0 115 (dk_at dksX6_next_1 0 rfl rfl)
theorem dX6_next_27 : decode cX6_next 27 = .ok (.ifCond .eq 16, 3) := dk_153 0 16 (dk_at dksX6_next_1 3 rfl rfl)
theorem dX6_next_30 : decode cX6_next 30 = .ok (.aload_n 0, 1) := dk_42 (dk_at dksX6_next_1 6 rfl rfl)
theorem dX6_next_31 : decode cX6_next 31 = .ok (.dup, 1) := dk_89 (dk_at dksX6_next_1 7 rfl rfl)
theorem dX6_next_32 : decode cX6_next 32 = .ok (.getfield 112, 3) := dk_180 0 112 (dk_at dksX6_next_1 8 rfl rfl)
theorem dX6_next_35 : decode cX6_next 35 = .ok (.iconst 1, 1) := dk_4 (dk_at dksX6_next_1 11 rfl rfl)
theorem dX6_next_36 : decode cX6_next 36 = .ok (.iadd, 1) := dk_96 (dk_at dksX6_next_1 12 rfl rfl)
theorem dX6_next_37 : decode cX6_next 37 = .ok (.putfield 112, 3) := dk_181 0 112 (dk_at dksX6_next_1 13 rfl rfl)
theorem dX6_next_40 : decode cX6_next 40 = .ok (.goto (-40), 3) := dk_167 255 216 (dk_at dksX6_next_1 16 rfl rfl)
theorem dX6_next_43 : decode cX6_next 43 = .ok (.aload_n 0, 1) := dk_42 (dk_at dksX6_next_1 19 rfl rfl)
theorem dX6_next_44 : decode cX6_next 44 = .ok (.aload_n 0, 1) := dk_42 (dk_at dksX6_next_1 20 rfl rfl)
theorem dX6_next_45 : decode cX6_next 45 = .ok (.getfield 112, 3) := dk_180 0 112 (dk_at dksX6_next_1 21 rfl rfl)
theorem dX6_next_48 : decode cX6_next 48 = .ok (.putfield 119, 3) := dk_181 0 119 (dk_at dksX6_next_2 0 rfl rfl)
theorem dX6_next_51 : decode cX6_next 51 = .ok (.aload_n 0, 1) := dk_42 (dk_at dksX6_next_2 3 rfl rfl)
theorem dX6_next_52 : decode cX6_next 52 = .ok (.iconst 0, 1) := dk_3 (dk_at dksX6_next_2 4 rfl rfl)
theorem dX6_next_53 : decode cX6_next 53 = .ok (.putfield 122, 3) := dk_181 0 122 (dk_at dksX6_next_2 5 rfl rfl)
theorem dX6_next_56 : decode cX6_next 56 = .ok (.aload_n 0, 1) := dk_42 (dk_at dksX6_next_2 8 rfl rfl)
theorem dX6_next_57 : decode cX6_next 57 = .ok (.lconst 0, 1) := dk_9 (dk_at dksX6_next_2 9 rfl rfl)
theorem dX6_next_58 : decode cX6_next 58 = .ok (.putfield 125, 3) := dk_181 0 125 (dk_at dksX6_next_2 10 rfl rfl)
theorem dX6_next_61 : decode cX6_next 61 = .ok (.aload_n 0, 1) := dk_42 (dk_at dksX6_next_2 13 rfl rfl)
theorem dX6_next_62 : decode cX6_next 62 = .ok (.getfield 112, 3) := dk_180 0 112 (dk_at dksX6_next_2 14 rfl rfl)
theorem dX6_next_65 : decode cX6_next 65 = .ok (.aload_n 0, 1) := dk_42 (dk_at dksX6_next_2 17 rfl rfl)
theorem dX6_next_66 : decode cX6_next 66 = .ok (.getfield 105, 3) := dk_180 0 105 (dk_at dksX6_next_2 18 rfl rfl)
theorem dX6_next_69 : decode cX6_next 69 = .ok (.if_icmp .ne 11, 3) := dk_160 0 11 (dk_at dksX6_next_2 21 rfl rfl)
theorem dX6_next_72 : decode cX6_next 72 = .ok (.aload_n 0, 1) := dk_42 (dk_at dksX6_next_3 0 rfl rfl)
theorem dX6_next_73 : decode cX6_next 73 = .ok (.iconst 0, 1) := dk_3 (dk_at dksX6_next_3 1 rfl rfl)
theorem dX6_next_74 : decode cX6_next 74 = .ok (.putfield 129, 3) := dk_181 0 129 (dk_at dksX6_next_3 2 rfl rfl)
theorem dX6_next_77 : decode cX6_next 77 = .ok (.goto 230, 3) := dk_167 0 230 (dk_at dksX6_next_3 5 rfl rfl)
theorem dX6_next_80 : decode cX6_next 80 = .ok (.aload_n 0, 1) := dk_42 (dk_at dksX6_next_3 8 rfl rfl)
theorem dX6_next_81 : decode cX6_next 81 = .ok (.aload_n 0, 1) := dk_42 (dk_at dksX6_next_3 9 rfl rfl)
theorem dX6_next_82 : decode cX6_next 82 = .ok (.getfield 112, 3) := dk_180 0 112 (dk_at dksX6_next_3 10 rfl rfl)
theorem dX6_next_85 : decode cX6_next 85 = .ok (.bipush 97, 2) := dk_16 97 (dk_at dksX6_next_3 13 rfl rfl)
theorem dX6_next_87 : decode cX6_next 87 = .ok (.bipush 122, 2) := dk_16 122 (dk_at dksX6_next_3 15 rfl rfl)
theorem dX6_next_89 : decode cX6_next 89 = .ok (.invokevirtual 115, 3) := dk_182 0 115 (dk_at dksX6_next_3 17 rfl rfl)
theorem dX6_next_92 : decode cX6_next 92 = .ok (.ifCond .eq 96, 3) := dk_153 0 96 (dk_at dksX6_next_3 20 rfl rfl)
theorem dX6_next_95 : decode cX6_next 95 = .ok (.aload_n 0, 1) := dk_42 (dk_at dksX6_next_3 23 rfl rfl)
theorem dX6_next_96 : decode cX6_next 96 = .ok (.iconst 1, 1) := dk_4 (dk_at dksX6_next_4 0 rfl rfl)
theorem dX6_next_97 : decode cX6_next 97 = .ok (.putfield 129, 3) := dk_181 0 129 (dk_at dksX6_next_4 1 rfl rfl)
theorem dX6_next_100 : decode cX6_next 100 = .ok (.iconst 0, 1) := dk_3 (dk_at dksX6_next_4 4 rfl rfl)
theorem dX6_next_101 : decode cX6_next 101 = .ok (.istore_n 1, 1) := dk_60 (dk_at dksX6_next_4 5 rfl rfl)
theorem dX6_next_102 : decode cX6_next 102 = .ok (.aload_n 0, 1) := dk_42 (dk_at dksX6_next_4 6 rfl rfl)
theorem dX6_next_103 : decode cX6_next 103 = .ok (.aload_n 0, 1) := dk_42 (dk_at dksX6_next_4 7 rfl rfl)
theorem dX6_next_104 : decode cX6_next 104 = .ok (.getfield 112, 3) := dk_180 0 112 (dk_at dksX6_next_4 8 rfl rfl)
theorem dX6_next_107 : decode cX6_next 107 = .ok (.bipush 97, 2) := dk_16 97 (dk_at dksX6_next_4 11 rfl rfl)
theorem dX6_next_109 : decode cX6_next 109 = .ok (.bipush 122, 2) := dk_16 122 (dk_at dksX6_next_4 13 rfl rfl)
theorem dX6_next_111 : decode cX6_next 111 = .ok (.invokevirtual 115, 3) := dk_182 0 115 (dk_at dksX6_next_4 15 rfl rfl)
theorem dX6_next_114 : decode cX6_next 114 = .ok (.ifCond .eq 71, 3) := dk_153 0 71 (dk_at dksX6_next_4 18 rfl rfl)
theorem dX6_next_117 : decode cX6_next 117 = .ok (.aload_n 0, 1) := dk_42 (dk_at dksX6_next_4 21 rfl rfl)
theorem dX6_next_118 : decode cX6_next 118 = .ok (.iload_n 1, 1) := dk_27 (dk_at dksX6_next_4 22 rfl rfl)
theorem dX6_next_119 : decode cX6_next 119 = .ok (.bipush 11, 2) := dk_16 11 (dk_at dksX6_next_5 0 rfl rfl)
theorem dX6_next_121 : decode cX6_next 121 = .ok (.if_icmp .le 9, 3) := dk_164 0 9 (dk_at dksX6_next_5 2 rfl rfl)
theorem dX6_next_124 : decode cX6_next 124 = .ok (.ldc2_w 132, 3) := dk_20 0 132 (dk_at dksX6_next_5 5 rfl rfl)
theorem dX6_next_127 : decode cX6_next 127 = .ok (.goto 26, 3) := dk_167 0 26 (dk_at dksX6_next_5 8 rfl rfl)
theorem dX6_next_130 : decode cX6_next 130 = .ok (.ldc2_w 134, 3) := dk_20 0 134 (dk_at dksX6_next_5 11 rfl rfl)
theorem dX6_next_133 : decode cX6_next 133 = .ok (.aload_n 0, 1) := dk_42 (dk_at dksX6_next_5 14 rfl rfl)
theorem dX6_next_134 : decode cX6_next 134 = .ok (.getfield 125, 3) := dk_180 0 125 (dk_at dksX6_next_5 15 rfl rfl)
theorem dX6_next_137 : decode cX6_next 137 = .ok (.lmul, 1) := dk_105 (dk_at dksX6_next_5 18 rfl rfl)
theorem dX6_next_138 : decode cX6_next 138 = .ok (.aload_n 0, 1) := dk_42 (dk_at dksX6_next_5 19 rfl rfl)
theorem dX6_next_139 : decode cX6_next 139 = .ok (.getfield 23, 3) := dk_180 0 23 (dk_at dksX6_next_5 20 rfl rfl)
theorem dX6_next_142 : decode cX6_next 142 = .ok (.aload_n 0, 1) := dk_42 (dk_at dksX6_next_5 23 rfl rfl)
theorem dX6_next_143 : decode cX6_next 143 = .ok (.getfield 112, 3) := dk_180 0 112 (dk_at dksX6_next_6 0 rfl rfl)
theorem dX6_next_146 : decode cX6_next 146 = .ok (.baload, 1) := dk_51 (dk_at dksX6_next_6 3 rfl rfl)
theorem dX6_next_147 : decode cX6_next 147 = .ok (.i2l, 1) := dk_133 (dk_at dksX6_next_6 4 rfl rfl)
theorem dX6_next_148 : decode cX6_next 148 = .ok (.ladd, 1) := dk_97 (dk_at dksX6_next_6 5 rfl rfl)
theorem dX6_next_149 : decode cX6_next 149 = .ok (.ldc2_w 136, 3) := dk_20 0 136 (dk_at dksX6_next_6 6 rfl rfl)
theorem dX6_next_152 : decode cX6_next 152 = .ok (.lsub, 1) := dk_101 (dk_at dksX6_next_6 9 rfl rfl)
theorem dX6_next_153 : decode cX6_next 153 = .ok (.putfield 125, 3) := dk_181 0 125 (dk_at dksX6_next_6 10 rfl rfl)
theorem dX6_next_156 : decode cX6_next 156 = .ok (.iload_n 1, 1) := dk_27 (dk_at dksX6_next_6 13 rfl rfl)
theorem dX6_next_157 : decode cX6_next 157 = .ok (.bipush 11, 2) := dk_16 11 (dk_at dksX6_next_6 14 rfl rfl)
theorem dX6_next_159 : decode cX6_next 159 = .ok (.if_icmp .le 10, 3) := dk_164 0 10 (dk_at dksX6_next_6 16 rfl rfl)
theorem dX6_next_162 : decode cX6_next 162 = .ok (.aload_n 0, 1) := dk_42 (dk_at dksX6_next_6 19 rfl rfl)
theorem dX6_next_163 : decode cX6_next 163 = .ok (.ldc2_w 132, 3) := dk_20 0 132 (dk_at dksX6_next_6 20 rfl rfl)
theorem dX6_next_166 : decode cX6_next 166 = .ok (.putfield 125, 3) := dk_181 0 125 (dk_at dksX6_next_7 0 rfl rfl)
theorem dX6_next_169 : decode cX6_next 169 = .ok (.aload_n 0, 1) := dk_42 (dk_at dksX6_next_7 3 rfl rfl)
theorem dX6_next_170 : decode cX6_next 170 = .ok (.dup, 1) := dk_89 (dk_at dksX6_next_7 4 rfl rfl)
theorem dX6_next_171 : decode cX6_next 171 = .ok (.getfield 112, 3) := dk_180 0 112 (dk_at dksX6_next_7 5 rfl rfl)
theorem dX6_next_174 : decode cX6_next 174 = .ok (.iconst 1, 1) := dk_4 (dk_at dksX6_next_7 8 rfl rfl)
theorem dX6_next_175 : decode cX6_next 175 = .ok (.iadd, 1) := dk_96 (dk_at dksX6_next_7 9 rfl rfl)
theorem dX6_next_176 : decode cX6_next 176 = .ok (.putfield 112, 3) := dk_181 0 112 (dk_at dksX6_next_7 10 rfl rfl)
theorem dX6_next_179 : decode cX6_next 179 = .ok (.iinc 1 1, 3) := dk_132 1 1 (dk_at dksX6_next_7 13 rfl rfl)
theorem dX6_next_182 : decode cX6_next 182 = .ok (.goto (-80), 3) := dk_167 255 176 (dk_at dksX6_next_7 16 rfl rfl)
theorem dX6_next_185 : decode cX6_next 185 = .ok (.goto 122, 3) := dk_167 0 122 (dk_at dksX6_next_7 19 rfl rfl)
theorem dX6_next_188 : decode cX6_next 188 = .ok (.aload_n 0, 1) := dk_42 (dk_at dksX6_next_7 22 rfl rfl)
theorem dX6_next_189 : decode cX6_next 189 = .ok (.aload_n 0, 1) := dk_42 (dk_at dksX6_next_7 23 rfl rfl)
theorem dX6_next_190 : decode cX6_next 190 = .ok (.getfield 112, 3) := dk_180 0 112 (dk_at dksX6_next_8 0 rfl rfl)
theorem dX6_next_193 : decode cX6_next 193 = .ok (.bipush 48, 2) := dk_16 48 (dk_at dksX6_next_8 3 rfl rfl)
theorem dX6_next_195 : decode cX6_next 195 = .ok (.bipush 57, 2) := dk_16 57 (dk_at dksX6_next_8 5 rfl rfl)
theorem dX6_next_197 : decode cX6_next 197 = .ok (.invokevirtual 115, 3) := dk_182 0 115 (dk_at dksX6_next_8 7 rfl rfl)
theorem dX6_next_200 : decode cX6_next 200 = .ok (.ifCond .eq 74, 3) := dk_153 0 74 (dk_at dksX6_next_8 10 rfl rfl)
theorem dX6_next_203 : decode cX6_next 203 = .ok (.aload_n 0, 1) := dk_42 (dk_at dksX6_next_8 13 rfl rfl)
theorem dX6_next_204 : decode cX6_next 204 = .ok (.iconst 2, 1) := dk_5 (dk_at dksX6_next_8 14 rfl rfl)
theorem dX6_next_205 : decode cX6_next 205 = .ok (.putfield 129, 3) := dk_181 0 129 (dk_at dksX6_next_8 15 rfl rfl)
theorem dX6_next_208 : decode cX6_next 208 = .ok (.aload_n 0, 1) := dk_42 (dk_at dksX6_next_8 18 rfl rfl)
theorem dX6_next_209 : decode cX6_next 209 = .ok (.aload_n 0, 1) := dk_42 (dk_at dksX6_next_8 19 rfl rfl)
theorem dX6_next_210 : decode cX6_next 210 = .ok (.getfield 112, 3) := dk_180 0 112 (dk_at dksX6_next_8 20 rfl rfl)
theorem dX6_next_213 : decode cX6_next 213 = .ok (.bipush 48, 2) := dk_16 48 (dk_at dksX6_next_9 0 rfl rfl)
theorem dX6_next_215 : decode cX6_next 215 = .ok (.bipush 57, 2) := dk_16 57 (dk_at dksX6_next_9 2 rfl rfl)
theorem dX6_next_217 : decode cX6_next 217 = .ok (.invokevirtual 115, 3) := dk_182 0 115 (dk_at dksX6_next_9 4 rfl rfl)
theorem dX6_next_220 : decode cX6_next 220 = .ok (.ifCond .eq 87, 3) := dk_153 0 87 (dk_at dksX6_next_9 7 rfl rfl)
theorem dX6_next_223 : decode cX6_next 223 = .ok (.aload_n 0, 1) := dk_42 (dk_at dksX6_next_9 10 rfl rfl)
theorem dX6_next_224 : decode cX6_next 224 = .ok (.aload_n 0, 1) := dk_42 (dk_at dksX6_next_9 11 rfl rfl)
theorem dX6_next_225 : decode cX6_next 225 = .ok (.getfield 122, 3) := dk_180 0 122 (dk_at dksX6_next_9 12 rfl rfl)
theorem dX6_next_228 : decode cX6_next 228 = .ok (.ldc 138, 2) := dk_18 138 (dk_at dksX6_next_9 15 rfl rfl)
theorem dX6_next_230 : decode cX6_next 230 = .ok (.if_icmp .le 8, 3) := dk_164 0 8 (dk_at dksX6_next_9 17 rfl rfl)
theorem dX6_next_233 : decode cX6_next 233 = .ok (.ldc 139, 2) := dk_18 139 (dk_at dksX6_next_9 20 rfl rfl)
theorem dX6_next_235 : decode cX6_next 235 = .ok (.goto 23, 3) := dk_167 0 23 (dk_at dksX6_next_10 0 rfl rfl)
theorem dX6_next_238 : decode cX6_next 238 = .ok (.bipush 10, 2) := dk_16 10 (dk_at dksX6_next_10 3 rfl rfl)
theorem dX6_next_240 : decode cX6_next 240 = .ok (.aload_n 0, 1) := dk_42 (dk_at dksX6_next_10 5 rfl rfl)
theorem dX6_next_241 : decode cX6_next 241 = .ok (.getfield 122, 3) := dk_180 0 122 (dk_at dksX6_next_10 6 rfl rfl)
theorem dX6_next_244 : decode cX6_next 244 = .ok (.imul, 1) := dk_104 (dk_at dksX6_next_10 9 rfl rfl)
theorem dX6_next_245 : decode cX6_next 245 = .ok (.aload_n 0, 1) := dk_42 (dk_at dksX6_next_10 10 rfl rfl)
theorem dX6_next_246 : decode cX6_next 246 = .ok (.getfield 23, 3) := dk_180 0 23 (dk_at dksX6_next_10 11 rfl rfl)
theorem dX6_next_249 : decode cX6_next 249 = .ok (.aload_n 0, 1) := dk_42 (dk_at dksX6_next_10 14 rfl rfl)
theorem dX6_next_250 : decode cX6_next 250 = .ok (.getfield 112, 3) := dk_180 0 112 (dk_at dksX6_next_10 15 rfl rfl)
theorem dX6_next_253 : decode cX6_next 253 = .ok (.baload, 1) := dk_51 (dk_at dksX6_next_10 18 rfl rfl)
theorem dX6_next_254 : decode cX6_next 254 = .ok (.iadd, 1) := dk_96 (dk_at dksX6_next_10 19 rfl rfl)
theorem dX6_next_255 : decode cX6_next 255 = .ok (.bipush 48, 2) := dk_16 48 (dk_at dksX6_next_10 20 rfl rfl)
theorem dX6_next_257 : decode cX6_next 257 = .ok (.isub, 1) := dk_100 (dk_at dksX6_next_10 22 rfl rfl)
theorem dX6_next_258 : decode cX6_next 258 = .ok (.putfield 122, 3) := dk_181 0 122 (dk_at dksX6_next_11 0 rfl rfl)
theorem dX6_next_261 : decode cX6_next 261 = .ok (.aload_n 0, 1) := dk_42 (dk_at dksX6_next_11 3 rfl rfl)
theorem dX6_next_262 : decode cX6_next 262 = .ok (.dup, 1) := dk_89 (dk_at dksX6_next_11 4 rfl rfl)
theorem dX6_next_263 : decode cX6_next 263 = .ok (.getfield 112, 3) := dk_180 0 112 (dk_at dksX6_next_11 5 rfl rfl)
theorem dX6_next_266 : decode cX6_next 266 = .ok (.iconst 1, 1) := dk_4 (dk_at dksX6_next_11 8 rfl rfl)
theorem dX6_next_267 : decode cX6_next 267 = .ok (.iadd, 1) := dk_96 (dk_at dksX6_next_11 9 rfl rfl)
theorem dX6_next_268 : decode cX6_next 268 = .ok (.putfield 112, 3) := dk_181 0 112 (dk_at dksX6_next_11 10 rfl rfl)
theorem dX6_next_271 : decode cX6_next 271 = .ok (.goto (-63), 3) := dk_167 255 193 (dk_at dksX6_next_11 13 rfl rfl)
theorem dX6_next_274 : decode cX6_next 274 = .ok (.aload_n 0, 1) := dk_42 (dk_at dksX6_next_11 16 rfl rfl)
theorem dX6_next_275 : decode cX6_next 275 = .ok (.aload_n 0, 1) := dk_42 (dk_at dksX6_next_11 17 rfl rfl)
theorem dX6_next_276 : decode cX6_next 276 = .ok (.getfield 23, 3) := dk_180 0 23 (dk_at dksX6_next_11 18 rfl rfl)
theorem dX6_next_279 : decode cX6_next 279 = .ok (.aload_n 0, 1) := dk_42 (dk_at dksX6_next_11 21 rfl rfl)
theorem dX6_next_280 : decode cX6_next 280 = .ok (.getfield 112, 3) := dk_180 0 112 (dk_at dksX6_next_12 0 rfl rfl)
theorem dX6_next_283 : decode cX6_next 283 = .ok (.baload, 1) := dk_51 (dk_at dksX6_next_12 3 rfl rfl)
theorem dX6_next_284 : decode cX6_next 284 = .ok (.bipush 59, 2) := dk_16 59 (dk_at dksX6_next_12 4 rfl rfl)
theorem dX6_next_286 : decode cX6_next 286 = .ok (.if_icmp .ne 7, 3) := dk_160 0 7 (dk_at dksX6_next_12 6 rfl rfl)
theorem dX6_next_289 : decode cX6_next 289 = .ok (.iconst 3, 1) := dk_6 (dk_at dksX6_next_12 9 rfl rfl)
theorem dX6_next_290 : decode cX6_next 290 = .ok (.goto 4, 3) := dk_167 0 4 (dk_at dksX6_next_12 10 rfl rfl)
theorem dX6_next_293 : decode cX6_next 293 = .ok (.iconst 4, 1) := dk_7 (dk_at dksX6_next_12 13 rfl rfl)
theorem dX6_next_294 : decode cX6_next 294 = .ok (.putfield 129, 3) := dk_181 0 129 (dk_at dksX6_next_12 14 rfl rfl)
theorem dX6_next_297 : decode cX6_next 297 = .ok (.aload_n 0, 1) := dk_42 (dk_at dksX6_next_12 17 rfl rfl)
theorem dX6_next_298 : decode cX6_next 298 = .ok (.dup, 1) := dk_89 (dk_at dksX6_next_12 18 rfl rfl)
theorem dX6_next_299 : decode cX6_next 299 = .ok (.getfield 112, 3) := dk_180 0 112 (dk_at dksX6_next_12 19 rfl rfl)
theorem dX6_next_302 : decode cX6_next 302 = .ok (.iconst 1, 1) := dk_4 (dk_at dksX6_next_12 22 rfl rfl)
theorem dX6_next_303 : decode cX6_next 303 = .ok (.iadd, 1) := dk_96 (dk_at dksX6_next_12 23 rfl rfl)
theorem dX6_next_304 : decode cX6_next 304 = .ok (.putfield 112, 3) := dk_181 0 112 (dk_at dksX6_next_13 0 rfl rfl)
theorem dX6_next_307 : decode cX6_next 307 = .ok (.return_, 1) := dk_177 (dk_at dksX6_next_13 3 rfl rfl)
theorem gespM_0_7_X6 {p : Program} {l : Launch} {e : Env} {R : Room} {s : State} {m : MethodId} {args : Array Value} {below : List Frame} {meth : Method} {c : Code} {cc : ByteArray} {nL : Nat} {ret : Option FieldType} {D : va_G} {E : List wCell} {q : Nat → Nat} {ca : wCA} {A : Nat → Prop} {Q : State → Prop} {kc ks : Nat} {μ : wMem} {lv : List (Nat × Value)} {st : List Value} (pc : Nat) (C : wC p R s m args meth c cc "OnePassportModel" nL ret D vwCl (spM ++ E) q ca A) (hd : decode cc pc = .ok (.getfield 112, 3)) (k : wJ p l e R s m args below meth c nL D vwCl (spM ++ E) q ca A Q kc ks μ (pc + 3) lv (.int (μ.1 0 7) :: st)) : wJ p l e R s m args below meth c nL D vwCl (spM ++ E) q ca A Q kc ks μ pc lv (.ref (q 0) :: st) := wr_getI pc 7 C hd spM_0 rfl in_X6 (by decide) rfl q1406 k
theorem puspM_0_7_X6 {p : Program} {l : Launch} {e : Env} {R : Room} {s : State} {m : MethodId} {args : Array Value} {below : List Frame} {meth : Method} {c : Code} {cc : ByteArray} {nL : Nat} {ret : Option FieldType} {D : va_G} {E : List wCell} {q : Nat → Nat} {ca : wCA} {A : Nat → Prop} {Q : State → Prop} {kc ks : Nat} {μ : wMem} {lv : List (Nat × Value)} {st : List Value} {v : Int32} {μ1 : wMem} (pc : Nat) (C : wC p R s m args meth c cc "OnePassportModel" nL ret D vwCl (spM ++ E) q ca A) (hd : decode cc pc = .ok (.putfield 112, 3)) (hμ : μ1 = wSI μ 0 7 v) (k : wJ p l e R s m args below meth c nL D vwCl (spM ++ E) q ca A Q kc ks μ1 (pc + 3) lv st) : wJ p l e R s m args below meth c nL D vwCl (spM ++ E) q ca A Q kc ks μ pc lv (.int v :: .ref (q 0) :: st) := wr_putI pc 7 C hd spM_0 rfl in_X6 tyX6 tyX6_ok nmX6 (by decide) rfl q1406 rfl rfl hμ k
theorem puspM_0_8_X6 {p : Program} {l : Launch} {e : Env} {R : Room} {s : State} {m : MethodId} {args : Array Value} {below : List Frame} {meth : Method} {c : Code} {cc : ByteArray} {nL : Nat} {ret : Option FieldType} {D : va_G} {E : List wCell} {q : Nat → Nat} {ca : wCA} {A : Nat → Prop} {Q : State → Prop} {kc ks : Nat} {μ : wMem} {lv : List (Nat × Value)} {st : List Value} {v : Int32} {μ1 : wMem} (pc : Nat) (C : wC p R s m args meth c cc "OnePassportModel" nL ret D vwCl (spM ++ E) q ca A) (hd : decode cc pc = .ok (.putfield 129, 3)) (hμ : μ1 = wSI μ 0 8 v) (k : wJ p l e R s m args below meth c nL D vwCl (spM ++ E) q ca A Q kc ks μ1 (pc + 3) lv st) : wJ p l e R s m args below meth c nL D vwCl (spM ++ E) q ca A Q kc ks μ pc lv (.int v :: .ref (q 0) :: st) := wr_putI pc 8 C hd spM_0 rfl in_X6 tyX6 tyX6_ok nmX6 (by decide) rfl q1407 rfl rfl hμ k
theorem puspM_0_9_X6 {p : Program} {l : Launch} {e : Env} {R : Room} {s : State} {m : MethodId} {args : Array Value} {below : List Frame} {meth : Method} {c : Code} {cc : ByteArray} {nL : Nat} {ret : Option FieldType} {D : va_G} {E : List wCell} {q : Nat → Nat} {ca : wCA} {A : Nat → Prop} {Q : State → Prop} {kc ks : Nat} {μ : wMem} {lv : List (Nat × Value)} {st : List Value} {v : Int32} {μ1 : wMem} (pc : Nat) (C : wC p R s m args meth c cc "OnePassportModel" nL ret D vwCl (spM ++ E) q ca A) (hd : decode cc pc = .ok (.putfield 119, 3)) (hμ : μ1 = wSI μ 0 9 v) (k : wJ p l e R s m args below meth c nL D vwCl (spM ++ E) q ca A Q kc ks μ1 (pc + 3) lv st) : wJ p l e R s m args below meth c nL D vwCl (spM ++ E) q ca A Q kc ks μ pc lv (.int v :: .ref (q 0) :: st) := wr_putI pc 9 C hd spM_0 rfl in_X6 tyX6 tyX6_ok nmX6 (by decide) rfl q1408 rfl rfl hμ k
theorem gespM_0_10_X6 {p : Program} {l : Launch} {e : Env} {R : Room} {s : State} {m : MethodId} {args : Array Value} {below : List Frame} {meth : Method} {c : Code} {cc : ByteArray} {nL : Nat} {ret : Option FieldType} {D : va_G} {E : List wCell} {q : Nat → Nat} {ca : wCA} {A : Nat → Prop} {Q : State → Prop} {kc ks : Nat} {μ : wMem} {lv : List (Nat × Value)} {st : List Value} (pc : Nat) (C : wC p R s m args meth c cc "OnePassportModel" nL ret D vwCl (spM ++ E) q ca A) (hd : decode cc pc = .ok (.getfield 122, 3)) (k : wJ p l e R s m args below meth c nL D vwCl (spM ++ E) q ca A Q kc ks μ (pc + 3) lv (.int (μ.1 0 10) :: st)) : wJ p l e R s m args below meth c nL D vwCl (spM ++ E) q ca A Q kc ks μ pc lv (.ref (q 0) :: st) := wr_getI pc 10 C hd spM_0 rfl in_X6 (by decide) rfl q1409 k
theorem puspM_0_10_X6 {p : Program} {l : Launch} {e : Env} {R : Room} {s : State} {m : MethodId} {args : Array Value} {below : List Frame} {meth : Method} {c : Code} {cc : ByteArray} {nL : Nat} {ret : Option FieldType} {D : va_G} {E : List wCell} {q : Nat → Nat} {ca : wCA} {A : Nat → Prop} {Q : State → Prop} {kc ks : Nat} {μ : wMem} {lv : List (Nat × Value)} {st : List Value} {v : Int32} {μ1 : wMem} (pc : Nat) (C : wC p R s m args meth c cc "OnePassportModel" nL ret D vwCl (spM ++ E) q ca A) (hd : decode cc pc = .ok (.putfield 122, 3)) (hμ : μ1 = wSI μ 0 10 v) (k : wJ p l e R s m args below meth c nL D vwCl (spM ++ E) q ca A Q kc ks μ1 (pc + 3) lv st) : wJ p l e R s m args below meth c nL D vwCl (spM ++ E) q ca A Q kc ks μ pc lv (.int v :: .ref (q 0) :: st) := wr_putI pc 10 C hd spM_0 rfl in_X6 tyX6 tyX6_ok nmX6 (by decide) rfl q1409 rfl rfl hμ k
theorem gespM_0_11_X6 {p : Program} {l : Launch} {e : Env} {R : Room} {s : State} {m : MethodId} {args : Array Value} {below : List Frame} {meth : Method} {c : Code} {cc : ByteArray} {nL : Nat} {ret : Option FieldType} {D : va_G} {E : List wCell} {q : Nat → Nat} {ca : wCA} {A : Nat → Prop} {Q : State → Prop} {kc ks : Nat} {μ : wMem} {lv : List (Nat × Value)} {st : List Value} (pc : Nat) (C : wC p R s m args meth c cc "OnePassportModel" nL ret D vwCl (spM ++ E) q ca A) (hd : decode cc pc = .ok (.getfield 125, 3)) (k : wJ p l e R s m args below meth c nL D vwCl (spM ++ E) q ca A Q kc ks μ (pc + 3) lv (.long (μ.2 0 11) :: st)) : wJ p l e R s m args below meth c nL D vwCl (spM ++ E) q ca A Q kc ks μ pc lv (.ref (q 0) :: st) := wr_getL pc 11 C hd spM_0 rfl in_X6 (by decide) rfl q1410 k
theorem puspM_0_11_X6 {p : Program} {l : Launch} {e : Env} {R : Room} {s : State} {m : MethodId} {args : Array Value} {below : List Frame} {meth : Method} {c : Code} {cc : ByteArray} {nL : Nat} {ret : Option FieldType} {D : va_G} {E : List wCell} {q : Nat → Nat} {ca : wCA} {A : Nat → Prop} {Q : State → Prop} {kc ks : Nat} {μ : wMem} {lv : List (Nat × Value)} {st : List Value} {v : Int64} {μ1 : wMem} (pc : Nat) (C : wC p R s m args meth c cc "OnePassportModel" nL ret D vwCl (spM ++ E) q ca A) (hd : decode cc pc = .ok (.putfield 125, 3)) (hμ : μ1 = wSL μ 0 11 v) (k : wJ p l e R s m args below meth c nL D vwCl (spM ++ E) q ca A Q kc ks μ1 (pc + 3) lv st) : wJ p l e R s m args below meth c nL D vwCl (spM ++ E) q ca A Q kc ks μ pc lv (.long v :: .ref (q 0) :: st) := wr_putL pc 11 C hd spM_0 rfl in_X6 tyX6 tyX6_ok nmX6 (by decide) rfl q1410 rfl rfl hμ k
theorem okX6_next : wOkV yX6_next cX6_next 2 none 0 := ⟨q1600, qs72, q145, q1601, by decide, by decide, by decide +kernel⟩
def gbX6_next_0 (N : Nat)   (K : (wMem → Option wMem)) (rec : (wMem → Option wMem))  (μ : wMem) : Option wMem :=
  wBind (fX6_isByte N  (μ.1 0 7) 32 32 μ) fun v3 μ2 => wLet (fun  (μ4 : wMem) => wLet (wSI μ4 0 7 ((μ4.1 0 7) + (1 : Int32))) fun μ5 => rec  μ5) fun Jnext30 => if v3 = 0 then wBind (fX6_isByte N  (μ2.1 0 7) 10 10 μ2) fun v9 μ8 => if v9 = 0 then K  μ8 else Jnext30  μ8 else Jnext30  μ2
def gX6_next_0 (N : Nat)   (K : (wMem → Option wMem)) : Nat → (wMem → Option wMem)
  | 0 => fun  _ => none
  | k + 1 => gbX6_next_0 N   K (gX6_next_0 N   K k)
set_option maxHeartbeats 4000000 in
set_option maxRecDepth 100000 in
theorem tX6_next_0 {p : Program} {l : Launch} {e : Env} {s : State} {m : MethodId} {args : Array Value} {below : List Frame} {meth : Method} {c : Code} {D : va_G} {E : List wCell} {q : Nat → Nat} {ca : wCA} {A : Nat → Prop} (C : wC p ({ frames := 1, cells := 0, slots := 0, locals := 23 } : Room) s m args meth c cX6_next yX6_next.cls 2 none D vwCl (spM ++ E) q ca A) (N : Nat)    (K : (wMem → Option wMem)) (r0 : wMem) (hK : ∀  (μ : wMem), K  μ = some r0 → wJ p l e ({ frames := 1, cells := 0, slots := 0, locals := 23 } : Room) s m args below meth c 2 D vwCl (spM ++ E) q ca A (wQv ({ frames := 1, cells := 0, slots := 0, locals := 23 } : Room) D vwCl (spM ++ E) q ca below args s A r0) 0 0 μ 43 [(0, .ref (q 0))] []) : ∀ (k : Nat)  (μ : wMem), gX6_next_0 N   K k  μ = some r0 → wJ p l e ({ frames := 1, cells := 0, slots := 0, locals := 23 } : Room) s m args below meth c 2 D vwCl (spM ++ E) q ca A (wQv ({ frames := 1, cells := 0, slots := 0, locals := 23 } : Room) D vwCl (spM ++ E) q ca below args s A r0) 0 0 μ 0 [(0, .ref (q 0))] [] := by
  intro k
  induction k with
  | zero =>
    intro  μ hf
    cases hf
  | succ k ih =>
    intro  μ hf
    replace hf : gbX6_next_0 N   K (gX6_next_0 N   K k)  μ = some r0 := hf
    unfold gbX6_next_0 at hf
    refine wr_aload_n 0 C dX6_next_0 0 rfl rfl ?_
    refine wr_aload_n 1 C dX6_next_1 0 rfl rfl ?_
    refine gespM_0_7_X6 2 C dX6_next_2 ?_
    refine wr_bipush 5 C dX6_next_5 (v := 32) rfl ?_
    refine wr_bipush 7 C dX6_next_7 (v := 32) rfl ?_
    obtain ⟨v3, μ2, h1, hf⟩ := o_bind hf
    refine wr_Vi (kc1 := 0) (ks1 := 0) 9 [] C dX6_next_9 (tX6_isByte l N   (μ.1 0 7) 32 32 μ (v3, μ2) h1) okX6_isByte q1602 (b := 0) spM_0 rfl ⟨rfl, rfl, Nat.le_of_ble_eq_true rfl, Nat.le_of_ble_eq_true rfl, Nat.zero_le _, Nat.zero_le _⟩ (Nat.le_of_ble_eq_true rfl) rfl ?_
    obtain ⟨Jnext30, eJnext30, hf⟩ := o_let hf
    have hJnext30 : ∀  (μ4 : wMem), Jnext30  μ4 = some r0 → wJ p l e ({ frames := 1, cells := 0, slots := 0, locals := 23 } : Room) s m args below meth c 2 D vwCl (spM ++ E) q ca A (wQv ({ frames := 1, cells := 0, slots := 0, locals := 23 } : Room) D vwCl (spM ++ E) q ca below args s A r0) 0 0 μ4 30 [(0, .ref (q 0))] [] := by
      intro  μ4 hf
      rw [eJnext30] at hf
      refine wr_aload_n 30 C dX6_next_30 0 rfl rfl ?_
      refine wr_dup 31 C dX6_next_31 rfl ?_
      refine gespM_0_7_X6 32 C dX6_next_32 ?_
      refine wr_iconst 35 C dX6_next_35 (v := 1) rfl ?_
      refine wr_iadd 36 C dX6_next_36 ?_
      obtain ⟨μ5, eμ5, hf⟩ := o_let hf
      refine puspM_0_7_X6 37 C dX6_next_37 eμ5 ?_
      refine wr_goto 40 C dX6_next_40 (tgt := 0) (by decide) ?_
      exact ih  μ5 hf
    refine wr_if_ne 12 30 C dX6_next_12 (by decide) (fun c6 => ?_) (fun c6 => ?_)
    · replace hf := o_neg c6 hf
      exact hJnext30  μ2 hf
    · replace hf := o_pos c6 hf
      refine wr_aload_n 15 C dX6_next_15 0 rfl rfl ?_
      refine wr_aload_n 16 C dX6_next_16 0 rfl rfl ?_
      refine gespM_0_7_X6 17 C dX6_next_17 ?_
      refine wr_bipush 20 C dX6_next_20 (v := 10) rfl ?_
      refine wr_bipush 22 C dX6_next_22 (v := 10) rfl ?_
      obtain ⟨v9, μ8, h7, hf⟩ := o_bind hf
      refine wr_Vi (kc1 := 0) (ks1 := 0) 24 [] C dX6_next_24 (tX6_isByte l N   (μ2.1 0 7) 10 10 μ2 (v9, μ8) h7) okX6_isByte q1602 (b := 0) spM_0 rfl ⟨rfl, rfl, Nat.le_of_ble_eq_true rfl, Nat.le_of_ble_eq_true rfl, Nat.zero_le _, Nat.zero_le _⟩ (Nat.le_of_ble_eq_true rfl) rfl ?_
      refine wr_if_eq 27 43 C dX6_next_27 (by decide) (fun c10 => ?_) (fun c10 => ?_)
      · replace hf := o_pos c10 hf
        exact hK  μ8 hf
      · replace hf := o_neg c10 hf
        exact hJnext30  μ8 hf
def gbX6_next_208 (N : Nat)   (K : (wMem → Option wMem)) (rec : (wMem → Option wMem))  (μ : wMem) : Option wMem :=
  wBind (fX6_isByte N  (μ.1 0 7) 48 57 μ) fun v33 μ32 => if v33 = 0 then K  μ32 else wLet (fun (v36 : Int32) (μ35 : wMem) => wLet (wSI μ35 0 10 v36) fun μ37 => wLet (wSI μ37 0 7 ((μ37.1 0 7) + (1 : Int32))) fun μ38 => rec  μ38) fun Jnext258 => if (μ32.1 0 10) ≤ (100000 : Int32) then wG (ok_in (μ32.1 0 7) 600) (Jnext258 ((((10 : Int32) * (μ32.1 0 10)) + (μ32.1 5 (Int32.toNatClampNeg (μ32.1 0 7)))) - (48 : Int32)) μ32) else Jnext258 1000000 μ32
def gX6_next_208 (N : Nat)   (K : (wMem → Option wMem)) : Nat → (wMem → Option wMem)
  | 0 => fun  _ => none
  | k + 1 => gbX6_next_208 N   K (gX6_next_208 N   K k)
set_option maxHeartbeats 4000000 in
set_option maxRecDepth 100000 in
theorem tX6_next_208 {p : Program} {l : Launch} {e : Env} {s : State} {m : MethodId} {args : Array Value} {below : List Frame} {meth : Method} {c : Code} {D : va_G} {E : List wCell} {q : Nat → Nat} {ca : wCA} {A : Nat → Prop} (C : wC p ({ frames := 1, cells := 0, slots := 0, locals := 23 } : Room) s m args meth c cX6_next yX6_next.cls 2 none D vwCl (spM ++ E) q ca A) (N : Nat)    (K : (wMem → Option wMem)) (r0 : wMem) (hK : ∀  (μ : wMem), K  μ = some r0 → wJ p l e ({ frames := 1, cells := 0, slots := 0, locals := 23 } : Room) s m args below meth c 2 D vwCl (spM ++ E) q ca A (wQv ({ frames := 1, cells := 0, slots := 0, locals := 23 } : Room) D vwCl (spM ++ E) q ca below args s A r0) 0 0 μ 307 [] []) : ∀ (k : Nat)  (μ : wMem), gX6_next_208 N   K k  μ = some r0 → wJ p l e ({ frames := 1, cells := 0, slots := 0, locals := 23 } : Room) s m args below meth c 2 D vwCl (spM ++ E) q ca A (wQv ({ frames := 1, cells := 0, slots := 0, locals := 23 } : Room) D vwCl (spM ++ E) q ca below args s A r0) 0 0 μ 208 [(0, .ref (q 0))] [] := by
  intro k
  induction k with
  | zero =>
    intro  μ hf
    cases hf
  | succ k ih =>
    intro  μ hf
    replace hf : gbX6_next_208 N   K (gX6_next_208 N   K k)  μ = some r0 := hf
    unfold gbX6_next_208 at hf
    refine wr_aload_n 208 C dX6_next_208 0 rfl rfl ?_
    refine wr_aload_n 209 C dX6_next_209 0 rfl rfl ?_
    refine gespM_0_7_X6 210 C dX6_next_210 ?_
    refine wr_bipush 213 C dX6_next_213 (v := 48) rfl ?_
    refine wr_bipush 215 C dX6_next_215 (v := 57) rfl ?_
    obtain ⟨v33, μ32, h31, hf⟩ := o_bind hf
    refine wr_Vi (kc1 := 0) (ks1 := 0) 217 [] C dX6_next_217 (tX6_isByte l N   (μ.1 0 7) 48 57 μ (v33, μ32) h31) okX6_isByte q1602 (b := 0) spM_0 rfl ⟨rfl, rfl, Nat.le_of_ble_eq_true rfl, Nat.le_of_ble_eq_true rfl, Nat.zero_le _, Nat.zero_le _⟩ (Nat.le_of_ble_eq_true rfl) rfl ?_
    refine wr_if_eq 220 307 C dX6_next_220 (by decide) (fun c34 => ?_) (fun c34 => ?_)
    · replace hf := o_pos c34 hf
      refine wr_sub [] [] rfl ?_
      exact hK  μ32 hf
    · replace hf := o_neg c34 hf
      refine wr_aload_n 223 C dX6_next_223 0 rfl rfl ?_
      refine wr_aload_n 224 C dX6_next_224 0 rfl rfl ?_
      refine gespM_0_10_X6 225 C dX6_next_225 ?_
      refine wr_ldc 228 C dX6_next_228 q1609 ?_
      obtain ⟨Jnext258, eJnext258, hf⟩ := o_let hf
      have hJnext258 : ∀ (v36 : Int32) (μ35 : wMem), Jnext258 v36 μ35 = some r0 → wJ p l e ({ frames := 1, cells := 0, slots := 0, locals := 23 } : Room) s m args below meth c 2 D vwCl (spM ++ E) q ca A (wQv ({ frames := 1, cells := 0, slots := 0, locals := 23 } : Room) D vwCl (spM ++ E) q ca below args s A r0) 0 0 μ35 258 [(0, .ref (q 0))] [.int v36, .ref (q 0)] := by
        intro v36 μ35 hf
        rw [eJnext258] at hf
        obtain ⟨μ37, eμ37, hf⟩ := o_let hf
        refine puspM_0_10_X6 258 C dX6_next_258 eμ37 ?_
        refine wr_aload_n 261 C dX6_next_261 0 rfl rfl ?_
        refine wr_dup 262 C dX6_next_262 rfl ?_
        refine gespM_0_7_X6 263 C dX6_next_263 ?_
        refine wr_iconst 266 C dX6_next_266 (v := 1) rfl ?_
        refine wr_iadd 267 C dX6_next_267 ?_
        obtain ⟨μ38, eμ38, hf⟩ := o_let hf
        refine puspM_0_7_X6 268 C dX6_next_268 eμ38 ?_
        refine wr_goto 271 C dX6_next_271 (tgt := 208) (by decide) ?_
        exact ih  μ38 hf
      refine wr_icmp_le 230 238 C dX6_next_230 (by decide) (fun c39 => ?_) (fun c39 => ?_)
      · replace hf := o_pos c39 hf
        refine wr_bipush 238 C dX6_next_238 (v := 10) rfl ?_
        refine wr_aload_n 240 C dX6_next_240 0 rfl rfl ?_
        refine gespM_0_10_X6 241 C dX6_next_241 ?_
        refine wr_imul 244 C dX6_next_244 ?_
        refine wr_aload_n 245 C dX6_next_245 0 rfl rfl ?_
        refine gespM_0_5_X6 246 C dX6_next_246 ?_
        refine wr_aload_n 249 C dX6_next_249 0 rfl rfl ?_
        refine gespM_0_7_X6 250 C dX6_next_250 ?_
        obtain ⟨g40, hf⟩ := o_g hf
        refine wr_bald 253 C dX6_next_253 spM_5 g40 ?_
        refine wr_iadd 254 C dX6_next_254 ?_
        refine wr_bipush 255 C dX6_next_255 (v := 48) rfl ?_
        refine wr_isub 257 C dX6_next_257 ?_
        exact hJnext258 ((((10 : Int32) * (μ32.1 0 10)) + (μ32.1 5 (Int32.toNatClampNeg (μ32.1 0 7)))) - (48 : Int32)) μ32 hf
      · replace hf := o_neg c39 hf
        refine wr_ldc 233 C dX6_next_233 q1610 ?_
        refine wr_goto 235 C dX6_next_235 (tgt := 258) (by decide) ?_
        exact hJnext258 1000000 μ32 hf
def gbX6_next_102 (N : Nat)   (K : (wMem → Option wMem)) (rec : (Int32 → wMem → Option wMem)) (x1_ : Int32) (μ : wMem) : Option wMem :=
  wBind (fX6_isByte N  (μ.1 0 7) 97 122 μ) fun v45 μ44 => if v45 = 0 then K  μ44 else wLet (fun (v48 : Int64) (μ47 : wMem) => wLet (wSL μ47 0 11 v48) fun μ49 => wLet (fun  (μ50 : wMem) => wLet (wSI μ50 0 7 ((μ50.1 0 7) + (1 : Int32))) fun μ51 => wLet (x1_ + 1 : Int32) fun x52 => rec x52 μ51) fun Jnext169 => if x1_ ≤ (11 : Int32) then Jnext169  μ49 else wLet (wSL μ49 0 11 (-1 : Int64)) fun μ54 => Jnext169  μ54) fun Jnext153 => if x1_ ≤ (11 : Int32) then wG (ok_in (μ44.1 0 7) 600) (Jnext153 ((((27 : Int64) * (μ44.2 0 11)) + (Int32.toInt64 (μ44.1 5 (Int32.toNatClampNeg (μ44.1 0 7))))) - (96 : Int64)) μ44) else Jnext153 (-1) μ44
def gX6_next_102 (N : Nat)   (K : (wMem → Option wMem)) : Nat → (Int32 → wMem → Option wMem)
  | 0 => fun _ _ => none
  | k + 1 => gbX6_next_102 N   K (gX6_next_102 N   K k)
set_option maxHeartbeats 4000000 in
set_option maxRecDepth 100000 in
theorem tX6_next_102 {p : Program} {l : Launch} {e : Env} {s : State} {m : MethodId} {args : Array Value} {below : List Frame} {meth : Method} {c : Code} {D : va_G} {E : List wCell} {q : Nat → Nat} {ca : wCA} {A : Nat → Prop} (C : wC p ({ frames := 1, cells := 0, slots := 0, locals := 23 } : Room) s m args meth c cX6_next yX6_next.cls 2 none D vwCl (spM ++ E) q ca A) (N : Nat)    (K : (wMem → Option wMem)) (r0 : wMem) (hK : ∀  (μ : wMem), K  μ = some r0 → wJ p l e ({ frames := 1, cells := 0, slots := 0, locals := 23 } : Room) s m args below meth c 2 D vwCl (spM ++ E) q ca A (wQv ({ frames := 1, cells := 0, slots := 0, locals := 23 } : Room) D vwCl (spM ++ E) q ca below args s A r0) 0 0 μ 185 [] []) : ∀ (k : Nat) (x1_ : Int32) (μ : wMem), gX6_next_102 N   K k x1_ μ = some r0 → wJ p l e ({ frames := 1, cells := 0, slots := 0, locals := 23 } : Room) s m args below meth c 2 D vwCl (spM ++ E) q ca A (wQv ({ frames := 1, cells := 0, slots := 0, locals := 23 } : Room) D vwCl (spM ++ E) q ca below args s A r0) 0 0 μ 102 [(0, .ref (q 0)), (1, .int x1_)] [] := by
  intro k
  induction k with
  | zero =>
    intro x1_ μ hf
    cases hf
  | succ k ih =>
    intro x1_ μ hf
    replace hf : gbX6_next_102 N   K (gX6_next_102 N   K k) x1_ μ = some r0 := hf
    unfold gbX6_next_102 at hf
    refine wr_aload_n 102 C dX6_next_102 0 rfl rfl ?_
    refine wr_aload_n 103 C dX6_next_103 0 rfl rfl ?_
    refine gespM_0_7_X6 104 C dX6_next_104 ?_
    refine wr_bipush 107 C dX6_next_107 (v := 97) rfl ?_
    refine wr_bipush 109 C dX6_next_109 (v := 122) rfl ?_
    obtain ⟨v45, μ44, h43, hf⟩ := o_bind hf
    refine wr_Vi (kc1 := 0) (ks1 := 0) 111 [] C dX6_next_111 (tX6_isByte l N   (μ.1 0 7) 97 122 μ (v45, μ44) h43) okX6_isByte q1602 (b := 0) spM_0 rfl ⟨rfl, rfl, Nat.le_of_ble_eq_true rfl, Nat.le_of_ble_eq_true rfl, Nat.zero_le _, Nat.zero_le _⟩ (Nat.le_of_ble_eq_true rfl) rfl ?_
    refine wr_if_eq 114 185 C dX6_next_114 (by decide) (fun c46 => ?_) (fun c46 => ?_)
    · replace hf := o_pos c46 hf
      refine wr_sub [] [] rfl ?_
      exact hK  μ44 hf
    · replace hf := o_neg c46 hf
      refine wr_aload_n 117 C dX6_next_117 0 rfl rfl ?_
      refine wr_iload_n 118 C dX6_next_118 1 rfl rfl ?_
      refine wr_bipush 119 C dX6_next_119 (v := 11) rfl ?_
      obtain ⟨Jnext153, eJnext153, hf⟩ := o_let hf
      have hJnext153 : ∀ (v48 : Int64) (μ47 : wMem), Jnext153 v48 μ47 = some r0 → wJ p l e ({ frames := 1, cells := 0, slots := 0, locals := 23 } : Room) s m args below meth c 2 D vwCl (spM ++ E) q ca A (wQv ({ frames := 1, cells := 0, slots := 0, locals := 23 } : Room) D vwCl (spM ++ E) q ca below args s A r0) 0 0 μ47 153 [(0, .ref (q 0)), (1, .int x1_)] [.long v48, .ref (q 0)] := by
        intro v48 μ47 hf
        rw [eJnext153] at hf
        obtain ⟨μ49, eμ49, hf⟩ := o_let hf
        refine puspM_0_11_X6 153 C dX6_next_153 eμ49 ?_
        refine wr_iload_n 156 C dX6_next_156 1 rfl rfl ?_
        refine wr_bipush 157 C dX6_next_157 (v := 11) rfl ?_
        obtain ⟨Jnext169, eJnext169, hf⟩ := o_let hf
        have hJnext169 : ∀  (μ50 : wMem), Jnext169  μ50 = some r0 → wJ p l e ({ frames := 1, cells := 0, slots := 0, locals := 23 } : Room) s m args below meth c 2 D vwCl (spM ++ E) q ca A (wQv ({ frames := 1, cells := 0, slots := 0, locals := 23 } : Room) D vwCl (spM ++ E) q ca below args s A r0) 0 0 μ50 169 [(0, .ref (q 0)), (1, .int x1_)] [] := by
          intro  μ50 hf
          rw [eJnext169] at hf
          refine wr_aload_n 169 C dX6_next_169 0 rfl rfl ?_
          refine wr_dup 170 C dX6_next_170 rfl ?_
          refine gespM_0_7_X6 171 C dX6_next_171 ?_
          refine wr_iconst 174 C dX6_next_174 (v := 1) rfl ?_
          refine wr_iadd 175 C dX6_next_175 ?_
          obtain ⟨μ51, eμ51, hf⟩ := o_let hf
          refine puspM_0_7_X6 176 C dX6_next_176 eμ51 ?_
          obtain ⟨x52, ex52, hf⟩ := o_let hf
          refine wr_iinc 179 [(1, .int x52), (0, .ref (q 0))] C dX6_next_179 1 rfl (ex52.trans rfl) (Nat.le_of_ble_eq_true rfl) rfl ?_
          refine wr_goto 182 C dX6_next_182 (tgt := 102) (by decide) ?_
          refine wr_sub [(0, .ref (q 0)), (1, .int x52)] [1, 0] rfl ?_
          exact ih x52 μ51 hf
        refine wr_icmp_le 159 169 C dX6_next_159 (by decide) (fun c53 => ?_) (fun c53 => ?_)
        · replace hf := o_pos c53 hf
          exact hJnext169  μ49 hf
        · replace hf := o_neg c53 hf
          refine wr_aload_n 162 C dX6_next_162 0 rfl rfl ?_
          refine wr_ldc2 163 C dX6_next_163 q1606 ?_
          obtain ⟨μ54, eμ54, hf⟩ := o_let hf
          refine puspM_0_11_X6 166 C dX6_next_166 eμ54 ?_
          exact hJnext169  μ54 hf
      refine wr_icmp_le 121 130 C dX6_next_121 (by decide) (fun c55 => ?_) (fun c55 => ?_)
      · replace hf := o_pos c55 hf
        refine wr_ldc2 130 C dX6_next_130 q1607 ?_
        refine wr_aload_n 133 C dX6_next_133 0 rfl rfl ?_
        refine gespM_0_11_X6 134 C dX6_next_134 ?_
        refine wr_lmul 137 C dX6_next_137 ?_
        refine wr_aload_n 138 C dX6_next_138 0 rfl rfl ?_
        refine gespM_0_5_X6 139 C dX6_next_139 ?_
        refine wr_aload_n 142 C dX6_next_142 0 rfl rfl ?_
        refine gespM_0_7_X6 143 C dX6_next_143 ?_
        obtain ⟨g56, hf⟩ := o_g hf
        refine wr_bald 146 C dX6_next_146 spM_5 g56 ?_
        refine wr_i2l 147 C dX6_next_147 ?_
        refine wr_ladd 148 C dX6_next_148 ?_
        refine wr_ldc2 149 C dX6_next_149 q1608 ?_
        refine wr_lsub 152 C dX6_next_152 ?_
        exact hJnext153 ((((27 : Int64) * (μ44.2 0 11)) + (Int32.toInt64 (μ44.1 5 (Int32.toNatClampNeg (μ44.1 0 7))))) - (96 : Int64)) μ44 hf
      · replace hf := o_neg c55 hf
        refine wr_ldc2 124 C dX6_next_124 q1606 ?_
        refine wr_goto 127 C dX6_next_127 (tgt := 153) (by decide) ?_
        exact hJnext153 (-1) μ44 hf
def fX6_next (N : Nat)   (μ : wMem) : Option wMem :=
  gX6_next_0 N   (fun  (μ11 : wMem) => wLet (wSI μ11 0 9 (μ11.1 0 7)) fun μ12 => wLet (wSI μ12 0 10 (0 : Int32)) fun μ13 => wLet (wSL μ13 0 11 (0 : Int64)) fun μ14 => if (μ14.1 0 7) = (μ14.1 0 6) then wLet (wSI μ14 0 8 (0 : Int32)) fun μ58 => some μ58 else wBind (fX6_isByte N  (μ14.1 0 7) 97 122 μ14) fun v18 μ17 => if v18 = 0 then wBind (fX6_isByte N  (μ17.1 0 7) 48 57 μ17) fun v22 μ21 => if v22 = 0 then wG (ok_in (μ21.1 0 7) 600) (wLet (fun (v26 : Int32) (μ25 : wMem) => wLet (wSI μ25 0 8 v26) fun μ27 => wLet (wSI μ27 0 7 ((μ27.1 0 7) + (1 : Int32))) fun μ28 => some μ28) fun Jnext294 => if (μ21.1 5 (Int32.toNatClampNeg (μ21.1 0 7))) = (59 : Int32) then Jnext294 3 μ21 else Jnext294 4 μ21) else wLet (wSI μ21 0 8 (2 : Int32)) fun μ30 => gX6_next_208 N   (fun  (μ41 : wMem) => some μ41) N  μ30 else wLet (wSI μ17 0 8 (1 : Int32)) fun μ42 => gX6_next_102 N   (fun  (μ57 : wMem) => some μ57) N 0 μ42) N  μ
set_option maxHeartbeats 4000000 in
set_option maxRecDepth 100000 in
theorem tX6_next (l : Launch) {D : va_G} {E : List wCell} {q : Nat → Nat} {ca : wCA} (N : Nat)    (μ : wMem) (r0 : wMem) (hf : fX6_next N   μ = some r0) : wMv l yX6_next cX6_next 2 none ({ frames := 1, cells := 0, slots := 0, locals := 23 } : Room) D vwCl (spM ++ E) q ca [.ref (q 0)] μ r0 := by
  refine wMv_intro (by decide) (Nat.le_of_ble_eq_true rfl) ?_
  intro p e s m args below meth c A C
  unfold fX6_next at hf
  refine wr_sub [(0, .ref (q 0))] [0] rfl ?_
  refine tX6_next_0 C N    _ r0 (fun  μ11 hf => ?_) N  μ hf
  · replace hf := hf
    refine wr_aload_n 43 C dX6_next_43 0 rfl rfl ?_
    refine wr_aload_n 44 C dX6_next_44 0 rfl rfl ?_
    refine gespM_0_7_X6 45 C dX6_next_45 ?_
    obtain ⟨μ12, eμ12, hf⟩ := o_let hf
    refine puspM_0_9_X6 48 C dX6_next_48 eμ12 ?_
    refine wr_aload_n 51 C dX6_next_51 0 rfl rfl ?_
    refine wr_iconst 52 C dX6_next_52 (v := 0) rfl ?_
    obtain ⟨μ13, eμ13, hf⟩ := o_let hf
    refine puspM_0_10_X6 53 C dX6_next_53 eμ13 ?_
    refine wr_aload_n 56 C dX6_next_56 0 rfl rfl ?_
    refine wr_lconst 57 C dX6_next_57 (v := 0) rfl ?_
    obtain ⟨μ14, eμ14, hf⟩ := o_let hf
    refine puspM_0_11_X6 58 C dX6_next_58 eμ14 ?_
    refine wr_aload_n 61 C dX6_next_61 0 rfl rfl ?_
    refine gespM_0_7_X6 62 C dX6_next_62 ?_
    refine wr_aload_n 65 C dX6_next_65 0 rfl rfl ?_
    refine gespM_0_6_X6 66 C dX6_next_66 ?_
    refine wr_icmp_ne 69 80 C dX6_next_69 (by decide) (fun c15 => ?_) (fun c15 => ?_)
    · replace hf := o_neg c15 hf
      refine wr_aload_n 80 C dX6_next_80 0 rfl rfl ?_
      refine wr_aload_n 81 C dX6_next_81 0 rfl rfl ?_
      refine gespM_0_7_X6 82 C dX6_next_82 ?_
      refine wr_bipush 85 C dX6_next_85 (v := 97) rfl ?_
      refine wr_bipush 87 C dX6_next_87 (v := 122) rfl ?_
      obtain ⟨v18, μ17, h16, hf⟩ := o_bind hf
      refine wr_Vi (kc1 := 0) (ks1 := 0) 89 [] C dX6_next_89 (tX6_isByte l N   (μ14.1 0 7) 97 122 μ14 (v18, μ17) h16) okX6_isByte q1602 (b := 0) spM_0 rfl ⟨rfl, rfl, Nat.le_of_ble_eq_true rfl, Nat.le_of_ble_eq_true rfl, Nat.zero_le _, Nat.zero_le _⟩ (Nat.le_of_ble_eq_true rfl) rfl ?_
      refine wr_if_eq 92 188 C dX6_next_92 (by decide) (fun c19 => ?_) (fun c19 => ?_)
      · replace hf := o_pos c19 hf
        refine wr_aload_n 188 C dX6_next_188 0 rfl rfl ?_
        refine wr_aload_n 189 C dX6_next_189 0 rfl rfl ?_
        refine gespM_0_7_X6 190 C dX6_next_190 ?_
        refine wr_bipush 193 C dX6_next_193 (v := 48) rfl ?_
        refine wr_bipush 195 C dX6_next_195 (v := 57) rfl ?_
        obtain ⟨v22, μ21, h20, hf⟩ := o_bind hf
        refine wr_Vi (kc1 := 0) (ks1 := 0) 197 [] C dX6_next_197 (tX6_isByte l N   (μ17.1 0 7) 48 57 μ17 (v22, μ21) h20) okX6_isByte q1602 (b := 0) spM_0 rfl ⟨rfl, rfl, Nat.le_of_ble_eq_true rfl, Nat.le_of_ble_eq_true rfl, Nat.zero_le _, Nat.zero_le _⟩ (Nat.le_of_ble_eq_true rfl) rfl ?_
        refine wr_if_eq 200 274 C dX6_next_200 (by decide) (fun c23 => ?_) (fun c23 => ?_)
        · replace hf := o_pos c23 hf
          refine wr_aload_n 274 C dX6_next_274 0 rfl rfl ?_
          refine wr_aload_n 275 C dX6_next_275 0 rfl rfl ?_
          refine gespM_0_5_X6 276 C dX6_next_276 ?_
          refine wr_aload_n 279 C dX6_next_279 0 rfl rfl ?_
          refine gespM_0_7_X6 280 C dX6_next_280 ?_
          obtain ⟨g24, hf⟩ := o_g hf
          refine wr_bald 283 C dX6_next_283 spM_5 g24 ?_
          refine wr_bipush 284 C dX6_next_284 (v := 59) rfl ?_
          obtain ⟨Jnext294, eJnext294, hf⟩ := o_let hf
          have hJnext294 : ∀ (v26 : Int32) (μ25 : wMem), Jnext294 v26 μ25 = some r0 → wJ p l e ({ frames := 1, cells := 0, slots := 0, locals := 23 } : Room) s m args below meth c 2 D vwCl (spM ++ E) q ca A (wQv ({ frames := 1, cells := 0, slots := 0, locals := 23 } : Room) D vwCl (spM ++ E) q ca below args s A r0) 0 0 μ25 294 [(0, .ref (q 0))] [.int v26, .ref (q 0)] := by
            intro v26 μ25 hf
            rw [eJnext294] at hf
            obtain ⟨μ27, eμ27, hf⟩ := o_let hf
            refine puspM_0_8_X6 294 C dX6_next_294 eμ27 ?_
            refine wr_aload_n 297 C dX6_next_297 0 rfl rfl ?_
            refine wr_dup 298 C dX6_next_298 rfl ?_
            refine gespM_0_7_X6 299 C dX6_next_299 ?_
            refine wr_iconst 302 C dX6_next_302 (v := 1) rfl ?_
            refine wr_iadd 303 C dX6_next_303 ?_
            obtain ⟨μ28, eμ28, hf⟩ := o_let hf
            refine puspM_0_7_X6 304 C dX6_next_304 eμ28 ?_
            exact wr_vret 307 C dX6_next_307 ⟨Nat.zero_le _, Nat.zero_le _⟩ (Option.some.inj hf)
          refine wr_icmp_ne 286 293 C dX6_next_286 (by decide) (fun c29 => ?_) (fun c29 => ?_)
          · replace hf := o_neg c29 hf
            refine wr_iconst 293 C dX6_next_293 (v := 4) rfl ?_
            exact hJnext294 4 μ21 hf
          · replace hf := o_pos c29 hf
            refine wr_iconst 289 C dX6_next_289 (v := 3) rfl ?_
            refine wr_goto 290 C dX6_next_290 (tgt := 294) (by decide) ?_
            exact hJnext294 3 μ21 hf
        · replace hf := o_neg c23 hf
          refine wr_aload_n 203 C dX6_next_203 0 rfl rfl ?_
          refine wr_iconst 204 C dX6_next_204 (v := 2) rfl ?_
          obtain ⟨μ30, eμ30, hf⟩ := o_let hf
          refine puspM_0_8_X6 205 C dX6_next_205 eμ30 ?_
          refine tX6_next_208 C N    _ r0 (fun  μ41 hf => ?_) N  μ30 hf
          · replace hf := hf
            exact wr_vret 307 C dX6_next_307 ⟨Nat.zero_le _, Nat.zero_le _⟩ (Option.some.inj hf)
      · replace hf := o_neg c19 hf
        refine wr_aload_n 95 C dX6_next_95 0 rfl rfl ?_
        refine wr_iconst 96 C dX6_next_96 (v := 1) rfl ?_
        obtain ⟨μ42, eμ42, hf⟩ := o_let hf
        refine puspM_0_8_X6 97 C dX6_next_97 eμ42 ?_
        refine wr_iconst 100 C dX6_next_100 (v := 0) rfl ?_
        refine wr_istore_n 101 [(1, .int 0), (0, .ref (q 0))] C dX6_next_101 rfl rfl (Nat.le_of_ble_eq_true rfl) rfl ?_
        refine wr_sub [(0, .ref (q 0)), (1, .int 0)] [1, 0] rfl ?_
        refine tX6_next_102 C N    _ r0 (fun  μ57 hf => ?_) N 0 μ42 hf
        · replace hf := hf
          refine wr_goto 185 C dX6_next_185 (tgt := 307) (by decide) ?_
          exact wr_vret 307 C dX6_next_307 ⟨Nat.zero_le _, Nat.zero_le _⟩ (Option.some.inj hf)
    · replace hf := o_pos c15 hf
      refine wr_aload_n 72 C dX6_next_72 0 rfl rfl ?_
      refine wr_iconst 73 C dX6_next_73 (v := 0) rfl ?_
      obtain ⟨μ58, eμ58, hf⟩ := o_let hf
      refine puspM_0_8_X6 74 C dX6_next_74 eμ58 ?_
      refine wr_goto 77 C dX6_next_77 (tgt := 307) (by decide) ?_
      exact wr_vret 307 C dX6_next_307 ⟨Nat.zero_le _, Nat.zero_le _⟩ (Option.some.inj hf)
abbrev cX6_begins : ByteArray := prog_11_method_22_code
def yX6_begins : MethodName := ⟨RX6, "begins", "()V"⟩
def dkwX6_begins_0 : List UInt8 := [42, 3, 181, 0, 140, 42, 2, 181, 0, 143, 42, 3, 181, 0, 112, 42, 182, 0, 150, 177]
abbrev dktX6_begins_0 : List UInt8 := dkwX6_begins_0 ++ []
theorem dksX6_begins_0 : cX6_begins.data.toList.drop 0 = dktX6_begins_0 := by decide +kernel
theorem dX6_begins_0 : decode cX6_begins 0 = .ok (.aload_n 0, 1) := dk_42 (dk_at dksX6_begins_0 0 rfl rfl)
theorem dX6_begins_1 : decode cX6_begins 1 = .ok (.iconst 0, 1) := dk_3 (dk_at dksX6_begins_0 1 rfl rfl)
theorem dX6_begins_2 : decode cX6_begins 2 = .ok (.putfield 140, 3) := dk_181 0 140 (dk_at dksX6_begins_0 2 rfl rfl)
theorem dX6_begins_5 : decode cX6_begins 5 = .ok (.aload_n 0, 1) := dk_42 (dk_at dksX6_begins_0 5 rfl rfl)
theorem dX6_begins_6 : decode cX6_begins 6 = .ok (.iconst (-1), 1) := dk_2 (dk_at dksX6_begins_0 6 rfl rfl)
theorem dX6_begins_7 : decode cX6_begins 7 = .ok (.putfield 143, 3) := dk_181 0 143 (dk_at dksX6_begins_0 7 rfl rfl)
theorem dX6_begins_10 : decode cX6_begins 10 = .ok (.aload_n 0, 1) := dk_42 (dk_at dksX6_begins_0 10 rfl rfl)
theorem dX6_begins_11 : decode cX6_begins 11 = .ok (.iconst 0, 1) := dk_3 (dk_at dksX6_begins_0 11 rfl rfl)
theorem dX6_begins_12 : decode cX6_begins 12 = .ok (.putfield 112, 3) := dk_181 0 112 (dk_at dksX6_begins_0 12 rfl rfl)
theorem dX6_begins_15 : decode cX6_begins 15 = .ok (.aload_n 0, 1) := dk_42 (dk_at dksX6_begins_0 15 rfl rfl)
theorem dX6_begins_16 : decode cX6_begins 16 = .ok (.invokevirtual 150, 3) := dk_182 0 150 (dk_at dksX6_begins_0 16 rfl rfl)
theorem dX6_begins_19 : decode cX6_begins 19 = .ok (.return_, 1) := dk_177 (dk_at dksX6_begins_0 19 rfl rfl)
theorem puspM_0_12_X6 {p : Program} {l : Launch} {e : Env} {R : Room} {s : State} {m : MethodId} {args : Array Value} {below : List Frame} {meth : Method} {c : Code} {cc : ByteArray} {nL : Nat} {ret : Option FieldType} {D : va_G} {E : List wCell} {q : Nat → Nat} {ca : wCA} {A : Nat → Prop} {Q : State → Prop} {kc ks : Nat} {μ : wMem} {lv : List (Nat × Value)} {st : List Value} {v : Int32} {μ1 : wMem} (pc : Nat) (C : wC p R s m args meth c cc "OnePassportModel" nL ret D vwCl (spM ++ E) q ca A) (hd : decode cc pc = .ok (.putfield 140, 3)) (hμ : μ1 = wSI μ 0 12 v) (k : wJ p l e R s m args below meth c nL D vwCl (spM ++ E) q ca A Q kc ks μ1 (pc + 3) lv st) : wJ p l e R s m args below meth c nL D vwCl (spM ++ E) q ca A Q kc ks μ pc lv (.int v :: .ref (q 0) :: st) := wr_putI pc 12 C hd spM_0 rfl in_X6 tyX6 tyX6_ok nmX6 (by decide) rfl q1411 rfl rfl hμ k
theorem puspM_0_13_X6 {p : Program} {l : Launch} {e : Env} {R : Room} {s : State} {m : MethodId} {args : Array Value} {below : List Frame} {meth : Method} {c : Code} {cc : ByteArray} {nL : Nat} {ret : Option FieldType} {D : va_G} {E : List wCell} {q : Nat → Nat} {ca : wCA} {A : Nat → Prop} {Q : State → Prop} {kc ks : Nat} {μ : wMem} {lv : List (Nat × Value)} {st : List Value} {v : Int32} {μ1 : wMem} (pc : Nat) (C : wC p R s m args meth c cc "OnePassportModel" nL ret D vwCl (spM ++ E) q ca A) (hd : decode cc pc = .ok (.putfield 143, 3)) (hμ : μ1 = wSI μ 0 13 v) (k : wJ p l e R s m args below meth c nL D vwCl (spM ++ E) q ca A Q kc ks μ1 (pc + 3) lv st) : wJ p l e R s m args below meth c nL D vwCl (spM ++ E) q ca A Q kc ks μ pc lv (.int v :: .ref (q 0) :: st) := wr_putI pc 13 C hd spM_0 rfl in_X6 tyX6 tyX6_ok nmX6 (by decide) rfl q1412 rfl rfl hμ k
theorem okX6_begins : wOkV yX6_begins cX6_begins 1 none 0 := ⟨q1596, qs71, q145, q1597, by decide, by decide, by decide +kernel⟩
def fX6_begins (N : Nat)   (μ : wMem) : Option wMem :=
  wLet (wSI μ 0 12 (0 : Int32)) fun μ1 => wLet (wSI μ1 0 13 (-1 : Int32)) fun μ2 => wLet (wSI μ2 0 7 (0 : Int32)) fun μ3 => wBindV (fX6_next N   μ3) fun μ5 => some μ5
set_option maxHeartbeats 4000000 in
set_option maxRecDepth 100000 in
theorem tX6_begins (l : Launch) {D : va_G} {E : List wCell} {q : Nat → Nat} {ca : wCA} (N : Nat)    (μ : wMem) (r0 : wMem) (hf : fX6_begins N   μ = some r0) : wMv l yX6_begins cX6_begins 1 none ({ frames := 2, cells := 0, slots := 0, locals := 44 } : Room) D vwCl (spM ++ E) q ca [.ref (q 0)] μ r0 := by
  refine wMv_intro (by decide) (Nat.le_of_ble_eq_true rfl) ?_
  intro p e s m args below meth c A C
  unfold fX6_begins at hf
  refine wr_sub [(0, .ref (q 0))] [0] rfl ?_
  refine wr_aload_n 0 C dX6_begins_0 0 rfl rfl ?_
  refine wr_iconst 1 C dX6_begins_1 (v := 0) rfl ?_
  obtain ⟨μ1, eμ1, hf⟩ := o_let hf
  refine puspM_0_12_X6 2 C dX6_begins_2 eμ1 ?_
  refine wr_aload_n 5 C dX6_begins_5 0 rfl rfl ?_
  refine wr_iconst 6 C dX6_begins_6 (v := (-1)) rfl ?_
  obtain ⟨μ2, eμ2, hf⟩ := o_let hf
  refine puspM_0_13_X6 7 C dX6_begins_7 eμ2 ?_
  refine wr_aload_n 10 C dX6_begins_10 0 rfl rfl ?_
  refine wr_iconst 11 C dX6_begins_11 (v := 0) rfl ?_
  obtain ⟨μ3, eμ3, hf⟩ := o_let hf
  refine puspM_0_7_X6 12 C dX6_begins_12 eμ3 ?_
  refine wr_aload_n 15 C dX6_begins_15 0 rfl rfl ?_
  obtain ⟨μ5, h4, hf⟩ := o_bindV hf
  refine wr_Vv (kc1 := 0) (ks1 := 0) 16 [] C dX6_begins_16 (tX6_next l N    μ3 μ5 h4) okX6_next q1598 (b := 0) spM_0 rfl ⟨rfl, rfl, Nat.le_of_ble_eq_true rfl, Nat.le_of_ble_eq_true rfl, Nat.zero_le _, Nat.zero_le _⟩ (Nat.le_of_ble_eq_true rfl) rfl ?_
  exact wr_vret 19 C dX6_begins_19 ⟨Nat.zero_le _, Nat.zero_le _⟩ (Option.some.inj hf)
