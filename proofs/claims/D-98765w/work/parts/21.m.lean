set_option maxRecDepth 100000
abbrev cX0_personIn : ByteArray := prog_1_method_27_code
def yX0_personIn : MethodName := ⟨RX0, "personIn", "(I)I"⟩
def dkwX0_personIn_0 : List UInt8 := [26, 16, 10, 112, 172]
abbrev dktX0_personIn_0 : List UInt8 := dkwX0_personIn_0 ++ []
theorem dksX0_personIn_0 : cX0_personIn.data.toList.drop 0 = dktX0_personIn_0 := by decide +kernel
theorem dX0_personIn_0 : decode cX0_personIn 0 = .ok (.iload_n 0, 1) := dk_26 (dk_at dksX0_personIn_0 0 rfl rfl)
theorem dX0_personIn_1 : decode cX0_personIn 1 = .ok (.bipush 10, 2) := dk_16 10 (dk_at dksX0_personIn_0 1 rfl rfl)
theorem dX0_personIn_3 : decode cX0_personIn 3 = .ok (.irem, 1) := dk_112 (dk_at dksX0_personIn_0 3 rfl rfl)
theorem dX0_personIn_4 : decode cX0_personIn 4 = .ok (.ireturn, 1) := dk_172 (dk_at dksX0_personIn_0 4 rfl rfl)

theorem okX0_personIn : wOkS yX0_personIn cX0_personIn 1 (some .int) 1 := ⟨q750, q136, q751, by decide, by decide, by decide +kernel⟩
def fX0_personIn (N : Nat)  (a0 : Int32) (μ : wMem) : Option (Int32 × wMem) :=
  some (a0 - a0 / (10 : Int32) * (10 : Int32), μ)
set_option maxHeartbeats 4000000 in
set_option maxRecDepth 100000 in
theorem tX0_personIn (l : Launch) {D : va_G} {E : List wCell} {q : Nat → Nat} {ca : wCA} (N : Nat)   (a0 : Int32) (μ : wMem) (r0 : (Int32 × wMem)) (hf : fX0_personIn N  a0 μ = some r0) : wMi l yX0_personIn cX0_personIn 1 (some .int) ({ frames := 0, cells := 0, slots := 0, locals := 0 } : Room) D vwCl (spX ++ E) q ca [.int a0] μ r0 := by
  refine wMi_intro (by decide) (Nat.le_of_ble_eq_true rfl) ?_
  intro p e s m args below meth c A C
  unfold fX0_personIn at hf
  refine wr_sub [(0, .int a0)] [0] rfl ?_
  refine wr_iload_n 0 C dX0_personIn_0 0 rfl rfl ?_
  refine wr_bipush 1 C dX0_personIn_1 (v := 10) rfl ?_
  refine wr_irem 3 C dX0_personIn_3 (by decide) ?_
  exact wr_iret 4 C dX0_personIn_4 ⟨Nat.zero_le _, Nat.zero_le _⟩ (Option.some.inj hf)
abbrev cX0_postIn : ByteArray := prog_1_method_25_code
def yX0_postIn : MethodName := ⟨RX0, "postIn", "(I)I"⟩
def dkwX0_postIn_0 : List UInt8 := [26, 16, 100, 108, 172]
abbrev dktX0_postIn_0 : List UInt8 := dkwX0_postIn_0 ++ []
theorem dksX0_postIn_0 : cX0_postIn.data.toList.drop 0 = dktX0_postIn_0 := by decide +kernel
theorem dX0_postIn_0 : decode cX0_postIn 0 = .ok (.iload_n 0, 1) := dk_26 (dk_at dksX0_postIn_0 0 rfl rfl)
theorem dX0_postIn_1 : decode cX0_postIn 1 = .ok (.bipush 100, 2) := dk_16 100 (dk_at dksX0_postIn_0 1 rfl rfl)
theorem dX0_postIn_3 : decode cX0_postIn 3 = .ok (.idiv, 1) := dk_108 (dk_at dksX0_postIn_0 3 rfl rfl)
theorem dX0_postIn_4 : decode cX0_postIn 4 = .ok (.ireturn, 1) := dk_172 (dk_at dksX0_postIn_0 4 rfl rfl)

theorem okX0_postIn : wOkS yX0_postIn cX0_postIn 1 (some .int) 1 := ⟨q753, q136, q754, by decide, by decide, by decide +kernel⟩
def fX0_postIn (N : Nat)  (a0 : Int32) (μ : wMem) : Option (Int32 × wMem) :=
  some (a0 / (100 : Int32), μ)
set_option maxHeartbeats 4000000 in
set_option maxRecDepth 100000 in
theorem tX0_postIn (l : Launch) {D : va_G} {E : List wCell} {q : Nat → Nat} {ca : wCA} (N : Nat)   (a0 : Int32) (μ : wMem) (r0 : (Int32 × wMem)) (hf : fX0_postIn N  a0 μ = some r0) : wMi l yX0_postIn cX0_postIn 1 (some .int) ({ frames := 0, cells := 0, slots := 0, locals := 0 } : Room) D vwCl (spX ++ E) q ca [.int a0] μ r0 := by
  refine wMi_intro (by decide) (Nat.le_of_ble_eq_true rfl) ?_
  intro p e s m args below meth c A C
  unfold fX0_postIn at hf
  refine wr_sub [(0, .int a0)] [0] rfl ?_
  refine wr_iload_n 0 C dX0_postIn_0 0 rfl rfl ?_
  refine wr_bipush 1 C dX0_postIn_1 (v := 100) rfl ?_
  refine wr_idiv 3 C dX0_postIn_3 (by decide) ?_
  exact wr_iret 4 C dX0_postIn_4 ⟨Nat.zero_le _, Nat.zero_le _⟩ (Option.some.inj hf)
abbrev cX0_childIn : ByteArray := prog_1_method_26_code
def yX0_childIn : MethodName := ⟨RX0, "childIn", "(I)I"⟩
def dkwX0_childIn_0 : List UInt8 := [26, 16, 100, 112, 16, 10, 108, 4, 100, 172]
abbrev dktX0_childIn_0 : List UInt8 := dkwX0_childIn_0 ++ []
theorem dksX0_childIn_0 : cX0_childIn.data.toList.drop 0 = dktX0_childIn_0 := by decide +kernel
theorem dX0_childIn_0 : decode cX0_childIn 0 = .ok (.iload_n 0, 1) := dk_26 (dk_at dksX0_childIn_0 0 rfl rfl)
theorem dX0_childIn_1 : decode cX0_childIn 1 = .ok (.bipush 100, 2) := dk_16 100 (dk_at dksX0_childIn_0 1 rfl rfl)
theorem dX0_childIn_3 : decode cX0_childIn 3 = .ok (.irem, 1) := dk_112 (dk_at dksX0_childIn_0 3 rfl rfl)
theorem dX0_childIn_4 : decode cX0_childIn 4 = .ok (.bipush 10, 2) := dk_16 10 (dk_at dksX0_childIn_0 4 rfl rfl)
theorem dX0_childIn_6 : decode cX0_childIn 6 = .ok (.idiv, 1) := dk_108 (dk_at dksX0_childIn_0 6 rfl rfl)
theorem dX0_childIn_7 : decode cX0_childIn 7 = .ok (.iconst 1, 1) := dk_4 (dk_at dksX0_childIn_0 7 rfl rfl)
theorem dX0_childIn_8 : decode cX0_childIn 8 = .ok (.isub, 1) := dk_100 (dk_at dksX0_childIn_0 8 rfl rfl)
theorem dX0_childIn_9 : decode cX0_childIn 9 = .ok (.ireturn, 1) := dk_172 (dk_at dksX0_childIn_0 9 rfl rfl)

theorem okX0_childIn : wOkS yX0_childIn cX0_childIn 1 (some .int) 1 := ⟨q760, q136, q761, by decide, by decide, by decide +kernel⟩
def fX0_childIn (N : Nat)  (a0 : Int32) (μ : wMem) : Option (Int32 × wMem) :=
  some (((a0 - a0 / (100 : Int32) * (100 : Int32)) / (10 : Int32)) - (1 : Int32), μ)
set_option maxHeartbeats 4000000 in
set_option maxRecDepth 100000 in
theorem tX0_childIn (l : Launch) {D : va_G} {E : List wCell} {q : Nat → Nat} {ca : wCA} (N : Nat)   (a0 : Int32) (μ : wMem) (r0 : (Int32 × wMem)) (hf : fX0_childIn N  a0 μ = some r0) : wMi l yX0_childIn cX0_childIn 1 (some .int) ({ frames := 0, cells := 0, slots := 0, locals := 0 } : Room) D vwCl (spX ++ E) q ca [.int a0] μ r0 := by
  refine wMi_intro (by decide) (Nat.le_of_ble_eq_true rfl) ?_
  intro p e s m args below meth c A C
  unfold fX0_childIn at hf
  refine wr_sub [(0, .int a0)] [0] rfl ?_
  refine wr_iload_n 0 C dX0_childIn_0 0 rfl rfl ?_
  refine wr_bipush 1 C dX0_childIn_1 (v := 100) rfl ?_
  refine wr_irem 3 C dX0_childIn_3 (by decide) ?_
  refine wr_bipush 4 C dX0_childIn_4 (v := 10) rfl ?_
  refine wr_idiv 6 C dX0_childIn_6 (by decide) ?_
  refine wr_iconst 7 C dX0_childIn_7 (v := 1) rfl ?_
  refine wr_isub 8 C dX0_childIn_8 ?_
  exact wr_iret 9 C dX0_childIn_9 ⟨Nat.zero_le _, Nat.zero_le _⟩ (Option.some.inj hf)
abbrev cX0_does : ByteArray := prog_1_method_30_code
def yX0_does : MethodName := ⟨RX0, "does", "(I)V"⟩
def dkwX0_does_5 : List UInt8 := [181, 0, 185, 42, 4, 42, 180, 0, 182, 100, 181, 0, 182, 177]
abbrev dktX0_does_5 : List UInt8 := dkwX0_does_5 ++ []
def dkwX0_does_4 : List UInt8 := [16, 7, 126, 128, 42, 180, 0, 182, 128, 167, 0, 14, 42, 180, 0, 185, 4, 120, 42, 180, 0, 182, 128]
abbrev dktX0_does_4 : List UInt8 := dkwX0_does_4 ++ dktX0_does_5
def dkwX0_does_3 : List UInt8 := [180, 0, 24, 4, 28, 79, 42, 42, 180, 0, 185, 16, 8, 161, 0, 23, 16, 8, 42, 180, 0, 185, 4, 120]
abbrev dktX0_does_3 : List UInt8 := dkwX0_does_3 ++ dktX0_does_4
def dkwX0_does_2 : List UInt8 := [184, 0, 198, 28, 79, 42, 180, 0, 12, 180, 0, 211, 153, 0, 17, 42, 180, 0, 24, 3, 28, 79, 42]
abbrev dktX0_does_2 : List UInt8 := dkwX0_does_2 ++ dktX0_does_3
def dkwX0_does_1 : List UInt8 := [2, 160, 0, 7, 3, 167, 0, 9, 4, 27, 184, 0, 201, 120, 128, 130, 181, 0, 179, 42, 180, 0, 24, 27]
abbrev dktX0_does_1 : List UInt8 := dkwX0_does_1 ++ dktX0_does_2
def dkwX0_does_0 : List UInt8 := [27, 17, 0, 200, 159, 0, 117, 27, 184, 0, 204, 61, 42, 89, 180, 0, 179, 4, 28, 120, 27, 184, 0, 201]
abbrev dktX0_does_0 : List UInt8 := dkwX0_does_0 ++ dktX0_does_1
theorem dksX0_does_0 : cX0_does.data.toList.drop 0 = dktX0_does_0 := by decide +kernel
theorem dksX0_does_1 : cX0_does.data.toList.drop 24 = dktX0_does_1 := dk_seg dksX0_does_0 24 rfl rfl
theorem dksX0_does_2 : cX0_does.data.toList.drop 48 = dktX0_does_2 := dk_seg dksX0_does_1 24 rfl rfl
theorem dksX0_does_3 : cX0_does.data.toList.drop 71 = dktX0_does_3 := dk_seg dksX0_does_2 23 rfl rfl
theorem dksX0_does_4 : cX0_does.data.toList.drop 95 = dktX0_does_4 := dk_seg dksX0_does_3 24 rfl rfl
theorem dksX0_does_5 : cX0_does.data.toList.drop 118 = dktX0_does_5 := dk_seg dksX0_does_4 23 rfl rfl
theorem dX0_does_0 : decode cX0_does 0 = .ok (.iload_n 1, 1) := dk_27 (dk_at dksX0_does_0 0 rfl rfl)
theorem dX0_does_1 : decode cX0_does 1 = .ok (.sipush 200, 3) := dk_17 0 200 (dk_at dksX0_does_0 1 rfl rfl)
theorem dX0_does_4 : decode cX0_does 4 = .ok (.if_icmp .eq 117, 3) := dk_159 0 117 (dk_at dksX0_does_0 4 rfl rfl)
theorem dX0_does_7 : decode cX0_does 7 = .ok (.iload_n 1, 1) := dk_27 (dk_at dksX0_does_0 7 rfl rfl)
theorem dX0_does_8 : decode cX0_does 8 = .ok (.invokestatic 204, 3) := dk_184 0 204 (dk_at dksX0_does_0 8 rfl rfl)
theorem dX0_does_11 : decode cX0_does 11 = .ok (.istore_n 2, 1) := dk_61 (dk_at dksX0_does_0 11 rfl rfl)
theorem dX0_does_12 : decode cX0_does 12 = .ok (.aload_n 0, 1) := dk_42 (dk_at dksX0_does_0 12 rfl rfl)
theorem dX0_does_13 : decode cX0_does 13 = .ok (.dup, 1) := dk_89 (dk_at dksX0_does_0 13 rfl rfl)
theorem dX0_does_14 : decode cX0_does 14 = .ok (.getfield 179, 3) := dk_180 0 179 (dk_at dksX0_does_0 14 rfl rfl)
theorem dX0_does_17 : decode cX0_does 17 = .ok (.iconst 1, 1) := dk_4 (dk_at dksX0_does_0 17 rfl rfl)
theorem dX0_does_18 : decode cX0_does 18 = .ok (.iload_n 2, 1) := dk_28 (dk_at dksX0_does_0 18 rfl rfl)
theorem dX0_does_19 : decode cX0_does 19 = .ok (.ishl, 1) := dk_120 (dk_at dksX0_does_0 19 rfl rfl)
theorem dX0_does_20 : decode cX0_does 20 = .ok (.iload_n 1, 1) := dk_27 (dk_at dksX0_does_0 20 rfl rfl)
theorem dX0_does_21 : decode cX0_does 21 = .ok (.invokestatic 201, 3) := dk_184 0 201 (dk_at dksX0_does_0 21 rfl rfl)
theorem dX0_does_24 : decode cX0_does 24 = .ok (.iconst (-1), 1) := dk_2 (dk_at dksX0_does_1 0 rfl rfl)
theorem dX0_does_25 : decode cX0_does 25 = .ok (.if_icmp .ne 7, 3) := dk_160 0 7 (dk_at dksX0_does_1 1 rfl rfl)
theorem dX0_does_28 : decode cX0_does 28 = .ok (.iconst 0, 1) := dk_3 (dk_at dksX0_does_1 4 rfl rfl)
theorem dX0_does_29 : decode cX0_does 29 = .ok (.goto 9, 3) := dk_167 0 9 (dk_at dksX0_does_1 5 rfl rfl)
theorem dX0_does_32 : decode cX0_does 32 = .ok (.iconst 1, 1) := dk_4 (dk_at dksX0_does_1 8 rfl rfl)
theorem dX0_does_33 : decode cX0_does 33 = .ok (.iload_n 1, 1) := dk_27 (dk_at dksX0_does_1 9 rfl rfl)
theorem dX0_does_34 : decode cX0_does 34 = .ok (.invokestatic 201, 3) := dk_184 0 201 (dk_at dksX0_does_1 10 rfl rfl)
theorem dX0_does_37 : decode cX0_does 37 = .ok (.ishl, 1) := dk_120 (dk_at dksX0_does_1 13 rfl rfl)
theorem dX0_does_38 : decode cX0_does 38 = .ok (.ior, 1) := dk_128 (dk_at dksX0_does_1 14 rfl rfl)
theorem dX0_does_39 : decode cX0_does 39 = .ok (.ixor, 1) := dk_130 (dk_at dksX0_does_1 15 rfl rfl)
theorem dX0_does_40 : decode cX0_does 40 = .ok (.putfield 179, 3) := dk_181 0 179 (dk_at dksX0_does_1 16 rfl rfl)
theorem dX0_does_43 : decode cX0_does 43 = .ok (.aload_n 0, 1) := dk_42 (dk_at dksX0_does_1 19 rfl rfl)
theorem dX0_does_44 : decode cX0_does 44 = .ok (.getfield 24, 3) := dk_180 0 24 (dk_at dksX0_does_1 20 rfl rfl)
theorem dX0_does_47 : decode cX0_does 47 = .ok (.iload_n 1, 1) := dk_27 (dk_at dksX0_does_1 23 rfl rfl)
theorem dX0_does_48 : decode cX0_does 48 = .ok (.invokestatic 198, 3) := dk_184 0 198 (dk_at dksX0_does_2 0 rfl rfl)
theorem dX0_does_51 : decode cX0_does 51 = .ok (.iload_n 2, 1) := dk_28 (dk_at dksX0_does_2 3 rfl rfl)
theorem dX0_does_52 : decode cX0_does 52 = .ok (.iastore, 1) := dk_79 (dk_at dksX0_does_2 4 rfl rfl)
theorem dX0_does_53 : decode cX0_does 53 = .ok (.aload_n 0, 1) := dk_42 (dk_at dksX0_does_2 5 rfl rfl)
theorem dX0_does_54 : decode cX0_does 54 = .ok (.getfield 12, 3) := dk_180 0 12 (dk_at dksX0_does_2 6 rfl rfl)
theorem dX0_does_57 : decode cX0_does 57 = .ok (.getfield 211, 3) := dk_180 0 211 (dk_at dksX0_does_2 9 rfl rfl)
theorem dX0_does_60 : decode cX0_does 60 = .ok (.ifCond .eq 17, 3) := dk_153 0 17 (dk_at dksX0_does_2 12 rfl rfl)
theorem dX0_does_63 : decode cX0_does 63 = .ok (.aload_n 0, 1) := dk_42 (dk_at dksX0_does_2 15 rfl rfl)
theorem dX0_does_64 : decode cX0_does 64 = .ok (.getfield 24, 3) := dk_180 0 24 (dk_at dksX0_does_2 16 rfl rfl)
theorem dX0_does_67 : decode cX0_does 67 = .ok (.iconst 0, 1) := dk_3 (dk_at dksX0_does_2 19 rfl rfl)
theorem dX0_does_68 : decode cX0_does 68 = .ok (.iload_n 2, 1) := dk_28 (dk_at dksX0_does_2 20 rfl rfl)
theorem dX0_does_69 : decode cX0_does 69 = .ok (.iastore, 1) := dk_79 (dk_at dksX0_does_2 21 rfl rfl)
theorem dX0_does_70 : decode cX0_does 70 = .ok (.aload_n 0, 1) := dk_42 (dk_at dksX0_does_2 22 rfl rfl)
theorem dX0_does_71 : decode cX0_does 71 = .ok (.getfield 24, 3) := dk_180 0 24 (dk_at dksX0_does_3 0 rfl rfl)
theorem dX0_does_74 : decode cX0_does 74 = .ok (.iconst 1, 1) := dk_4 (dk_at dksX0_does_3 3 rfl rfl)
theorem dX0_does_75 : decode cX0_does 75 = .ok (.iload_n 2, 1) := dk_28 (dk_at dksX0_does_3 4 rfl rfl)
theorem dX0_does_76 : decode cX0_does 76 = .ok (.iastore, 1) := dk_79 (dk_at dksX0_does_3 5 rfl rfl)
theorem dX0_does_77 : decode cX0_does 77 = .ok (.aload_n 0, 1) := dk_42 (dk_at dksX0_does_3 6 rfl rfl)
theorem dX0_does_78 : decode cX0_does 78 = .ok (.aload_n 0, 1) := dk_42 (dk_at dksX0_does_3 7 rfl rfl)
theorem dX0_does_79 : decode cX0_does 79 = .ok (.getfield 185, 3) := dk_180 0 185 (dk_at dksX0_does_3 8 rfl rfl)
theorem dX0_does_82 : decode cX0_does 82 = .ok (.bipush 8, 2) := dk_16 8 (dk_at dksX0_does_3 11 rfl rfl)
theorem dX0_does_84 : decode cX0_does 84 = .ok (.if_icmp .lt 23, 3) := dk_161 0 23 (dk_at dksX0_does_3 13 rfl rfl)
theorem dX0_does_87 : decode cX0_does 87 = .ok (.bipush 8, 2) := dk_16 8 (dk_at dksX0_does_3 16 rfl rfl)
theorem dX0_does_89 : decode cX0_does 89 = .ok (.aload_n 0, 1) := dk_42 (dk_at dksX0_does_3 18 rfl rfl)
theorem dX0_does_90 : decode cX0_does 90 = .ok (.getfield 185, 3) := dk_180 0 185 (dk_at dksX0_does_3 19 rfl rfl)
theorem dX0_does_93 : decode cX0_does 93 = .ok (.iconst 1, 1) := dk_4 (dk_at dksX0_does_3 22 rfl rfl)
theorem dX0_does_94 : decode cX0_does 94 = .ok (.ishl, 1) := dk_120 (dk_at dksX0_does_3 23 rfl rfl)
theorem dX0_does_95 : decode cX0_does 95 = .ok (.bipush 7, 2) := dk_16 7 (dk_at dksX0_does_4 0 rfl rfl)
theorem dX0_does_97 : decode cX0_does 97 = .ok (.iand, 1) := dk_126 (dk_at dksX0_does_4 2 rfl rfl)
theorem dX0_does_98 : decode cX0_does 98 = .ok (.ior, 1) := dk_128 (dk_at dksX0_does_4 3 rfl rfl)
theorem dX0_does_99 : decode cX0_does 99 = .ok (.aload_n 0, 1) := dk_42 (dk_at dksX0_does_4 4 rfl rfl)
theorem dX0_does_100 : decode cX0_does 100 = .ok (.getfield 182, 3) := dk_180 0 182 (dk_at dksX0_does_4 5 rfl rfl)
theorem dX0_does_103 : decode cX0_does 103 = .ok (.ior, 1) := dk_128 (dk_at dksX0_does_4 8 rfl rfl)
theorem dX0_does_104 : decode cX0_does 104 = .ok (.goto 14, 3) := dk_167 0 14 (dk_at dksX0_does_4 9 rfl rfl)
theorem dX0_does_107 : decode cX0_does 107 = .ok (.aload_n 0, 1) := dk_42 (dk_at dksX0_does_4 12 rfl rfl)
theorem dX0_does_108 : decode cX0_does 108 = .ok (.getfield 185, 3) := dk_180 0 185 (dk_at dksX0_does_4 13 rfl rfl)
theorem dX0_does_111 : decode cX0_does 111 = .ok (.iconst 1, 1) := dk_4 (dk_at dksX0_does_4 16 rfl rfl)
theorem dX0_does_112 : decode cX0_does 112 = .ok (.ishl, 1) := dk_120 (dk_at dksX0_does_4 17 rfl rfl)
theorem dX0_does_113 : decode cX0_does 113 = .ok (.aload_n 0, 1) := dk_42 (dk_at dksX0_does_4 18 rfl rfl)
theorem dX0_does_114 : decode cX0_does 114 = .ok (.getfield 182, 3) := dk_180 0 182 (dk_at dksX0_does_4 19 rfl rfl)
theorem dX0_does_117 : decode cX0_does 117 = .ok (.ior, 1) := dk_128 (dk_at dksX0_does_4 22 rfl rfl)
theorem dX0_does_118 : decode cX0_does 118 = .ok (.putfield 185, 3) := dk_181 0 185 (dk_at dksX0_does_5 0 rfl rfl)
theorem dX0_does_121 : decode cX0_does 121 = .ok (.aload_n 0, 1) := dk_42 (dk_at dksX0_does_5 3 rfl rfl)
theorem dX0_does_122 : decode cX0_does 122 = .ok (.iconst 1, 1) := dk_4 (dk_at dksX0_does_5 4 rfl rfl)
theorem dX0_does_123 : decode cX0_does 123 = .ok (.aload_n 0, 1) := dk_42 (dk_at dksX0_does_5 5 rfl rfl)
theorem dX0_does_124 : decode cX0_does 124 = .ok (.getfield 182, 3) := dk_180 0 182 (dk_at dksX0_does_5 6 rfl rfl)
theorem dX0_does_127 : decode cX0_does 127 = .ok (.isub, 1) := dk_100 (dk_at dksX0_does_5 9 rfl rfl)
theorem dX0_does_128 : decode cX0_does 128 = .ok (.putfield 182, 3) := dk_181 0 182 (dk_at dksX0_does_5 10 rfl rfl)
theorem dX0_does_131 : decode cX0_does 131 = .ok (.return_, 1) := dk_177 (dk_at dksX0_does_5 13 rfl rfl)
theorem gespX_0_5_X0 {p : Program} {l : Launch} {e : Env} {R : Room} {s : State} {m : MethodId} {args : Array Value} {below : List Frame} {meth : Method} {c : Code} {cc : ByteArray} {nL : Nat} {ret : Option FieldType} {D : va_G} {E : List wCell} {q : Nat → Nat} {ca : wCA} {A : Nat → Prop} {Q : State → Prop} {kc ks : Nat} {μ : wMem} {lv : List (Nat × Value)} {st : List Value} (pc : Nat) (C : wC p R s m args meth c cc "OnePassport" nL ret D vwCl (spX ++ E) q ca A) (hd : decode cc pc = .ok (.getfield 179, 3)) (k : wJ p l e R s m args below meth c nL D vwCl (spX ++ E) q ca A Q kc ks μ (pc + 3) lv (.int (μ.1 0 5) :: st)) : wJ p l e R s m args below meth c nL D vwCl (spX ++ E) q ca A Q kc ks μ pc lv (.ref (q 0) :: st) := wr_getI pc 5 C hd spX_0 rfl in_X0 (by decide) rfl q336 k
theorem gespX_0_6_X0 {p : Program} {l : Launch} {e : Env} {R : Room} {s : State} {m : MethodId} {args : Array Value} {below : List Frame} {meth : Method} {c : Code} {cc : ByteArray} {nL : Nat} {ret : Option FieldType} {D : va_G} {E : List wCell} {q : Nat → Nat} {ca : wCA} {A : Nat → Prop} {Q : State → Prop} {kc ks : Nat} {μ : wMem} {lv : List (Nat × Value)} {st : List Value} (pc : Nat) (C : wC p R s m args meth c cc "OnePassport" nL ret D vwCl (spX ++ E) q ca A) (hd : decode cc pc = .ok (.getfield 182, 3)) (k : wJ p l e R s m args below meth c nL D vwCl (spX ++ E) q ca A Q kc ks μ (pc + 3) lv (.int (μ.1 0 6) :: st)) : wJ p l e R s m args below meth c nL D vwCl (spX ++ E) q ca A Q kc ks μ pc lv (.ref (q 0) :: st) := wr_getI pc 6 C hd spX_0 rfl in_X0 (by decide) rfl q337 k
theorem gespX_0_7_X0 {p : Program} {l : Launch} {e : Env} {R : Room} {s : State} {m : MethodId} {args : Array Value} {below : List Frame} {meth : Method} {c : Code} {cc : ByteArray} {nL : Nat} {ret : Option FieldType} {D : va_G} {E : List wCell} {q : Nat → Nat} {ca : wCA} {A : Nat → Prop} {Q : State → Prop} {kc ks : Nat} {μ : wMem} {lv : List (Nat × Value)} {st : List Value} (pc : Nat) (C : wC p R s m args meth c cc "OnePassport" nL ret D vwCl (spX ++ E) q ca A) (hd : decode cc pc = .ok (.getfield 185, 3)) (k : wJ p l e R s m args below meth c nL D vwCl (spX ++ E) q ca A Q kc ks μ (pc + 3) lv (.int (μ.1 0 7) :: st)) : wJ p l e R s m args below meth c nL D vwCl (spX ++ E) q ca A Q kc ks μ pc lv (.ref (q 0) :: st) := wr_getI pc 7 C hd spX_0 rfl in_X0 (by decide) rfl q338 k
theorem gespX_1_7_X0 {p : Program} {l : Launch} {e : Env} {R : Room} {s : State} {m : MethodId} {args : Array Value} {below : List Frame} {meth : Method} {c : Code} {cc : ByteArray} {nL : Nat} {ret : Option FieldType} {D : va_G} {E : List wCell} {q : Nat → Nat} {ca : wCA} {A : Nat → Prop} {Q : State → Prop} {kc ks : Nat} {μ : wMem} {lv : List (Nat × Value)} {st : List Value} (pc : Nat) (C : wC p R s m args meth c cc "OnePassport" nL ret D vwCl (spX ++ E) q ca A) (hd : decode cc pc = .ok (.getfield 211, 3)) (k : wJ p l e R s m args below meth c nL D vwCl (spX ++ E) q ca A Q kc ks μ (pc + 3) lv (.int (μ.1 1 7) :: st)) : wJ p l e R s m args below meth c nL D vwCl (spX ++ E) q ca A Q kc ks μ pc lv (.ref (q 1) :: st) := wr_getNI pc 7 C hd spX_1 rfl in_X1 (by decide) rfl q205 k
theorem okX0_does : wOkV yX0_does cX0_does 3 none 1 := ⟨q757, qs22, q136, q758, by decide, by decide, by decide +kernel⟩
def fX0_does (N : Nat)  (a1 : Int32) (μ : wMem) : Option wMem :=
  wLet (fun  (μ1 : wMem) => wLet (wSI μ1 0 6 ((1 : Int32) - (μ1.1 0 6))) fun μ2 => some μ2) fun Jdoes121 => if a1 = (200 : Int32) then Jdoes121  μ else wBind (fX0_personIn N  a1 μ) fun v6 μ5 => wBind (fX0_childIn N  a1 μ5) fun v9 μ8 => wLet (fun (v11 : Int32) (v12 : Int32) (v13 : Int32) (μ10 : wMem) => wLet (wSI μ10 0 5 (v13 ^^^ (v12 ||| v11))) fun μ14 => wBind (fX0_postIn N  a1 μ14) fun v17 μ16 => wG (ok_in v17 2) (wLet (wSI μ16 9 (Int32.toNatClampNeg v17) v6) fun μ19 => wLet (fun  (μ20 : wMem) => wLet (fun (v22 : Int32) (μ21 : wMem) => wLet (wSI μ21 0 7 v22) fun μ23 => Jdoes121  μ23) fun Jdoes118 => if (μ20.1 0 7) < (8 : Int32) then Jdoes118 (((μ20.1 0 7) <<< ((1 : Int32) &&& 31)) ||| (μ20.1 0 6)) μ20 else Jdoes118 (((8 : Int32) ||| (((μ20.1 0 7) <<< ((1 : Int32) &&& 31)) &&& (7 : Int32))) ||| (μ20.1 0 6)) μ20) fun Jdoes77 => if (μ19.1 1 7) = 0 then Jdoes77  μ19 else wG (ok_in (0 : Int32) 2) (wLet (wSI μ19 9 (Int32.toNatClampNeg (0 : Int32)) v6) fun μ27 => wG (ok_in (1 : Int32) 2) (wLet (wSI μ27 9 (Int32.toNatClampNeg (1 : Int32)) v6) fun μ29 => Jdoes77  μ29)))) fun Jdoes38 => if v9 = (-1 : Int32) then Jdoes38 0 ((1 : Int32) <<< (v6 &&& 31)) (μ5.1 0 5) μ8 else wBind (fX0_childIn N  a1 μ8) fun v33 μ32 => Jdoes38 ((1 : Int32) <<< (v33 &&& 31)) ((1 : Int32) <<< (v6 &&& 31)) (μ5.1 0 5) μ32
set_option maxHeartbeats 4000000 in
set_option maxRecDepth 100000 in
theorem tX0_does (l : Launch) {D : va_G} {E : List wCell} {q : Nat → Nat} {ca : wCA} (N : Nat)   (a1 : Int32) (μ : wMem) (r0 : wMem) (hf : fX0_does N  a1 μ = some r0) : wMv l yX0_does cX0_does 3 none ({ frames := 1, cells := 0, slots := 0, locals := 20 } : Room) D vwCl (spX ++ E) q ca [.ref (q 0), .int a1] μ r0 := by
  refine wMv_intro (by decide) (Nat.le_of_ble_eq_true rfl) ?_
  intro p e s m args below meth c A C
  unfold fX0_does at hf
  refine wr_sub [(0, .ref (q 0)), (1, .int a1)] [0, 1] rfl ?_
  refine wr_iload_n 0 C dX0_does_0 1 rfl rfl ?_
  refine wr_sipush 1 C dX0_does_1 (v := 200) rfl ?_
  obtain ⟨Jdoes121, eJdoes121, hf⟩ := o_let hf
  have hJdoes121 : ∀  (μ1 : wMem), Jdoes121  μ1 = some r0 → wJ p l e ({ frames := 1, cells := 0, slots := 0, locals := 20 } : Room) s m args below meth c 3 D vwCl (spX ++ E) q ca A (wQv ({ frames := 1, cells := 0, slots := 0, locals := 20 } : Room) D vwCl (spX ++ E) q ca below args s A r0) 0 0 μ1 121 [(0, .ref (q 0))] [] := by
    intro  μ1 hf
    rw [eJdoes121] at hf
    refine wr_aload_n 121 C dX0_does_121 0 rfl rfl ?_
    refine wr_iconst 122 C dX0_does_122 (v := 1) rfl ?_
    refine wr_aload_n 123 C dX0_does_123 0 rfl rfl ?_
    refine gespX_0_6_X0 124 C dX0_does_124 ?_
    refine wr_isub 127 C dX0_does_127 ?_
    obtain ⟨μ2, eμ2, hf⟩ := o_let hf
    refine puspX_0_6_X0 128 C dX0_does_128 eμ2 ?_
    exact wr_vret 131 C dX0_does_131 ⟨Nat.zero_le _, Nat.zero_le _⟩ (Option.some.inj hf)
  refine wr_icmp_eq 4 121 C dX0_does_4 (by decide) (fun c3 => ?_) (fun c3 => ?_)
  · replace hf := o_pos c3 hf
    refine wr_sub [(0, .ref (q 0))] [0] rfl ?_
    exact hJdoes121  μ hf
  · replace hf := o_neg c3 hf
    refine wr_iload_n 7 C dX0_does_7 1 rfl rfl ?_
    obtain ⟨v6, μ5, h4, hf⟩ := o_bind hf
    refine wr_Si (kc1 := 0) (ks1 := 0) 8 [] C dX0_does_8 (tX0_personIn l N   a1 μ (v6, μ5) h4) okX0_personIn q749 ⟨rfl, rfl, Nat.le_of_ble_eq_true rfl, Nat.le_of_ble_eq_true rfl, Nat.zero_le _, Nat.zero_le _⟩ (Nat.le_of_ble_eq_true rfl) rfl ?_
    refine wr_istore_n 11 [(2, .int v6), (0, .ref (q 0)), (1, .int a1)] C dX0_does_11 rfl rfl (Nat.le_of_ble_eq_true rfl) rfl ?_
    refine wr_aload_n 12 C dX0_does_12 1 rfl rfl ?_
    refine wr_dup 13 C dX0_does_13 rfl ?_
    refine gespX_0_5_X0 14 C dX0_does_14 ?_
    refine wr_iconst 17 C dX0_does_17 (v := 1) rfl ?_
    refine wr_iload_n 18 C dX0_does_18 0 rfl rfl ?_
    refine wr_ishl 19 C dX0_does_19 ?_
    refine wr_iload_n 20 C dX0_does_20 2 rfl rfl ?_
    obtain ⟨v9, μ8, h7, hf⟩ := o_bind hf
    refine wr_Si (kc1 := 0) (ks1 := 0) 21 [.int ((1 : Int32) <<< (v6 &&& 31)), .int (μ5.1 0 5), .ref (q 0)] C dX0_does_21 (tX0_childIn l N   a1 μ5 (v9, μ8) h7) okX0_childIn q759 ⟨rfl, rfl, Nat.le_of_ble_eq_true rfl, Nat.le_of_ble_eq_true rfl, Nat.zero_le _, Nat.zero_le _⟩ (Nat.le_of_ble_eq_true rfl) rfl ?_
    refine wr_iconst 24 C dX0_does_24 (v := (-1)) rfl ?_
    obtain ⟨Jdoes38, eJdoes38, hf⟩ := o_let hf
    have hJdoes38 : ∀ (v11 : Int32) (v12 : Int32) (v13 : Int32) (μ10 : wMem), Jdoes38 v11 v12 v13 μ10 = some r0 → wJ p l e ({ frames := 1, cells := 0, slots := 0, locals := 20 } : Room) s m args below meth c 3 D vwCl (spX ++ E) q ca A (wQv ({ frames := 1, cells := 0, slots := 0, locals := 20 } : Room) D vwCl (spX ++ E) q ca below args s A r0) 0 0 μ10 38 [(0, .ref (q 0)), (1, .int a1), (2, .int v6)] [.int v11, .int v12, .int v13, .ref (q 0)] := by
      intro v11 v12 v13 μ10 hf
      rw [eJdoes38] at hf
      refine wr_ior 38 C dX0_does_38 ?_
      refine wr_ixor 39 C dX0_does_39 ?_
      obtain ⟨μ14, eμ14, hf⟩ := o_let hf
      refine puspX_0_5_X0 40 C dX0_does_40 eμ14 ?_
      refine wr_aload_n 43 C dX0_does_43 0 rfl rfl ?_
      refine gespX_0_8_X0 44 C dX0_does_44 ?_
      refine wr_iload_n 47 C dX0_does_47 1 rfl rfl ?_
      obtain ⟨v17, μ16, h15, hf⟩ := o_bind hf
      refine wr_Si (kc1 := 0) (ks1 := 0) 48 [.ref (q 9)] C dX0_does_48 (tX0_postIn l N   a1 μ14 (v17, μ16) h15) okX0_postIn q752 ⟨rfl, rfl, Nat.le_of_ble_eq_true rfl, Nat.le_of_ble_eq_true rfl, Nat.zero_le _, Nat.zero_le _⟩ (Nat.le_of_ble_eq_true rfl) rfl ?_
      refine wr_iload_n 51 C dX0_does_51 2 rfl rfl ?_
      obtain ⟨g18, hf⟩ := o_g hf
      obtain ⟨μ19, eμ19, hf⟩ := o_let hf
      refine wr_iast 52 C dX0_does_52 spX_9 g18 eμ19 ?_
      refine wr_aload_n 53 C dX0_does_53 0 rfl rfl ?_
      refine gespX_0_0_X0 54 C dX0_does_54 ?_
      refine gespX_1_7_X0 57 C dX0_does_57 ?_
      obtain ⟨Jdoes77, eJdoes77, hf⟩ := o_let hf
      have hJdoes77 : ∀  (μ20 : wMem), Jdoes77  μ20 = some r0 → wJ p l e ({ frames := 1, cells := 0, slots := 0, locals := 20 } : Room) s m args below meth c 3 D vwCl (spX ++ E) q ca A (wQv ({ frames := 1, cells := 0, slots := 0, locals := 20 } : Room) D vwCl (spX ++ E) q ca below args s A r0) 0 0 μ20 77 [(0, .ref (q 0))] [] := by
        intro  μ20 hf
        rw [eJdoes77] at hf
        refine wr_aload_n 77 C dX0_does_77 0 rfl rfl ?_
        refine wr_aload_n 78 C dX0_does_78 0 rfl rfl ?_
        refine gespX_0_7_X0 79 C dX0_does_79 ?_
        refine wr_bipush 82 C dX0_does_82 (v := 8) rfl ?_
        obtain ⟨Jdoes118, eJdoes118, hf⟩ := o_let hf
        have hJdoes118 : ∀ (v22 : Int32) (μ21 : wMem), Jdoes118 v22 μ21 = some r0 → wJ p l e ({ frames := 1, cells := 0, slots := 0, locals := 20 } : Room) s m args below meth c 3 D vwCl (spX ++ E) q ca A (wQv ({ frames := 1, cells := 0, slots := 0, locals := 20 } : Room) D vwCl (spX ++ E) q ca below args s A r0) 0 0 μ21 118 [(0, .ref (q 0))] [.int v22, .ref (q 0)] := by
          intro v22 μ21 hf
          rw [eJdoes118] at hf
          obtain ⟨μ23, eμ23, hf⟩ := o_let hf
          refine puspX_0_7_X0 118 C dX0_does_118 eμ23 ?_
          exact hJdoes121  μ23 hf
        refine wr_icmp_lt 84 107 C dX0_does_84 (by decide) (fun c24 => ?_) (fun c24 => ?_)
        · replace hf := o_pos c24 hf
          refine wr_aload_n 107 C dX0_does_107 0 rfl rfl ?_
          refine gespX_0_7_X0 108 C dX0_does_108 ?_
          refine wr_iconst 111 C dX0_does_111 (v := 1) rfl ?_
          refine wr_ishl 112 C dX0_does_112 ?_
          refine wr_aload_n 113 C dX0_does_113 0 rfl rfl ?_
          refine gespX_0_6_X0 114 C dX0_does_114 ?_
          refine wr_ior 117 C dX0_does_117 ?_
          exact hJdoes118 (((μ20.1 0 7) <<< ((1 : Int32) &&& 31)) ||| (μ20.1 0 6)) μ20 hf
        · replace hf := o_neg c24 hf
          refine wr_bipush 87 C dX0_does_87 (v := 8) rfl ?_
          refine wr_aload_n 89 C dX0_does_89 0 rfl rfl ?_
          refine gespX_0_7_X0 90 C dX0_does_90 ?_
          refine wr_iconst 93 C dX0_does_93 (v := 1) rfl ?_
          refine wr_ishl 94 C dX0_does_94 ?_
          refine wr_bipush 95 C dX0_does_95 (v := 7) rfl ?_
          refine wr_iand 97 C dX0_does_97 ?_
          refine wr_ior 98 C dX0_does_98 ?_
          refine wr_aload_n 99 C dX0_does_99 0 rfl rfl ?_
          refine gespX_0_6_X0 100 C dX0_does_100 ?_
          refine wr_ior 103 C dX0_does_103 ?_
          refine wr_goto 104 C dX0_does_104 (tgt := 118) (by decide) ?_
          exact hJdoes118 (((8 : Int32) ||| (((μ20.1 0 7) <<< ((1 : Int32) &&& 31)) &&& (7 : Int32))) ||| (μ20.1 0 6)) μ20 hf
      refine wr_if_eq 60 77 C dX0_does_60 (by decide) (fun c25 => ?_) (fun c25 => ?_)
      · replace hf := o_pos c25 hf
        refine wr_sub [(0, .ref (q 0))] [0] rfl ?_
        exact hJdoes77  μ19 hf
      · replace hf := o_neg c25 hf
        refine wr_aload_n 63 C dX0_does_63 0 rfl rfl ?_
        refine gespX_0_8_X0 64 C dX0_does_64 ?_
        refine wr_iconst 67 C dX0_does_67 (v := 0) rfl ?_
        refine wr_iload_n 68 C dX0_does_68 2 rfl rfl ?_
        obtain ⟨g26, hf⟩ := o_g hf
        obtain ⟨μ27, eμ27, hf⟩ := o_let hf
        refine wr_iast 69 C dX0_does_69 spX_9 g26 eμ27 ?_
        refine wr_aload_n 70 C dX0_does_70 0 rfl rfl ?_
        refine gespX_0_8_X0 71 C dX0_does_71 ?_
        refine wr_iconst 74 C dX0_does_74 (v := 1) rfl ?_
        refine wr_iload_n 75 C dX0_does_75 2 rfl rfl ?_
        obtain ⟨g28, hf⟩ := o_g hf
        obtain ⟨μ29, eμ29, hf⟩ := o_let hf
        refine wr_iast 76 C dX0_does_76 spX_9 g28 eμ29 ?_
        refine wr_sub [(0, .ref (q 0))] [0] rfl ?_
        exact hJdoes77  μ29 hf
    refine wr_icmp_ne 25 32 C dX0_does_25 (by decide) (fun c30 => ?_) (fun c30 => ?_)
    · replace hf := o_neg c30 hf
      refine wr_iconst 32 C dX0_does_32 (v := 1) rfl ?_
      refine wr_iload_n 33 C dX0_does_33 2 rfl rfl ?_
      obtain ⟨v33, μ32, h31, hf⟩ := o_bind hf
      refine wr_Si (kc1 := 0) (ks1 := 0) 34 [.int 1, .int ((1 : Int32) <<< (v6 &&& 31)), .int (μ5.1 0 5), .ref (q 0)] C dX0_does_34 (tX0_childIn l N   a1 μ8 (v33, μ32) h31) okX0_childIn q759 ⟨rfl, rfl, Nat.le_of_ble_eq_true rfl, Nat.le_of_ble_eq_true rfl, Nat.zero_le _, Nat.zero_le _⟩ (Nat.le_of_ble_eq_true rfl) rfl ?_
      refine wr_ishl 37 C dX0_does_37 ?_
      refine wr_sub [(0, .ref (q 0)), (1, .int a1), (2, .int v6)] [1, 2, 0] rfl ?_
      exact hJdoes38 ((1 : Int32) <<< (v33 &&& 31)) ((1 : Int32) <<< (v6 &&& 31)) (μ5.1 0 5) μ32 hf
    · replace hf := o_pos c30 hf
      refine wr_iconst 28 C dX0_does_28 (v := 0) rfl ?_
      refine wr_goto 29 C dX0_does_29 (tgt := 38) (by decide) ?_
      refine wr_sub [(0, .ref (q 0)), (1, .int a1), (2, .int v6)] [1, 2, 0] rfl ?_
      exact hJdoes38 0 ((1 : Int32) <<< (v6 &&& 31)) (μ5.1 0 5) μ8 hf
abbrev cX0_does0 : ByteArray := prog_1_method_33_code
def yX0_does0 : MethodName := ⟨RX0, "does0", "(I)V"⟩
def dkwX0_does0_2 : List UInt8 := [27, 184, 0, 198, 182, 0, 149, 96, 181, 0, 228, 42, 27, 182, 0, 243, 177]
abbrev dktX0_does0_2 : List UInt8 := dkwX0_does0_2 ++ []
def dkwX0_does0_1 : List UInt8 := [181, 0, 225, 42, 89, 180, 0, 228, 27, 17, 0, 200, 160, 0, 7, 3, 167, 0, 15, 42, 27, 184, 0, 204]
abbrev dktX0_does0_1 : List UInt8 := dkwX0_does0_1 ++ dktX0_does0_2
def dkwX0_does0_0 : List UInt8 := [42, 89, 180, 0, 225, 27, 17, 0, 200, 160, 0, 13, 42, 180, 0, 12, 180, 0, 240, 167, 0, 4, 4, 96]
abbrev dktX0_does0_0 : List UInt8 := dkwX0_does0_0 ++ dktX0_does0_1
theorem dksX0_does0_0 : cX0_does0.data.toList.drop 0 = dktX0_does0_0 := by decide +kernel
theorem dksX0_does0_1 : cX0_does0.data.toList.drop 24 = dktX0_does0_1 := dk_seg dksX0_does0_0 24 rfl rfl
theorem dksX0_does0_2 : cX0_does0.data.toList.drop 48 = dktX0_does0_2 := dk_seg dksX0_does0_1 24 rfl rfl
theorem dX0_does0_0 : decode cX0_does0 0 = .ok (.aload_n 0, 1) := dk_42 (dk_at dksX0_does0_0 0 rfl rfl)
theorem dX0_does0_1 : decode cX0_does0 1 = .ok (.dup, 1) := dk_89 (dk_at dksX0_does0_0 1 rfl rfl)
theorem dX0_does0_2 : decode cX0_does0 2 = .ok (.getfield 225, 3) := dk_180 0 225 (dk_at dksX0_does0_0 2 rfl rfl)
theorem dX0_does0_5 : decode cX0_does0 5 = .ok (.iload_n 1, 1) := dk_27 (dk_at dksX0_does0_0 5 rfl rfl)
theorem dX0_does0_6 : decode cX0_does0 6 = .ok (.sipush 200, 3) := dk_17 0 200 (dk_at dksX0_does0_0 6 rfl rfl)
theorem dX0_does0_9 : decode cX0_does0 9 = .ok (.if_icmp .ne 13, 3) := dk_160 0 13 (dk_at dksX0_does0_0 9 rfl rfl)
theorem dX0_does0_12 : decode cX0_does0 12 = .ok (.aload_n 0, 1) := dk_42 (dk_at dksX0_does0_0 12 rfl rfl)
theorem dX0_does0_13 : decode cX0_does0 13 = .ok (.getfield 12, 3) := dk_180 0 12 (dk_at dksX0_does0_0 13 rfl rfl)
theorem dX0_does0_16 : decode cX0_does0 16 = .ok (.getfield 240, 3) := dk_180 0 240 (dk_at dksX0_does0_0 16 rfl rfl)
theorem dX0_does0_19 : decode cX0_does0 19 = .ok (.goto 4, 3) := dk_167 0 4 (dk_at dksX0_does0_0 19 rfl rfl)
theorem dX0_does0_22 : decode cX0_does0 22 = .ok (.iconst 1, 1) := dk_4 (dk_at dksX0_does0_0 22 rfl rfl)
theorem dX0_does0_23 : decode cX0_does0 23 = .ok (.iadd, 1) := dk_96 (dk_at dksX0_does0_0 23 rfl rfl)
theorem dX0_does0_24 : decode cX0_does0 24 = .ok (.putfield 225, 3) := dk_181 0 225 (dk_at dksX0_does0_1 0 rfl rfl)
theorem dX0_does0_27 : decode cX0_does0 27 = .ok (.aload_n 0, 1) := dk_42 (dk_at dksX0_does0_1 3 rfl rfl)
theorem dX0_does0_28 : decode cX0_does0 28 = .ok (.dup, 1) := dk_89 (dk_at dksX0_does0_1 4 rfl rfl)
theorem dX0_does0_29 : decode cX0_does0 29 = .ok (.getfield 228, 3) := dk_180 0 228 (dk_at dksX0_does0_1 5 rfl rfl)
theorem dX0_does0_32 : decode cX0_does0 32 = .ok (.iload_n 1, 1) := dk_27 (dk_at dksX0_does0_1 8 rfl rfl)
theorem dX0_does0_33 : decode cX0_does0 33 = .ok (.sipush 200, 3) := dk_17 0 200 (dk_at dksX0_does0_1 9 rfl rfl)
theorem dX0_does0_36 : decode cX0_does0 36 = .ok (.if_icmp .ne 7, 3) := dk_160 0 7 (dk_at dksX0_does0_1 12 rfl rfl)
theorem dX0_does0_39 : decode cX0_does0 39 = .ok (.iconst 0, 1) := dk_3 (dk_at dksX0_does0_1 15 rfl rfl)
theorem dX0_does0_40 : decode cX0_does0 40 = .ok (.goto 15, 3) := dk_167 0 15 (dk_at dksX0_does0_1 16 rfl rfl)
theorem dX0_does0_43 : decode cX0_does0 43 = .ok (.aload_n 0, 1) := dk_42 (dk_at dksX0_does0_1 19 rfl rfl)
theorem dX0_does0_44 : decode cX0_does0 44 = .ok (.iload_n 1, 1) := dk_27 (dk_at dksX0_does0_1 20 rfl rfl)
theorem dX0_does0_45 : decode cX0_does0 45 = .ok (.invokestatic 204, 3) := dk_184 0 204 (dk_at dksX0_does0_1 21 rfl rfl)
theorem dX0_does0_48 : decode cX0_does0 48 = .ok (.iload_n 1, 1) := dk_27 (dk_at dksX0_does0_2 0 rfl rfl)
theorem dX0_does0_49 : decode cX0_does0 49 = .ok (.invokestatic 198, 3) := dk_184 0 198 (dk_at dksX0_does0_2 1 rfl rfl)
theorem dX0_does0_52 : decode cX0_does0 52 = .ok (.invokevirtual 149, 3) := dk_182 0 149 (dk_at dksX0_does0_2 4 rfl rfl)
theorem dX0_does0_55 : decode cX0_does0 55 = .ok (.iadd, 1) := dk_96 (dk_at dksX0_does0_2 7 rfl rfl)
theorem dX0_does0_56 : decode cX0_does0 56 = .ok (.putfield 228, 3) := dk_181 0 228 (dk_at dksX0_does0_2 8 rfl rfl)
theorem dX0_does0_59 : decode cX0_does0 59 = .ok (.aload_n 0, 1) := dk_42 (dk_at dksX0_does0_2 11 rfl rfl)
theorem dX0_does0_60 : decode cX0_does0 60 = .ok (.iload_n 1, 1) := dk_27 (dk_at dksX0_does0_2 12 rfl rfl)
theorem dX0_does0_61 : decode cX0_does0 61 = .ok (.invokevirtual 243, 3) := dk_182 0 243 (dk_at dksX0_does0_2 13 rfl rfl)
theorem dX0_does0_64 : decode cX0_does0 64 = .ok (.return_, 1) := dk_177 (dk_at dksX0_does0_2 16 rfl rfl)
theorem gespX_0_9_X0 {p : Program} {l : Launch} {e : Env} {R : Room} {s : State} {m : MethodId} {args : Array Value} {below : List Frame} {meth : Method} {c : Code} {cc : ByteArray} {nL : Nat} {ret : Option FieldType} {D : va_G} {E : List wCell} {q : Nat → Nat} {ca : wCA} {A : Nat → Prop} {Q : State → Prop} {kc ks : Nat} {μ : wMem} {lv : List (Nat × Value)} {st : List Value} (pc : Nat) (C : wC p R s m args meth c cc "OnePassport" nL ret D vwCl (spX ++ E) q ca A) (hd : decode cc pc = .ok (.getfield 225, 3)) (k : wJ p l e R s m args below meth c nL D vwCl (spX ++ E) q ca A Q kc ks μ (pc + 3) lv (.int (μ.1 0 9) :: st)) : wJ p l e R s m args below meth c nL D vwCl (spX ++ E) q ca A Q kc ks μ pc lv (.ref (q 0) :: st) := wr_getI pc 9 C hd spX_0 rfl in_X0 (by decide) rfl q340 k
theorem puspX_0_9_X0 {p : Program} {l : Launch} {e : Env} {R : Room} {s : State} {m : MethodId} {args : Array Value} {below : List Frame} {meth : Method} {c : Code} {cc : ByteArray} {nL : Nat} {ret : Option FieldType} {D : va_G} {E : List wCell} {q : Nat → Nat} {ca : wCA} {A : Nat → Prop} {Q : State → Prop} {kc ks : Nat} {μ : wMem} {lv : List (Nat × Value)} {st : List Value} {v : Int32} {μ1 : wMem} (pc : Nat) (C : wC p R s m args meth c cc "OnePassport" nL ret D vwCl (spX ++ E) q ca A) (hd : decode cc pc = .ok (.putfield 225, 3)) (hμ : μ1 = wSI μ 0 9 v) (k : wJ p l e R s m args below meth c nL D vwCl (spX ++ E) q ca A Q kc ks μ1 (pc + 3) lv st) : wJ p l e R s m args below meth c nL D vwCl (spX ++ E) q ca A Q kc ks μ pc lv (.int v :: .ref (q 0) :: st) := wr_putI pc 9 C hd spX_0 rfl in_X0 tyX0 tyX0_ok nmX0 (by decide) rfl q340 rfl rfl hμ k
theorem gespX_0_10_X0 {p : Program} {l : Launch} {e : Env} {R : Room} {s : State} {m : MethodId} {args : Array Value} {below : List Frame} {meth : Method} {c : Code} {cc : ByteArray} {nL : Nat} {ret : Option FieldType} {D : va_G} {E : List wCell} {q : Nat → Nat} {ca : wCA} {A : Nat → Prop} {Q : State → Prop} {kc ks : Nat} {μ : wMem} {lv : List (Nat × Value)} {st : List Value} (pc : Nat) (C : wC p R s m args meth c cc "OnePassport" nL ret D vwCl (spX ++ E) q ca A) (hd : decode cc pc = .ok (.getfield 228, 3)) (k : wJ p l e R s m args below meth c nL D vwCl (spX ++ E) q ca A Q kc ks μ (pc + 3) lv (.int (μ.1 0 10) :: st)) : wJ p l e R s m args below meth c nL D vwCl (spX ++ E) q ca A Q kc ks μ pc lv (.ref (q 0) :: st) := wr_getI pc 10 C hd spX_0 rfl in_X0 (by decide) rfl q341 k
theorem puspX_0_10_X0 {p : Program} {l : Launch} {e : Env} {R : Room} {s : State} {m : MethodId} {args : Array Value} {below : List Frame} {meth : Method} {c : Code} {cc : ByteArray} {nL : Nat} {ret : Option FieldType} {D : va_G} {E : List wCell} {q : Nat → Nat} {ca : wCA} {A : Nat → Prop} {Q : State → Prop} {kc ks : Nat} {μ : wMem} {lv : List (Nat × Value)} {st : List Value} {v : Int32} {μ1 : wMem} (pc : Nat) (C : wC p R s m args meth c cc "OnePassport" nL ret D vwCl (spX ++ E) q ca A) (hd : decode cc pc = .ok (.putfield 228, 3)) (hμ : μ1 = wSI μ 0 10 v) (k : wJ p l e R s m args below meth c nL D vwCl (spX ++ E) q ca A Q kc ks μ1 (pc + 3) lv st) : wJ p l e R s m args below meth c nL D vwCl (spX ++ E) q ca A Q kc ks μ pc lv (.int v :: .ref (q 0) :: st) := wr_putI pc 10 C hd spX_0 rfl in_X0 tyX0 tyX0_ok nmX0 (by decide) rfl q341 rfl rfl hμ k
theorem gespX_1_0_X0 {p : Program} {l : Launch} {e : Env} {R : Room} {s : State} {m : MethodId} {args : Array Value} {below : List Frame} {meth : Method} {c : Code} {cc : ByteArray} {nL : Nat} {ret : Option FieldType} {D : va_G} {E : List wCell} {q : Nat → Nat} {ca : wCA} {A : Nat → Prop} {Q : State → Prop} {kc ks : Nat} {μ : wMem} {lv : List (Nat × Value)} {st : List Value} (pc : Nat) (C : wC p R s m args meth c cc "OnePassport" nL ret D vwCl (spX ++ E) q ca A) (hd : decode cc pc = .ok (.getfield 240, 3)) (k : wJ p l e R s m args below meth c nL D vwCl (spX ++ E) q ca A Q kc ks μ (pc + 3) lv (.int (μ.1 1 0) :: st)) : wJ p l e R s m args below meth c nL D vwCl (spX ++ E) q ca A Q kc ks μ pc lv (.ref (q 1) :: st) := wr_getNI pc 0 C hd spX_1 rfl in_X1 (by decide) rfl q185 k
theorem okX0_does0 : wOkV yX0_does0 cX0_does0 2 none 1 := ⟨q747, qs21, q136, q748, by decide, by decide, by decide +kernel⟩
def fX0_does0 (N : Nat)  (a1 : Int32) (μ : wMem) : Option wMem :=
  wLet (fun (v2 : Int32) (v3 : Int32) (μ1 : wMem) => wLet (wSI μ1 0 9 (v3 + v2)) fun μ4 => wLet (fun (v6 : Int32) (v7 : Int32) (μ5 : wMem) => wLet (wSI μ5 0 10 (v7 + v6)) fun μ8 => wBindV (fX0_does N  a1 μ8) fun μ10 => some μ10) fun Jdoes055 => if a1 = (200 : Int32) then Jdoes055 0 (μ4.1 0 10) μ4 else wBind (fX0_personIn N  a1 μ4) fun v14 μ13 => wBind (fX0_postIn N  a1 μ13) fun v17 μ16 => wBind (fX0_riskOf N  v14 v17 μ16) fun v20 μ19 => Jdoes055 v20 (μ4.1 0 10) μ19) fun Jdoes023 => if a1 = (200 : Int32) then Jdoes023 (μ.1 1 0) (μ.1 0 9) μ else Jdoes023 1 (μ.1 0 9) μ
set_option maxHeartbeats 4000000 in
set_option maxRecDepth 100000 in
theorem tX0_does0 (l : Launch) {D : va_G} {E : List wCell} {q : Nat → Nat} {ca : wCA} (N : Nat)   (a1 : Int32) (μ : wMem) (r0 : wMem) (hf : fX0_does0 N  a1 μ = some r0) : wMv l yX0_does0 cX0_does0 2 none ({ frames := 2, cells := 0, slots := 0, locals := 42 } : Room) D vwCl (spX ++ E) q ca [.ref (q 0), .int a1] μ r0 := by
  refine wMv_intro (by decide) (Nat.le_of_ble_eq_true rfl) ?_
  intro p e s m args below meth c A C
  unfold fX0_does0 at hf
  refine wr_sub [(0, .ref (q 0)), (1, .int a1)] [0, 1] rfl ?_
  refine wr_aload_n 0 C dX0_does0_0 0 rfl rfl ?_
  refine wr_dup 1 C dX0_does0_1 rfl ?_
  refine gespX_0_9_X0 2 C dX0_does0_2 ?_
  refine wr_iload_n 5 C dX0_does0_5 1 rfl rfl ?_
  refine wr_sipush 6 C dX0_does0_6 (v := 200) rfl ?_
  obtain ⟨Jdoes023, eJdoes023, hf⟩ := o_let hf
  have hJdoes023 : ∀ (v2 : Int32) (v3 : Int32) (μ1 : wMem), Jdoes023 v2 v3 μ1 = some r0 → wJ p l e ({ frames := 2, cells := 0, slots := 0, locals := 42 } : Room) s m args below meth c 2 D vwCl (spX ++ E) q ca A (wQv ({ frames := 2, cells := 0, slots := 0, locals := 42 } : Room) D vwCl (spX ++ E) q ca below args s A r0) 0 0 μ1 23 [(0, .ref (q 0)), (1, .int a1)] [.int v2, .int v3, .ref (q 0)] := by
    intro v2 v3 μ1 hf
    rw [eJdoes023] at hf
    refine wr_iadd 23 C dX0_does0_23 ?_
    obtain ⟨μ4, eμ4, hf⟩ := o_let hf
    refine puspX_0_9_X0 24 C dX0_does0_24 eμ4 ?_
    refine wr_aload_n 27 C dX0_does0_27 0 rfl rfl ?_
    refine wr_dup 28 C dX0_does0_28 rfl ?_
    refine gespX_0_10_X0 29 C dX0_does0_29 ?_
    refine wr_iload_n 32 C dX0_does0_32 1 rfl rfl ?_
    refine wr_sipush 33 C dX0_does0_33 (v := 200) rfl ?_
    obtain ⟨Jdoes055, eJdoes055, hf⟩ := o_let hf
    have hJdoes055 : ∀ (v6 : Int32) (v7 : Int32) (μ5 : wMem), Jdoes055 v6 v7 μ5 = some r0 → wJ p l e ({ frames := 2, cells := 0, slots := 0, locals := 42 } : Room) s m args below meth c 2 D vwCl (spX ++ E) q ca A (wQv ({ frames := 2, cells := 0, slots := 0, locals := 42 } : Room) D vwCl (spX ++ E) q ca below args s A r0) 0 0 μ5 55 [(0, .ref (q 0)), (1, .int a1)] [.int v6, .int v7, .ref (q 0)] := by
      intro v6 v7 μ5 hf
      rw [eJdoes055] at hf
      refine wr_iadd 55 C dX0_does0_55 ?_
      obtain ⟨μ8, eμ8, hf⟩ := o_let hf
      refine puspX_0_10_X0 56 C dX0_does0_56 eμ8 ?_
      refine wr_aload_n 59 C dX0_does0_59 0 rfl rfl ?_
      refine wr_iload_n 60 C dX0_does0_60 1 rfl rfl ?_
      obtain ⟨μ10, h9, hf⟩ := o_bindV hf
      refine wr_Vv (kc1 := 0) (ks1 := 0) 61 [] C dX0_does0_61 (tX0_does l N   a1 μ8 μ10 h9) okX0_does q755 (b := 0) spX_0 rfl ⟨rfl, rfl, Nat.le_of_ble_eq_true rfl, Nat.le_of_ble_eq_true rfl, Nat.zero_le _, Nat.zero_le _⟩ (Nat.le_of_ble_eq_true rfl) rfl ?_
      exact wr_vret 64 C dX0_does0_64 ⟨Nat.zero_le _, Nat.zero_le _⟩ (Option.some.inj hf)
    refine wr_icmp_ne 36 43 C dX0_does0_36 (by decide) (fun c11 => ?_) (fun c11 => ?_)
    · replace hf := o_neg c11 hf
      refine wr_aload_n 43 C dX0_does0_43 0 rfl rfl ?_
      refine wr_iload_n 44 C dX0_does0_44 1 rfl rfl ?_
      obtain ⟨v14, μ13, h12, hf⟩ := o_bind hf
      refine wr_Si (kc1 := 0) (ks1 := 0) 45 [.ref (q 0), .int (μ4.1 0 10), .ref (q 0)] C dX0_does0_45 (tX0_personIn l N   a1 μ4 (v14, μ13) h12) okX0_personIn q749 ⟨rfl, rfl, Nat.le_of_ble_eq_true rfl, Nat.le_of_ble_eq_true rfl, Nat.zero_le _, Nat.zero_le _⟩ (Nat.le_of_ble_eq_true rfl) rfl ?_
      refine wr_iload_n 48 C dX0_does0_48 1 rfl rfl ?_
      obtain ⟨v17, μ16, h15, hf⟩ := o_bind hf
      refine wr_Si (kc1 := 0) (ks1 := 0) 49 [.int v14, .ref (q 0), .int (μ4.1 0 10), .ref (q 0)] C dX0_does0_49 (tX0_postIn l N   a1 μ13 (v17, μ16) h15) okX0_postIn q752 ⟨rfl, rfl, Nat.le_of_ble_eq_true rfl, Nat.le_of_ble_eq_true rfl, Nat.zero_le _, Nat.zero_le _⟩ (Nat.le_of_ble_eq_true rfl) rfl ?_
      obtain ⟨v20, μ19, h18, hf⟩ := o_bind hf
      refine wr_Vi (kc1 := 0) (ks1 := 0) 52 [.int (μ4.1 0 10), .ref (q 0)] C dX0_does0_52 (tX0_riskOf l N   v14 v17 μ16 (v20, μ19) h18) okX0_riskOf q710 (b := 0) spX_0 rfl ⟨rfl, rfl, Nat.le_of_ble_eq_true rfl, Nat.le_of_ble_eq_true rfl, Nat.zero_le _, Nat.zero_le _⟩ (Nat.le_of_ble_eq_true rfl) rfl ?_
      exact hJdoes055 v20 (μ4.1 0 10) μ19 hf
    · replace hf := o_pos c11 hf
      refine wr_iconst 39 C dX0_does0_39 (v := 0) rfl ?_
      refine wr_goto 40 C dX0_does0_40 (tgt := 55) (by decide) ?_
      exact hJdoes055 0 (μ4.1 0 10) μ4 hf
  refine wr_icmp_ne 9 22 C dX0_does0_9 (by decide) (fun c21 => ?_) (fun c21 => ?_)
  · replace hf := o_neg c21 hf
    refine wr_iconst 22 C dX0_does0_22 (v := 1) rfl ?_
    exact hJdoes023 1 (μ.1 0 9) μ hf
  · replace hf := o_pos c21 hf
    refine wr_aload_n 12 C dX0_does0_12 0 rfl rfl ?_
    refine gespX_0_0_X0 13 C dX0_does0_13 ?_
    refine gespX_1_0_X0 16 C dX0_does0_16 ?_
    refine wr_goto 19 C dX0_does0_19 (tgt := 23) (by decide) ?_
    exact hJdoes023 (μ.1 1 0) (μ.1 0 9) μ hf
abbrev cX0_asItIs : ByteArray := prog_1_method_32_code
def yX0_asItIs : MethodName := ⟨RX0, "asItIs", "()V"⟩
def dkwX0_asItIs_1 : List UInt8 := [162, 0, 22, 42, 42, 180, 0, 12, 180, 0, 234, 27, 46, 182, 0, 237, 132, 1, 1, 167, 255, 229, 177]
abbrev dktX0_asItIs_1 : List UInt8 := dkwX0_asItIs_1 ++ []
def dkwX0_asItIs_0 : List UInt8 := [42, 182, 0, 222, 42, 3, 181, 0, 225, 42, 3, 181, 0, 228, 3, 60, 27, 42, 180, 0, 12, 180, 0, 231]
abbrev dktX0_asItIs_0 : List UInt8 := dkwX0_asItIs_0 ++ dktX0_asItIs_1
theorem dksX0_asItIs_0 : cX0_asItIs.data.toList.drop 0 = dktX0_asItIs_0 := by decide +kernel
theorem dksX0_asItIs_1 : cX0_asItIs.data.toList.drop 24 = dktX0_asItIs_1 := dk_seg dksX0_asItIs_0 24 rfl rfl
theorem dX0_asItIs_0 : decode cX0_asItIs 0 = .ok (.aload_n 0, 1) := dk_42 (dk_at dksX0_asItIs_0 0 rfl rfl)
theorem dX0_asItIs_1 : decode cX0_asItIs 1 = .ok (.invokevirtual 222, 3) := dk_182 0 222 (dk_at dksX0_asItIs_0 1 rfl rfl)
theorem dX0_asItIs_4 : decode cX0_asItIs 4 = .ok (.aload_n 0, 1) := dk_42 (dk_at dksX0_asItIs_0 4 rfl rfl)
theorem dX0_asItIs_5 : decode cX0_asItIs 5 = .ok (.iconst 0, 1) := dk_3 (dk_at dksX0_asItIs_0 5 rfl rfl)
theorem dX0_asItIs_6 : decode cX0_asItIs 6 = .ok (.putfield 225, 3) := dk_181 0 225 (dk_at dksX0_asItIs_0 6 rfl rfl)
theorem dX0_asItIs_9 : decode cX0_asItIs 9 = .ok (.aload_n 0, 1) := dk_42 (dk_at dksX0_asItIs_0 9 rfl rfl)
theorem dX0_asItIs_10 : decode cX0_asItIs 10 = .ok (.iconst 0, 1) := dk_3 (dk_at dksX0_asItIs_0 10 rfl rfl)
theorem dX0_asItIs_11 : decode cX0_asItIs 11 = .ok (.putfield 228, 3) := dk_181 0 228 (dk_at dksX0_asItIs_0 11 rfl rfl)
theorem dX0_asItIs_14 : decode cX0_asItIs 14 = .ok (.iconst 0, 1) := dk_3 (dk_at dksX0_asItIs_0 14 rfl rfl)
theorem dX0_asItIs_15 : decode cX0_asItIs 15 = .ok (.istore_n 1, 1) := dk_60 (dk_at dksX0_asItIs_0 15 rfl rfl)
theorem dX0_asItIs_16 : decode cX0_asItIs 16 = .ok (.iload_n 1, 1) := dk_27 (dk_at dksX0_asItIs_0 16 rfl rfl)
theorem dX0_asItIs_17 : decode cX0_asItIs 17 = .ok (.aload_n 0, 1) := dk_42 (dk_at dksX0_asItIs_0 17 rfl rfl)
theorem dX0_asItIs_18 : decode cX0_asItIs 18 = .ok (.getfield 12, 3) := dk_180 0 12 (dk_at dksX0_asItIs_0 18 rfl rfl)
theorem dX0_asItIs_21 : decode cX0_asItIs 21 = .ok (.getfield 231, 3) := dk_180 0 231 (dk_at dksX0_asItIs_0 21 rfl rfl)
theorem dX0_asItIs_24 : decode cX0_asItIs 24 = .ok (.if_icmp .ge 22, 3) := dk_162 0 22 (dk_at dksX0_asItIs_1 0 rfl rfl)
theorem dX0_asItIs_27 : decode cX0_asItIs 27 = .ok (.aload_n 0, 1) := dk_42 (dk_at dksX0_asItIs_1 3 rfl rfl)
theorem dX0_asItIs_28 : decode cX0_asItIs 28 = .ok (.aload_n 0, 1) := dk_42 (dk_at dksX0_asItIs_1 4 rfl rfl)
theorem dX0_asItIs_29 : decode cX0_asItIs 29 = .ok (.getfield 12, 3) := dk_180 0 12 (dk_at dksX0_asItIs_1 5 rfl rfl)
theorem dX0_asItIs_32 : decode cX0_asItIs 32 = .ok (.getfield 234, 3) := dk_180 0 234 (dk_at dksX0_asItIs_1 8 rfl rfl)
theorem dX0_asItIs_35 : decode cX0_asItIs 35 = .ok (.iload_n 1, 1) := dk_27 (dk_at dksX0_asItIs_1 11 rfl rfl)
theorem dX0_asItIs_36 : decode cX0_asItIs 36 = .ok (.iaload, 1) := dk_46 (dk_at dksX0_asItIs_1 12 rfl rfl)
theorem dX0_asItIs_37 : decode cX0_asItIs 37 = .ok (.invokevirtual 237, 3) := dk_182 0 237 (dk_at dksX0_asItIs_1 13 rfl rfl)
theorem dX0_asItIs_40 : decode cX0_asItIs 40 = .ok (.iinc 1 1, 3) := dk_132 1 1 (dk_at dksX0_asItIs_1 16 rfl rfl)
theorem dX0_asItIs_43 : decode cX0_asItIs 43 = .ok (.goto (-27), 3) := dk_167 255 229 (dk_at dksX0_asItIs_1 19 rfl rfl)
theorem dX0_asItIs_46 : decode cX0_asItIs 46 = .ok (.return_, 1) := dk_177 (dk_at dksX0_asItIs_1 22 rfl rfl)
theorem gespX_1_6_X0 {p : Program} {l : Launch} {e : Env} {R : Room} {s : State} {m : MethodId} {args : Array Value} {below : List Frame} {meth : Method} {c : Code} {cc : ByteArray} {nL : Nat} {ret : Option FieldType} {D : va_G} {E : List wCell} {q : Nat → Nat} {ca : wCA} {A : Nat → Prop} {Q : State → Prop} {kc ks : Nat} {μ : wMem} {lv : List (Nat × Value)} {st : List Value} (pc : Nat) (C : wC p R s m args meth c cc "OnePassport" nL ret D vwCl (spX ++ E) q ca A) (hd : decode cc pc = .ok (.getfield 231, 3)) (k : wJ p l e R s m args below meth c nL D vwCl (spX ++ E) q ca A Q kc ks μ (pc + 3) lv (.int (μ.1 1 6) :: st)) : wJ p l e R s m args below meth c nL D vwCl (spX ++ E) q ca A Q kc ks μ pc lv (.ref (q 1) :: st) := wr_getNI pc 6 C hd spX_1 rfl in_X1 (by decide) rfl q202 k
theorem gespX_1_13_X0 {p : Program} {l : Launch} {e : Env} {R : Room} {s : State} {m : MethodId} {args : Array Value} {below : List Frame} {meth : Method} {c : Code} {cc : ByteArray} {nL : Nat} {ret : Option FieldType} {D : va_G} {E : List wCell} {q : Nat → Nat} {ca : wCA} {A : Nat → Prop} {Q : State → Prop} {kc ks : Nat} {μ : wMem} {lv : List (Nat × Value)} {st : List Value} (pc : Nat) (C : wC p R s m args meth c cc "OnePassport" nL ret D vwCl (spX ++ E) q ca A) (hd : decode cc pc = .ok (.getfield 234, 3)) (k : wJ p l e R s m args below meth c nL D vwCl (spX ++ E) q ca A Q kc ks μ (pc + 3) lv (.ref (q 7) :: st)) : wJ p l e R s m args below meth c nL D vwCl (spX ++ E) q ca A Q kc ks μ pc lv (.ref (q 1) :: st) := wr_getNR pc 13 C hd spX_1 rfl in_X1 (by decide) rfl q222 k
theorem okX0_asItIs : wOkV yX0_asItIs cX0_asItIs 2 none 0 := ⟨q739, qs19, q136, q740, by decide, by decide, by decide +kernel⟩
def gbX0_asItIs_16 (N : Nat)   (K : (wMem → Option wMem)) (rec : (Int32 → wMem → Option wMem)) (x1_ : Int32) (μ : wMem) : Option wMem :=
  if (μ.1 1 6) ≤ x1_ then K  μ else wG (ok_in x1_ 40) (wBindV (fX0_does0 N  (μ.1 7 (Int32.toNatClampNeg x1_)) μ) fun μ8 => wLet (x1_ + 1 : Int32) fun x9 => rec x9 μ8)
def gX0_asItIs_16 (N : Nat)   (K : (wMem → Option wMem)) : Nat → (Int32 → wMem → Option wMem)
  | 0 => fun _ _ => none
  | k + 1 => gbX0_asItIs_16 N   K (gX0_asItIs_16 N   K k)
set_option maxHeartbeats 4000000 in
set_option maxRecDepth 100000 in
theorem tX0_asItIs_16 {p : Program} {l : Launch} {e : Env} {s : State} {m : MethodId} {args : Array Value} {below : List Frame} {meth : Method} {c : Code} {D : va_G} {E : List wCell} {q : Nat → Nat} {ca : wCA} {A : Nat → Prop} (C : wC p ({ frames := 3, cells := 0, slots := 0, locals := 63 } : Room) s m args meth c cX0_asItIs yX0_asItIs.cls 2 none D vwCl (spX ++ E) q ca A) (N : Nat)    (K : (wMem → Option wMem)) (r0 : wMem) (hK : ∀  (μ : wMem), K  μ = some r0 → wJ p l e ({ frames := 3, cells := 0, slots := 0, locals := 63 } : Room) s m args below meth c 2 D vwCl (spX ++ E) q ca A (wQv ({ frames := 3, cells := 0, slots := 0, locals := 63 } : Room) D vwCl (spX ++ E) q ca below args s A r0) 0 0 μ 46 [] []) : ∀ (k : Nat) (x1_ : Int32) (μ : wMem), gX0_asItIs_16 N   K k x1_ μ = some r0 → wJ p l e ({ frames := 3, cells := 0, slots := 0, locals := 63 } : Room) s m args below meth c 2 D vwCl (spX ++ E) q ca A (wQv ({ frames := 3, cells := 0, slots := 0, locals := 63 } : Room) D vwCl (spX ++ E) q ca below args s A r0) 0 0 μ 16 [(0, .ref (q 0)), (1, .int x1_)] [] := by
  intro k
  induction k with
  | zero =>
    intro x1_ μ hf
    cases hf
  | succ k ih =>
    intro x1_ μ hf
    replace hf : gbX0_asItIs_16 N   K (gX0_asItIs_16 N   K k) x1_ μ = some r0 := hf
    unfold gbX0_asItIs_16 at hf
    refine wr_iload_n 16 C dX0_asItIs_16 1 rfl rfl ?_
    refine wr_aload_n 17 C dX0_asItIs_17 0 rfl rfl ?_
    refine gespX_0_0_X0 18 C dX0_asItIs_18 ?_
    refine gespX_1_6_X0 21 C dX0_asItIs_21 ?_
    refine wr_icmp_ge 24 46 C dX0_asItIs_24 (by decide) (fun c5 => ?_) (fun c5 => ?_)
    · replace hf := o_pos c5 hf
      refine wr_sub [] [] rfl ?_
      exact hK  μ hf
    · replace hf := o_neg c5 hf
      refine wr_aload_n 27 C dX0_asItIs_27 0 rfl rfl ?_
      refine wr_aload_n 28 C dX0_asItIs_28 0 rfl rfl ?_
      refine gespX_0_0_X0 29 C dX0_asItIs_29 ?_
      refine gespX_1_13_X0 32 C dX0_asItIs_32 ?_
      refine wr_iload_n 35 C dX0_asItIs_35 1 rfl rfl ?_
      obtain ⟨g6, hf⟩ := o_g hf
      refine wr_iald 36 C dX0_asItIs_36 spX_7 g6 ?_
      obtain ⟨μ8, h7, hf⟩ := o_bindV hf
      refine wr_Vv (kc1 := 0) (ks1 := 0) 37 [] C dX0_asItIs_37 (tX0_does0 l N   (μ.1 7 (Int32.toNatClampNeg x1_)) μ μ8 h7) okX0_does0 q745 (b := 0) spX_0 rfl ⟨rfl, rfl, Nat.le_of_ble_eq_true rfl, Nat.le_of_ble_eq_true rfl, Nat.zero_le _, Nat.zero_le _⟩ (Nat.le_of_ble_eq_true rfl) rfl ?_
      obtain ⟨x9, ex9, hf⟩ := o_let hf
      refine wr_iinc 40 [(1, .int x9), (0, .ref (q 0))] C dX0_asItIs_40 1 rfl (ex9.trans rfl) (Nat.le_of_ble_eq_true rfl) rfl ?_
      refine wr_goto 43 C dX0_asItIs_43 (tgt := 16) (by decide) ?_
      refine wr_sub [(0, .ref (q 0)), (1, .int x9)] [1, 0] rfl ?_
      exact ih x9 μ8 hf
def fX0_asItIs (N : Nat)   (μ : wMem) : Option wMem :=
  wBindV (fX0_asAtFirst N   μ) fun μ2 => wLet (wSI μ2 0 9 (0 : Int32)) fun μ3 => wLet (wSI μ3 0 10 (0 : Int32)) fun μ4 => gX0_asItIs_16 N   (fun  (μ10 : wMem) => some μ10) N 0 μ4
set_option maxHeartbeats 4000000 in
set_option maxRecDepth 100000 in
theorem tX0_asItIs (l : Launch) {D : va_G} {E : List wCell} {q : Nat → Nat} {ca : wCA} (N : Nat)    (μ : wMem) (r0 : wMem) (hf : fX0_asItIs N   μ = some r0) : wMv l yX0_asItIs cX0_asItIs 2 none ({ frames := 3, cells := 0, slots := 0, locals := 63 } : Room) D vwCl (spX ++ E) q ca [.ref (q 0)] μ r0 := by
  refine wMv_intro (by decide) (Nat.le_of_ble_eq_true rfl) ?_
  intro p e s m args below meth c A C
  unfold fX0_asItIs at hf
  refine wr_sub [(0, .ref (q 0))] [0] rfl ?_
  refine wr_aload_n 0 C dX0_asItIs_0 0 rfl rfl ?_
  obtain ⟨μ2, h1, hf⟩ := o_bindV hf
  refine wr_Vv (kc1 := 0) (ks1 := 0) 1 [] C dX0_asItIs_1 (tX0_asAtFirst l N    μ μ2 h1) okX0_asAtFirst q741 (b := 0) spX_0 rfl ⟨rfl, rfl, Nat.le_of_ble_eq_true rfl, Nat.le_of_ble_eq_true rfl, Nat.zero_le _, Nat.zero_le _⟩ (Nat.le_of_ble_eq_true rfl) rfl ?_
  refine wr_aload_n 4 C dX0_asItIs_4 0 rfl rfl ?_
  refine wr_iconst 5 C dX0_asItIs_5 (v := 0) rfl ?_
  obtain ⟨μ3, eμ3, hf⟩ := o_let hf
  refine puspX_0_9_X0 6 C dX0_asItIs_6 eμ3 ?_
  refine wr_aload_n 9 C dX0_asItIs_9 0 rfl rfl ?_
  refine wr_iconst 10 C dX0_asItIs_10 (v := 0) rfl ?_
  obtain ⟨μ4, eμ4, hf⟩ := o_let hf
  refine puspX_0_10_X0 11 C dX0_asItIs_11 eμ4 ?_
  refine wr_iconst 14 C dX0_asItIs_14 (v := 0) rfl ?_
  refine wr_istore_n 15 [(1, .int 0), (0, .ref (q 0))] C dX0_asItIs_15 rfl rfl (Nat.le_of_ble_eq_true rfl) rfl ?_
  refine wr_sub [(0, .ref (q 0)), (1, .int 0)] [1, 0] rfl ?_
  refine tX0_asItIs_16 C N    _ r0 (fun  μ10 hf => ?_) N 0 μ4 hf
  · replace hf := hf
    exact wr_vret 46 C dX0_asItIs_46 ⟨Nat.zero_le _, Nat.zero_le _⟩ (Option.some.inj hf)
abbrev cX0_person : ByteArray := prog_1_method_34_code
def yX0_person : MethodName := ⟨RX0, "person", "(II)I"⟩
def dkwX0_person_4 : List UInt8 := [27, 122, 4, 126, 172]
abbrev dktX0_person_4 : List UInt8 := dkwX0_person_4 ++ []
def dkwX0_person_3 : List UInt8 := [180, 0, 168, 27, 122, 4, 126, 172, 42, 180, 0, 12, 180, 0, 219, 27, 122, 4, 126, 172, 42, 180, 0, 179]
abbrev dktX0_person_3 : List UInt8 := dkwX0_person_3 ++ dktX0_person_4
def dkwX0_person_2 : List UInt8 := [42, 180, 0, 12, 180, 0, 140, 27, 46, 172, 42, 180, 0, 12, 180, 0, 153, 27, 46, 172, 42, 180, 0, 12]
abbrev dktX0_person_2 : List UInt8 := dkwX0_person_2 ++ dktX0_person_3
def dkwX0_person_1 : List UInt8 := [170, 0, 0, 0, 0, 0, 0, 76, 0, 0, 0, 0, 0, 0, 0, 3, 0, 0, 0, 32, 0, 0, 0, 42, 0, 0, 0, 52, 0, 0, 0, 64]
abbrev dktX0_person_1 : List UInt8 := dkwX0_person_1 ++ dktX0_person_2
def dkwX0_person_0 : List UInt8 := [42, 27, 182, 0, 134, 153, 0, 11, 28, 8, 184, 0, 246, 154, 0, 6, 16, 254, 172, 42, 182, 0, 249, 28]
abbrev dktX0_person_0 : List UInt8 := dkwX0_person_0 ++ dktX0_person_1
theorem dksX0_person_0 : cX0_person.data.toList.drop 0 = dktX0_person_0 := by decide +kernel
theorem dksX0_person_1 : cX0_person.data.toList.drop 24 = dktX0_person_1 := dk_seg dksX0_person_0 24 rfl rfl
theorem dksX0_person_2 : cX0_person.data.toList.drop 56 = dktX0_person_2 := dk_seg dksX0_person_1 32 rfl rfl
theorem dksX0_person_3 : cX0_person.data.toList.drop 80 = dktX0_person_3 := dk_seg dksX0_person_2 24 rfl rfl
theorem dksX0_person_4 : cX0_person.data.toList.drop 104 = dktX0_person_4 := dk_seg dksX0_person_3 24 rfl rfl
theorem dX0_person_0 : decode cX0_person 0 = .ok (.aload_n 0, 1) := dk_42 (dk_at dksX0_person_0 0 rfl rfl)
theorem dX0_person_1 : decode cX0_person 1 = .ok (.iload_n 1, 1) := dk_27 (dk_at dksX0_person_0 1 rfl rfl)
theorem dX0_person_2 : decode cX0_person 2 = .ok (.invokevirtual 134, 3) := dk_182 0 134 (dk_at dksX0_person_0 2 rfl rfl)
theorem dX0_person_5 : decode cX0_person 5 = .ok (.ifCond .eq 11, 3) := dk_153 0 11 (dk_at dksX0_person_0 5 rfl rfl)
theorem dX0_person_8 : decode cX0_person 8 = .ok (.iload_n 2, 1) := dk_28 (dk_at dksX0_person_0 8 rfl rfl)
theorem dX0_person_9 : decode cX0_person 9 = .ok (.iconst 5, 1) := dk_8 (dk_at dksX0_person_0 9 rfl rfl)
theorem dX0_person_10 : decode cX0_person 10 = .ok (.invokestatic 246, 3) := dk_184 0 246 (dk_at dksX0_person_0 10 rfl rfl)
theorem dX0_person_13 : decode cX0_person 13 = .ok (.ifCond .ne 6, 3) := dk_154 0 6 (dk_at dksX0_person_0 13 rfl rfl)
theorem dX0_person_16 : decode cX0_person 16 = .ok (.bipush (-2), 2) := dk_16 254 (dk_at dksX0_person_0 16 rfl rfl)
theorem dX0_person_18 : decode cX0_person 18 = .ok (.ireturn, 1) := dk_172 (dk_at dksX0_person_0 18 rfl rfl)
theorem dX0_person_19 : decode cX0_person 19 = .ok (.aload_n 0, 1) := dk_42 (dk_at dksX0_person_0 19 rfl rfl)
theorem dX0_person_20 : decode cX0_person 20 = .ok (.invokevirtual 249, 3) := dk_182 0 249 (dk_at dksX0_person_0 20 rfl rfl)
theorem dX0_person_23 : decode cX0_person 23 = .ok (.iload_n 2, 1) := dk_28 (dk_at dksX0_person_0 23 rfl rfl)
theorem dX0_person_24 : decode cX0_person 24 = .ok (.tableswitch 76 0 3 #[32, 42, 52, 64], 32) := by decide +kernel
theorem dX0_person_56 : decode cX0_person 56 = .ok (.aload_n 0, 1) := dk_42 (dk_at dksX0_person_2 0 rfl rfl)
theorem dX0_person_57 : decode cX0_person 57 = .ok (.getfield 12, 3) := dk_180 0 12 (dk_at dksX0_person_2 1 rfl rfl)
theorem dX0_person_60 : decode cX0_person 60 = .ok (.getfield 140, 3) := dk_180 0 140 (dk_at dksX0_person_2 4 rfl rfl)
theorem dX0_person_63 : decode cX0_person 63 = .ok (.iload_n 1, 1) := dk_27 (dk_at dksX0_person_2 7 rfl rfl)
theorem dX0_person_64 : decode cX0_person 64 = .ok (.iaload, 1) := dk_46 (dk_at dksX0_person_2 8 rfl rfl)
theorem dX0_person_65 : decode cX0_person 65 = .ok (.ireturn, 1) := dk_172 (dk_at dksX0_person_2 9 rfl rfl)
theorem dX0_person_66 : decode cX0_person 66 = .ok (.aload_n 0, 1) := dk_42 (dk_at dksX0_person_2 10 rfl rfl)
theorem dX0_person_67 : decode cX0_person 67 = .ok (.getfield 12, 3) := dk_180 0 12 (dk_at dksX0_person_2 11 rfl rfl)
theorem dX0_person_70 : decode cX0_person 70 = .ok (.getfield 153, 3) := dk_180 0 153 (dk_at dksX0_person_2 14 rfl rfl)
theorem dX0_person_73 : decode cX0_person 73 = .ok (.iload_n 1, 1) := dk_27 (dk_at dksX0_person_2 17 rfl rfl)
theorem dX0_person_74 : decode cX0_person 74 = .ok (.iaload, 1) := dk_46 (dk_at dksX0_person_2 18 rfl rfl)
theorem dX0_person_75 : decode cX0_person 75 = .ok (.ireturn, 1) := dk_172 (dk_at dksX0_person_2 19 rfl rfl)
theorem dX0_person_76 : decode cX0_person 76 = .ok (.aload_n 0, 1) := dk_42 (dk_at dksX0_person_2 20 rfl rfl)
theorem dX0_person_77 : decode cX0_person 77 = .ok (.getfield 12, 3) := dk_180 0 12 (dk_at dksX0_person_2 21 rfl rfl)
theorem dX0_person_80 : decode cX0_person 80 = .ok (.getfield 168, 3) := dk_180 0 168 (dk_at dksX0_person_3 0 rfl rfl)
theorem dX0_person_83 : decode cX0_person 83 = .ok (.iload_n 1, 1) := dk_27 (dk_at dksX0_person_3 3 rfl rfl)
theorem dX0_person_84 : decode cX0_person 84 = .ok (.ishr, 1) := dk_122 (dk_at dksX0_person_3 4 rfl rfl)
theorem dX0_person_85 : decode cX0_person 85 = .ok (.iconst 1, 1) := dk_4 (dk_at dksX0_person_3 5 rfl rfl)
theorem dX0_person_86 : decode cX0_person 86 = .ok (.iand, 1) := dk_126 (dk_at dksX0_person_3 6 rfl rfl)
theorem dX0_person_87 : decode cX0_person 87 = .ok (.ireturn, 1) := dk_172 (dk_at dksX0_person_3 7 rfl rfl)
theorem dX0_person_88 : decode cX0_person 88 = .ok (.aload_n 0, 1) := dk_42 (dk_at dksX0_person_3 8 rfl rfl)
theorem dX0_person_89 : decode cX0_person 89 = .ok (.getfield 12, 3) := dk_180 0 12 (dk_at dksX0_person_3 9 rfl rfl)
theorem dX0_person_92 : decode cX0_person 92 = .ok (.getfield 219, 3) := dk_180 0 219 (dk_at dksX0_person_3 12 rfl rfl)
theorem dX0_person_95 : decode cX0_person 95 = .ok (.iload_n 1, 1) := dk_27 (dk_at dksX0_person_3 15 rfl rfl)
theorem dX0_person_96 : decode cX0_person 96 = .ok (.ishr, 1) := dk_122 (dk_at dksX0_person_3 16 rfl rfl)
theorem dX0_person_97 : decode cX0_person 97 = .ok (.iconst 1, 1) := dk_4 (dk_at dksX0_person_3 17 rfl rfl)
theorem dX0_person_98 : decode cX0_person 98 = .ok (.iand, 1) := dk_126 (dk_at dksX0_person_3 18 rfl rfl)
theorem dX0_person_99 : decode cX0_person 99 = .ok (.ireturn, 1) := dk_172 (dk_at dksX0_person_3 19 rfl rfl)
theorem dX0_person_100 : decode cX0_person 100 = .ok (.aload_n 0, 1) := dk_42 (dk_at dksX0_person_3 20 rfl rfl)
theorem dX0_person_101 : decode cX0_person 101 = .ok (.getfield 179, 3) := dk_180 0 179 (dk_at dksX0_person_3 21 rfl rfl)
theorem dX0_person_104 : decode cX0_person 104 = .ok (.iload_n 1, 1) := dk_27 (dk_at dksX0_person_4 0 rfl rfl)
theorem dX0_person_105 : decode cX0_person 105 = .ok (.ishr, 1) := dk_122 (dk_at dksX0_person_4 1 rfl rfl)
theorem dX0_person_106 : decode cX0_person 106 = .ok (.iconst 1, 1) := dk_4 (dk_at dksX0_person_4 2 rfl rfl)
theorem dX0_person_107 : decode cX0_person 107 = .ok (.iand, 1) := dk_126 (dk_at dksX0_person_4 3 rfl rfl)
theorem dX0_person_108 : decode cX0_person 108 = .ok (.ireturn, 1) := dk_172 (dk_at dksX0_person_4 4 rfl rfl)
theorem gespX_1_5_X0 {p : Program} {l : Launch} {e : Env} {R : Room} {s : State} {m : MethodId} {args : Array Value} {below : List Frame} {meth : Method} {c : Code} {cc : ByteArray} {nL : Nat} {ret : Option FieldType} {D : va_G} {E : List wCell} {q : Nat → Nat} {ca : wCA} {A : Nat → Prop} {Q : State → Prop} {kc ks : Nat} {μ : wMem} {lv : List (Nat × Value)} {st : List Value} (pc : Nat) (C : wC p R s m args meth c cc "OnePassport" nL ret D vwCl (spX ++ E) q ca A) (hd : decode cc pc = .ok (.getfield 219, 3)) (k : wJ p l e R s m args below meth c nL D vwCl (spX ++ E) q ca A Q kc ks μ (pc + 3) lv (.int (μ.1 1 5) :: st)) : wJ p l e R s m args below meth c nL D vwCl (spX ++ E) q ca A Q kc ks μ pc lv (.ref (q 1) :: st) := wr_getNI pc 5 C hd spX_1 rfl in_X1 (by decide) rfl q200 k
theorem okX0_person : wOkV yX0_person cX0_person 3 (some .int) 2 := ⟨q731, q732, q136, q733, by decide, by decide, by decide +kernel⟩
def fX0_person (N : Nat)  (a1 : Int32) (a2 : Int32) (μ : wMem) : Option (Int32 × wMem) :=
  wBind (fX0_isPerson N  a1 μ) fun v3 μ2 => wLet (fun  (μ4 : wMem) => some ((-2), μ4)) fun Jperson16 => if v3 = 0 then Jperson16  μ2 else wBind (fX0_isOneOf N  a2 5 μ2) fun v8 μ7 => if v8 = 0 then Jperson16  μ7 else wBindV (fX0_asItIs N   μ7) fun μ11 => if a2 = 0 then wG (ok_in a1 6) (some (μ11.1 2 (Int32.toNatClampNeg a1), μ11)) else if a2 = 1 then wG (ok_in a1 6) (some (μ11.1 3 (Int32.toNatClampNeg a1), μ11)) else if a2 = 2 then some (((μ11.1 1 4) >>> (a1 &&& 31)) &&& (1 : Int32), μ11) else if a2 = 3 then some (((μ11.1 1 5) >>> (a1 &&& 31)) &&& (1 : Int32), μ11) else some (((μ11.1 0 5) >>> (a1 &&& 31)) &&& (1 : Int32), μ11)
set_option maxHeartbeats 4000000 in
set_option maxRecDepth 100000 in
theorem tX0_person (l : Launch) {D : va_G} {E : List wCell} {q : Nat → Nat} {ca : wCA} (N : Nat)   (a1 : Int32) (a2 : Int32) (μ : wMem) (r0 : (Int32 × wMem)) (hf : fX0_person N  a1 a2 μ = some r0) : wMi l yX0_person cX0_person 3 (some .int) ({ frames := 4, cells := 0, slots := 0, locals := 84 } : Room) D vwCl (spX ++ E) q ca [.ref (q 0), .int a1, .int a2] μ r0 := by
  refine wMi_intro (by decide) (Nat.le_of_ble_eq_true rfl) ?_
  intro p e s m args below meth c A C
  unfold fX0_person at hf
  refine wr_sub [(0, .ref (q 0)), (1, .int a1), (2, .int a2)] [0, 1, 2] rfl ?_
  refine wr_aload_n 0 C dX0_person_0 0 rfl rfl ?_
  refine wr_iload_n 1 C dX0_person_1 1 rfl rfl ?_
  obtain ⟨v3, μ2, h1, hf⟩ := o_bind hf
  refine wr_Vi (kc1 := 0) (ks1 := 0) 2 [] C dX0_person_2 (tX0_isPerson l N   a1 μ (v3, μ2) h1) okX0_isPerson q702 (b := 0) spX_0 rfl ⟨rfl, rfl, Nat.le_of_ble_eq_true rfl, Nat.le_of_ble_eq_true rfl, Nat.zero_le _, Nat.zero_le _⟩ (Nat.le_of_ble_eq_true rfl) rfl ?_
  obtain ⟨Jperson16, eJperson16, hf⟩ := o_let hf
  have hJperson16 : ∀  (μ4 : wMem), Jperson16  μ4 = some r0 → wJ p l e ({ frames := 4, cells := 0, slots := 0, locals := 84 } : Room) s m args below meth c 3 D vwCl (spX ++ E) q ca A (wQi ({ frames := 4, cells := 0, slots := 0, locals := 84 } : Room) D vwCl (spX ++ E) q ca below args s A r0) 0 0 μ4 16 [] [] := by
    intro  μ4 hf
    rw [eJperson16] at hf
    refine wr_bipush 16 C dX0_person_16 (v := (-2)) rfl ?_
    exact wr_iret 18 C dX0_person_18 ⟨Nat.zero_le _, Nat.zero_le _⟩ (Option.some.inj hf)
  refine wr_if_eq 5 16 C dX0_person_5 (by decide) (fun c5 => ?_) (fun c5 => ?_)
  · replace hf := o_pos c5 hf
    refine wr_sub [] [] rfl ?_
    exact hJperson16  μ2 hf
  · replace hf := o_neg c5 hf
    refine wr_iload_n 8 C dX0_person_8 2 rfl rfl ?_
    refine wr_iconst 9 C dX0_person_9 (v := 5) rfl ?_
    obtain ⟨v8, μ7, h6, hf⟩ := o_bind hf
    refine wr_Si (kc1 := 0) (ks1 := 0) 10 [] C dX0_person_10 (tX0_isOneOf l N   a2 5 μ2 (v8, μ7) h6) okX0_isOneOf q734 ⟨rfl, rfl, Nat.le_of_ble_eq_true rfl, Nat.le_of_ble_eq_true rfl, Nat.zero_le _, Nat.zero_le _⟩ (Nat.le_of_ble_eq_true rfl) rfl ?_
    refine wr_if_ne 13 19 C dX0_person_13 (by decide) (fun c9 => ?_) (fun c9 => ?_)
    · replace hf := o_neg c9 hf
      refine wr_aload_n 19 C dX0_person_19 0 rfl rfl ?_
      obtain ⟨μ11, h10, hf⟩ := o_bindV hf
      refine wr_Vv (kc1 := 0) (ks1 := 0) 20 [] C dX0_person_20 (tX0_asItIs l N    μ7 μ11 h10) okX0_asItIs q737 (b := 0) spX_0 rfl ⟨rfl, rfl, Nat.le_of_ble_eq_true rfl, Nat.le_of_ble_eq_true rfl, Nat.zero_le _, Nat.zero_le _⟩ (Nat.le_of_ble_eq_true rfl) rfl ?_
      refine wr_iload_n 23 C dX0_person_23 2 rfl rfl ?_
      by_cases c12 : a2 = 0
      · replace hf := o_pos c12 hf
        refine wr_tableIn 24 C dX0_person_24 (off := 32) (tgt := 56) (by rw [c12]; decide) (by rw [c12]; decide) (by rw [c12]; rfl) (by decide) ?_
        refine wr_aload_n 56 C dX0_person_56 0 rfl rfl ?_
        refine gespX_0_0_X0 57 C dX0_person_57 ?_
        refine gespX_1_8_X0 60 C dX0_person_60 ?_
        refine wr_iload_n 63 C dX0_person_63 1 rfl rfl ?_
        obtain ⟨g13, hf⟩ := o_g hf
        refine wr_iald 64 C dX0_person_64 spX_2 g13 ?_
        exact wr_iret 65 C dX0_person_65 ⟨Nat.zero_le _, Nat.zero_le _⟩ (Option.some.inj hf)
      replace hf := o_neg c12 hf
      by_cases c14 : a2 = 1
      · replace hf := o_pos c14 hf
        refine wr_tableIn 24 C dX0_person_24 (off := 42) (tgt := 66) (by rw [c14]; decide) (by rw [c14]; decide) (by rw [c14]; rfl) (by decide) ?_
        refine wr_aload_n 66 C dX0_person_66 0 rfl rfl ?_
        refine gespX_0_0_X0 67 C dX0_person_67 ?_
        refine gespX_1_9_X0 70 C dX0_person_70 ?_
        refine wr_iload_n 73 C dX0_person_73 1 rfl rfl ?_
        obtain ⟨g15, hf⟩ := o_g hf
        refine wr_iald 74 C dX0_person_74 spX_3 g15 ?_
        exact wr_iret 75 C dX0_person_75 ⟨Nat.zero_le _, Nat.zero_le _⟩ (Option.some.inj hf)
      replace hf := o_neg c14 hf
      by_cases c16 : a2 = 2
      · replace hf := o_pos c16 hf
        refine wr_tableIn 24 C dX0_person_24 (off := 52) (tgt := 76) (by rw [c16]; decide) (by rw [c16]; decide) (by rw [c16]; rfl) (by decide) ?_
        refine wr_aload_n 76 C dX0_person_76 0 rfl rfl ?_
        refine gespX_0_0_X0 77 C dX0_person_77 ?_
        refine gespX_1_4_X0 80 C dX0_person_80 ?_
        refine wr_iload_n 83 C dX0_person_83 1 rfl rfl ?_
        refine wr_ishr 84 C dX0_person_84 ?_
        refine wr_iconst 85 C dX0_person_85 (v := 1) rfl ?_
        refine wr_iand 86 C dX0_person_86 ?_
        exact wr_iret 87 C dX0_person_87 ⟨Nat.zero_le _, Nat.zero_le _⟩ (Option.some.inj hf)
      replace hf := o_neg c16 hf
      by_cases c17 : a2 = 3
      · replace hf := o_pos c17 hf
        refine wr_tableIn 24 C dX0_person_24 (off := 64) (tgt := 88) (by rw [c17]; decide) (by rw [c17]; decide) (by rw [c17]; rfl) (by decide) ?_
        refine wr_aload_n 88 C dX0_person_88 0 rfl rfl ?_
        refine gespX_0_0_X0 89 C dX0_person_89 ?_
        refine gespX_1_5_X0 92 C dX0_person_92 ?_
        refine wr_iload_n 95 C dX0_person_95 1 rfl rfl ?_
        refine wr_ishr 96 C dX0_person_96 ?_
        refine wr_iconst 97 C dX0_person_97 (v := 1) rfl ?_
        refine wr_iand 98 C dX0_person_98 ?_
        exact wr_iret 99 C dX0_person_99 ⟨Nat.zero_le _, Nat.zero_le _⟩ (Option.some.inj hf)
      replace hf := o_neg c17 hf
      refine wr_tableOut 24 C dX0_person_24 (tgt := 100) (wSw3 0 a2 c12 c14 c16 c17) (by decide) ?_
      refine wr_aload_n 100 C dX0_person_100 0 rfl rfl ?_
      refine gespX_0_5_X0 101 C dX0_person_101 ?_
      refine wr_iload_n 104 C dX0_person_104 1 rfl rfl ?_
      refine wr_ishr 105 C dX0_person_105 ?_
      refine wr_iconst 106 C dX0_person_106 (v := 1) rfl ?_
      refine wr_iand 107 C dX0_person_107 ?_
      exact wr_iret 108 C dX0_person_108 ⟨Nat.zero_le _, Nat.zero_le _⟩ (Option.some.inj hf)
    · replace hf := o_pos c9 hf
      refine wr_sub [] [] rfl ?_
      exact hJperson16  μ7 hf
abbrev cX0_post : ByteArray := prog_1_method_35_code
def yX0_post : MethodName := ⟨RX0, "post", "(II)I"⟩
def dkwX0_post_3 : List UInt8 := [167, 0, 9, 42, 180, 0, 24, 27, 46, 172]
abbrev dktX0_post_3 : List UInt8 := dkwX0_post_3 ++ []
def dkwX0_post_2 : List UInt8 := [180, 0, 162, 27, 46, 167, 0, 26, 28, 5, 160, 0, 15, 42, 180, 0, 12, 180, 0, 188, 27, 46]
abbrev dktX0_post_2 : List UInt8 := dkwX0_post_2 ++ dktX0_post_3
def dkwX0_post_1 : List UInt8 := [154, 0, 15, 42, 180, 0, 12, 180, 0, 143, 27, 46, 167, 0, 43, 28, 4, 160, 0, 15, 42, 180, 0, 12]
abbrev dktX0_post_1 : List UInt8 := dkwX0_post_1 ++ dktX0_post_2
def dkwX0_post_0 : List UInt8 := [42, 27, 182, 0, 146, 153, 0, 11, 28, 7, 184, 0, 246, 154, 0, 6, 16, 254, 172, 42, 182, 0, 249, 28]
abbrev dktX0_post_0 : List UInt8 := dkwX0_post_0 ++ dktX0_post_1
theorem dksX0_post_0 : cX0_post.data.toList.drop 0 = dktX0_post_0 := by decide +kernel
theorem dksX0_post_1 : cX0_post.data.toList.drop 24 = dktX0_post_1 := dk_seg dksX0_post_0 24 rfl rfl
theorem dksX0_post_2 : cX0_post.data.toList.drop 48 = dktX0_post_2 := dk_seg dksX0_post_1 24 rfl rfl
theorem dksX0_post_3 : cX0_post.data.toList.drop 70 = dktX0_post_3 := dk_seg dksX0_post_2 22 rfl rfl
theorem dX0_post_0 : decode cX0_post 0 = .ok (.aload_n 0, 1) := dk_42 (dk_at dksX0_post_0 0 rfl rfl)
theorem dX0_post_1 : decode cX0_post 1 = .ok (.iload_n 1, 1) := dk_27 (dk_at dksX0_post_0 1 rfl rfl)
theorem dX0_post_2 : decode cX0_post 2 = .ok (.invokevirtual 146, 3) := dk_182 0 146 (dk_at dksX0_post_0 2 rfl rfl)
theorem dX0_post_5 : decode cX0_post 5 = .ok (.ifCond .eq 11, 3) := dk_153 0 11 (dk_at dksX0_post_0 5 rfl rfl)
theorem dX0_post_8 : decode cX0_post 8 = .ok (.iload_n 2, 1) := dk_28 (dk_at dksX0_post_0 8 rfl rfl)
theorem dX0_post_9 : decode cX0_post 9 = .ok (.iconst 4, 1) := dk_7 (dk_at dksX0_post_0 9 rfl rfl)
theorem dX0_post_10 : decode cX0_post 10 = .ok (.invokestatic 246, 3) := dk_184 0 246 (dk_at dksX0_post_0 10 rfl rfl)
theorem dX0_post_13 : decode cX0_post 13 = .ok (.ifCond .ne 6, 3) := dk_154 0 6 (dk_at dksX0_post_0 13 rfl rfl)
theorem dX0_post_16 : decode cX0_post 16 = .ok (.bipush (-2), 2) := dk_16 254 (dk_at dksX0_post_0 16 rfl rfl)
theorem dX0_post_18 : decode cX0_post 18 = .ok (.ireturn, 1) := dk_172 (dk_at dksX0_post_0 18 rfl rfl)
theorem dX0_post_19 : decode cX0_post 19 = .ok (.aload_n 0, 1) := dk_42 (dk_at dksX0_post_0 19 rfl rfl)
theorem dX0_post_20 : decode cX0_post 20 = .ok (.invokevirtual 249, 3) := dk_182 0 249 (dk_at dksX0_post_0 20 rfl rfl)
theorem dX0_post_23 : decode cX0_post 23 = .ok (.iload_n 2, 1) := dk_28 (dk_at dksX0_post_0 23 rfl rfl)
theorem dX0_post_24 : decode cX0_post 24 = .ok (.ifCond .ne 15, 3) := dk_154 0 15 (dk_at dksX0_post_1 0 rfl rfl)
theorem dX0_post_27 : decode cX0_post 27 = .ok (.aload_n 0, 1) := dk_42 (dk_at dksX0_post_1 3 rfl rfl)
theorem dX0_post_28 : decode cX0_post 28 = .ok (.getfield 12, 3) := dk_180 0 12 (dk_at dksX0_post_1 4 rfl rfl)
theorem dX0_post_31 : decode cX0_post 31 = .ok (.getfield 143, 3) := dk_180 0 143 (dk_at dksX0_post_1 7 rfl rfl)
theorem dX0_post_34 : decode cX0_post 34 = .ok (.iload_n 1, 1) := dk_27 (dk_at dksX0_post_1 10 rfl rfl)
theorem dX0_post_35 : decode cX0_post 35 = .ok (.iaload, 1) := dk_46 (dk_at dksX0_post_1 11 rfl rfl)
theorem dX0_post_36 : decode cX0_post 36 = .ok (.goto 43, 3) := dk_167 0 43 (dk_at dksX0_post_1 12 rfl rfl)
theorem dX0_post_39 : decode cX0_post 39 = .ok (.iload_n 2, 1) := dk_28 (dk_at dksX0_post_1 15 rfl rfl)
theorem dX0_post_40 : decode cX0_post 40 = .ok (.iconst 1, 1) := dk_4 (dk_at dksX0_post_1 16 rfl rfl)
theorem dX0_post_41 : decode cX0_post 41 = .ok (.if_icmp .ne 15, 3) := dk_160 0 15 (dk_at dksX0_post_1 17 rfl rfl)
theorem dX0_post_44 : decode cX0_post 44 = .ok (.aload_n 0, 1) := dk_42 (dk_at dksX0_post_1 20 rfl rfl)
theorem dX0_post_45 : decode cX0_post 45 = .ok (.getfield 12, 3) := dk_180 0 12 (dk_at dksX0_post_1 21 rfl rfl)
theorem dX0_post_48 : decode cX0_post 48 = .ok (.getfield 162, 3) := dk_180 0 162 (dk_at dksX0_post_2 0 rfl rfl)
theorem dX0_post_51 : decode cX0_post 51 = .ok (.iload_n 1, 1) := dk_27 (dk_at dksX0_post_2 3 rfl rfl)
theorem dX0_post_52 : decode cX0_post 52 = .ok (.iaload, 1) := dk_46 (dk_at dksX0_post_2 4 rfl rfl)
theorem dX0_post_53 : decode cX0_post 53 = .ok (.goto 26, 3) := dk_167 0 26 (dk_at dksX0_post_2 5 rfl rfl)
theorem dX0_post_56 : decode cX0_post 56 = .ok (.iload_n 2, 1) := dk_28 (dk_at dksX0_post_2 8 rfl rfl)
theorem dX0_post_57 : decode cX0_post 57 = .ok (.iconst 2, 1) := dk_5 (dk_at dksX0_post_2 9 rfl rfl)
theorem dX0_post_58 : decode cX0_post 58 = .ok (.if_icmp .ne 15, 3) := dk_160 0 15 (dk_at dksX0_post_2 10 rfl rfl)
theorem dX0_post_61 : decode cX0_post 61 = .ok (.aload_n 0, 1) := dk_42 (dk_at dksX0_post_2 13 rfl rfl)
theorem dX0_post_62 : decode cX0_post 62 = .ok (.getfield 12, 3) := dk_180 0 12 (dk_at dksX0_post_2 14 rfl rfl)
theorem dX0_post_65 : decode cX0_post 65 = .ok (.getfield 188, 3) := dk_180 0 188 (dk_at dksX0_post_2 17 rfl rfl)
theorem dX0_post_68 : decode cX0_post 68 = .ok (.iload_n 1, 1) := dk_27 (dk_at dksX0_post_2 20 rfl rfl)
theorem dX0_post_69 : decode cX0_post 69 = .ok (.iaload, 1) := dk_46 (dk_at dksX0_post_2 21 rfl rfl)
theorem dX0_post_70 : decode cX0_post 70 = .ok (.goto 9, 3) := dk_167 0 9 (dk_at dksX0_post_3 0 rfl rfl)
theorem dX0_post_73 : decode cX0_post 73 = .ok (.aload_n 0, 1) := dk_42 (dk_at dksX0_post_3 3 rfl rfl)
theorem dX0_post_74 : decode cX0_post 74 = .ok (.getfield 24, 3) := dk_180 0 24 (dk_at dksX0_post_3 4 rfl rfl)
theorem dX0_post_77 : decode cX0_post 77 = .ok (.iload_n 1, 1) := dk_27 (dk_at dksX0_post_3 7 rfl rfl)
theorem dX0_post_78 : decode cX0_post 78 = .ok (.iaload, 1) := dk_46 (dk_at dksX0_post_3 8 rfl rfl)
theorem dX0_post_79 : decode cX0_post 79 = .ok (.ireturn, 1) := dk_172 (dk_at dksX0_post_3 9 rfl rfl)
theorem gespX_1_12_X0 {p : Program} {l : Launch} {e : Env} {R : Room} {s : State} {m : MethodId} {args : Array Value} {below : List Frame} {meth : Method} {c : Code} {cc : ByteArray} {nL : Nat} {ret : Option FieldType} {D : va_G} {E : List wCell} {q : Nat → Nat} {ca : wCA} {A : Nat → Prop} {Q : State → Prop} {kc ks : Nat} {μ : wMem} {lv : List (Nat × Value)} {st : List Value} (pc : Nat) (C : wC p R s m args meth c cc "OnePassport" nL ret D vwCl (spX ++ E) q ca A) (hd : decode cc pc = .ok (.getfield 188, 3)) (k : wJ p l e R s m args below meth c nL D vwCl (spX ++ E) q ca A Q kc ks μ (pc + 3) lv (.ref (q 6) :: st)) : wJ p l e R s m args below meth c nL D vwCl (spX ++ E) q ca A Q kc ks μ pc lv (.ref (q 1) :: st) := wr_getNR pc 12 C hd spX_1 rfl in_X1 (by decide) rfl q220 k
theorem okX0_post : wOkV yX0_post cX0_post 3 (some .int) 2 := ⟨q763, q764, q136, q765, by decide, by decide, by decide +kernel⟩
def fX0_post (N : Nat)  (a1 : Int32) (a2 : Int32) (μ : wMem) : Option (Int32 × wMem) :=
  wBind (fX0_isPost N  a1 μ) fun v3 μ2 => wLet (fun  (μ4 : wMem) => some ((-2), μ4)) fun Jpost16 => if v3 = 0 then Jpost16  μ2 else wBind (fX0_isOneOf N  a2 4 μ2) fun v8 μ7 => if v8 = 0 then Jpost16  μ7 else wBindV (fX0_asItIs N   μ7) fun μ11 => if a2 = 0 then wG (ok_in a1 2) (some (μ11.1 4 (Int32.toNatClampNeg a1), μ11)) else if a2 = (1 : Int32) then wG (ok_in a1 2) (some (μ11.1 5 (Int32.toNatClampNeg a1), μ11)) else if a2 = (2 : Int32) then wG (ok_in a1 2) (some (μ11.1 6 (Int32.toNatClampNeg a1), μ11)) else wG (ok_in a1 2) (some (μ11.1 9 (Int32.toNatClampNeg a1), μ11))
set_option maxHeartbeats 4000000 in
set_option maxRecDepth 100000 in
theorem tX0_post (l : Launch) {D : va_G} {E : List wCell} {q : Nat → Nat} {ca : wCA} (N : Nat)   (a1 : Int32) (a2 : Int32) (μ : wMem) (r0 : (Int32 × wMem)) (hf : fX0_post N  a1 a2 μ = some r0) : wMi l yX0_post cX0_post 3 (some .int) ({ frames := 4, cells := 0, slots := 0, locals := 84 } : Room) D vwCl (spX ++ E) q ca [.ref (q 0), .int a1, .int a2] μ r0 := by
  refine wMi_intro (by decide) (Nat.le_of_ble_eq_true rfl) ?_
  intro p e s m args below meth c A C
  unfold fX0_post at hf
  refine wr_sub [(0, .ref (q 0)), (1, .int a1), (2, .int a2)] [0, 1, 2] rfl ?_
  refine wr_aload_n 0 C dX0_post_0 0 rfl rfl ?_
  refine wr_iload_n 1 C dX0_post_1 1 rfl rfl ?_
  obtain ⟨v3, μ2, h1, hf⟩ := o_bind hf
  refine wr_Vi (kc1 := 0) (ks1 := 0) 2 [] C dX0_post_2 (tX0_isPost l N   a1 μ (v3, μ2) h1) okX0_isPost q706 (b := 0) spX_0 rfl ⟨rfl, rfl, Nat.le_of_ble_eq_true rfl, Nat.le_of_ble_eq_true rfl, Nat.zero_le _, Nat.zero_le _⟩ (Nat.le_of_ble_eq_true rfl) rfl ?_
  obtain ⟨Jpost16, eJpost16, hf⟩ := o_let hf
  have hJpost16 : ∀  (μ4 : wMem), Jpost16  μ4 = some r0 → wJ p l e ({ frames := 4, cells := 0, slots := 0, locals := 84 } : Room) s m args below meth c 3 D vwCl (spX ++ E) q ca A (wQi ({ frames := 4, cells := 0, slots := 0, locals := 84 } : Room) D vwCl (spX ++ E) q ca below args s A r0) 0 0 μ4 16 [] [] := by
    intro  μ4 hf
    rw [eJpost16] at hf
    refine wr_bipush 16 C dX0_post_16 (v := (-2)) rfl ?_
    exact wr_iret 18 C dX0_post_18 ⟨Nat.zero_le _, Nat.zero_le _⟩ (Option.some.inj hf)
  refine wr_if_eq 5 16 C dX0_post_5 (by decide) (fun c5 => ?_) (fun c5 => ?_)
  · replace hf := o_pos c5 hf
    refine wr_sub [] [] rfl ?_
    exact hJpost16  μ2 hf
  · replace hf := o_neg c5 hf
    refine wr_iload_n 8 C dX0_post_8 2 rfl rfl ?_
    refine wr_iconst 9 C dX0_post_9 (v := 4) rfl ?_
    obtain ⟨v8, μ7, h6, hf⟩ := o_bind hf
    refine wr_Si (kc1 := 0) (ks1 := 0) 10 [] C dX0_post_10 (tX0_isOneOf l N   a2 4 μ2 (v8, μ7) h6) okX0_isOneOf q734 ⟨rfl, rfl, Nat.le_of_ble_eq_true rfl, Nat.le_of_ble_eq_true rfl, Nat.zero_le _, Nat.zero_le _⟩ (Nat.le_of_ble_eq_true rfl) rfl ?_
    refine wr_if_ne 13 19 C dX0_post_13 (by decide) (fun c9 => ?_) (fun c9 => ?_)
    · replace hf := o_neg c9 hf
      refine wr_aload_n 19 C dX0_post_19 0 rfl rfl ?_
      obtain ⟨μ11, h10, hf⟩ := o_bindV hf
      refine wr_Vv (kc1 := 0) (ks1 := 0) 20 [] C dX0_post_20 (tX0_asItIs l N    μ7 μ11 h10) okX0_asItIs q737 (b := 0) spX_0 rfl ⟨rfl, rfl, Nat.le_of_ble_eq_true rfl, Nat.le_of_ble_eq_true rfl, Nat.zero_le _, Nat.zero_le _⟩ (Nat.le_of_ble_eq_true rfl) rfl ?_
      refine wr_iload_n 23 C dX0_post_23 2 rfl rfl ?_
      refine wr_if_ne 24 39 C dX0_post_24 (by decide) (fun c12 => ?_) (fun c12 => ?_)
      · replace hf := o_neg c12 hf
        refine wr_iload_n 39 C dX0_post_39 2 rfl rfl ?_
        refine wr_iconst 40 C dX0_post_40 (v := 1) rfl ?_
        refine wr_icmp_ne 41 56 C dX0_post_41 (by decide) (fun c13 => ?_) (fun c13 => ?_)
        · replace hf := o_neg c13 hf
          refine wr_iload_n 56 C dX0_post_56 2 rfl rfl ?_
          refine wr_iconst 57 C dX0_post_57 (v := 2) rfl ?_
          refine wr_icmp_ne 58 73 C dX0_post_58 (by decide) (fun c14 => ?_) (fun c14 => ?_)
          · replace hf := o_neg c14 hf
            refine wr_aload_n 73 C dX0_post_73 0 rfl rfl ?_
            refine gespX_0_8_X0 74 C dX0_post_74 ?_
            refine wr_iload_n 77 C dX0_post_77 1 rfl rfl ?_
            obtain ⟨g15, hf⟩ := o_g hf
            refine wr_iald 78 C dX0_post_78 spX_9 g15 ?_
            exact wr_iret 79 C dX0_post_79 ⟨Nat.zero_le _, Nat.zero_le _⟩ (Option.some.inj hf)
          · replace hf := o_pos c14 hf
            refine wr_aload_n 61 C dX0_post_61 0 rfl rfl ?_
            refine gespX_0_0_X0 62 C dX0_post_62 ?_
            refine gespX_1_12_X0 65 C dX0_post_65 ?_
            refine wr_iload_n 68 C dX0_post_68 1 rfl rfl ?_
            obtain ⟨g16, hf⟩ := o_g hf
            refine wr_iald 69 C dX0_post_69 spX_6 g16 ?_
            refine wr_goto 70 C dX0_post_70 (tgt := 79) (by decide) ?_
            exact wr_iret 79 C dX0_post_79 ⟨Nat.zero_le _, Nat.zero_le _⟩ (Option.some.inj hf)
        · replace hf := o_pos c13 hf
          refine wr_aload_n 44 C dX0_post_44 0 rfl rfl ?_
          refine gespX_0_0_X0 45 C dX0_post_45 ?_
          refine gespX_1_11_X0 48 C dX0_post_48 ?_
          refine wr_iload_n 51 C dX0_post_51 1 rfl rfl ?_
          obtain ⟨g17, hf⟩ := o_g hf
          refine wr_iald 52 C dX0_post_52 spX_5 g17 ?_
          refine wr_goto 53 C dX0_post_53 (tgt := 79) (by decide) ?_
          exact wr_iret 79 C dX0_post_79 ⟨Nat.zero_le _, Nat.zero_le _⟩ (Option.some.inj hf)
      · replace hf := o_pos c12 hf
        refine wr_aload_n 27 C dX0_post_27 0 rfl rfl ?_
        refine gespX_0_0_X0 28 C dX0_post_28 ?_
        refine gespX_1_10_X0 31 C dX0_post_31 ?_
        refine wr_iload_n 34 C dX0_post_34 1 rfl rfl ?_
        obtain ⟨g18, hf⟩ := o_g hf
        refine wr_iald 35 C dX0_post_35 spX_4 g18 ?_
        refine wr_goto 36 C dX0_post_36 (tgt := 79) (by decide) ?_
        exact wr_iret 79 C dX0_post_79 ⟨Nat.zero_le _, Nat.zero_le _⟩ (Option.some.inj hf)
    · replace hf := o_pos c9 hf
      refine wr_sub [] [] rfl ?_
      exact hJpost16  μ7 hf
abbrev cX0_isFamily : ByteArray := prog_1_method_9_code
def yX0_isFamily : MethodName := ⟨RX0, "isFamily", "()Z"⟩
def dkwX0_isFamily_0 : List UInt8 := [42, 180, 0, 12, 180, 0, 117, 158, 0, 7, 4, 167, 0, 4, 3, 172]
abbrev dktX0_isFamily_0 : List UInt8 := dkwX0_isFamily_0 ++ []
theorem dksX0_isFamily_0 : cX0_isFamily.data.toList.drop 0 = dktX0_isFamily_0 := by decide +kernel
theorem dX0_isFamily_0 : decode cX0_isFamily 0 = .ok (.aload_n 0, 1) := dk_42 (dk_at dksX0_isFamily_0 0 rfl rfl)
theorem dX0_isFamily_1 : decode cX0_isFamily 1 = .ok (.getfield 12, 3) := dk_180 0 12 (dk_at dksX0_isFamily_0 1 rfl rfl)
theorem dX0_isFamily_4 : decode cX0_isFamily 4 = .ok (.getfield 117, 3) := dk_180 0 117 (dk_at dksX0_isFamily_0 4 rfl rfl)
theorem dX0_isFamily_7 : decode cX0_isFamily 7 = .ok (.ifCond .le 7, 3) := dk_158 0 7 (dk_at dksX0_isFamily_0 7 rfl rfl)
theorem dX0_isFamily_10 : decode cX0_isFamily 10 = .ok (.iconst 1, 1) := dk_4 (dk_at dksX0_isFamily_0 10 rfl rfl)
theorem dX0_isFamily_11 : decode cX0_isFamily 11 = .ok (.goto 4, 3) := dk_167 0 4 (dk_at dksX0_isFamily_0 11 rfl rfl)
theorem dX0_isFamily_14 : decode cX0_isFamily 14 = .ok (.iconst 0, 1) := dk_3 (dk_at dksX0_isFamily_0 14 rfl rfl)
theorem dX0_isFamily_15 : decode cX0_isFamily 15 = .ok (.ireturn, 1) := dk_172 (dk_at dksX0_isFamily_0 15 rfl rfl)
theorem gespX_1_1_X0 {p : Program} {l : Launch} {e : Env} {R : Room} {s : State} {m : MethodId} {args : Array Value} {below : List Frame} {meth : Method} {c : Code} {cc : ByteArray} {nL : Nat} {ret : Option FieldType} {D : va_G} {E : List wCell} {q : Nat → Nat} {ca : wCA} {A : Nat → Prop} {Q : State → Prop} {kc ks : Nat} {μ : wMem} {lv : List (Nat × Value)} {st : List Value} (pc : Nat) (C : wC p R s m args meth c cc "OnePassport" nL ret D vwCl (spX ++ E) q ca A) (hd : decode cc pc = .ok (.getfield 117, 3)) (k : wJ p l e R s m args below meth c nL D vwCl (spX ++ E) q ca A Q kc ks μ (pc + 3) lv (.int (μ.1 1 1) :: st)) : wJ p l e R s m args below meth c nL D vwCl (spX ++ E) q ca A Q kc ks μ pc lv (.ref (q 1) :: st) := wr_getNI pc 1 C hd spX_1 rfl in_X1 (by decide) rfl q187 k
theorem okX0_isFamily : wOkV yX0_isFamily cX0_isFamily 1 (some .boolean) 0 := ⟨q772, qs23, q136, q773, by decide, by decide, by decide +kernel⟩
def fX0_isFamily (N : Nat)   (μ : wMem) : Option (Int32 × wMem) :=
  if (μ.1 1 1) ≤ 0 then some (0, μ) else some (1, μ)
set_option maxHeartbeats 4000000 in
set_option maxRecDepth 100000 in
theorem tX0_isFamily (l : Launch) {D : va_G} {E : List wCell} {q : Nat → Nat} {ca : wCA} (N : Nat)    (μ : wMem) (r0 : (Int32 × wMem)) (hf : fX0_isFamily N   μ = some r0) : wMi l yX0_isFamily cX0_isFamily 1 (some .boolean) ({ frames := 0, cells := 0, slots := 0, locals := 0 } : Room) D vwCl (spX ++ E) q ca [.ref (q 0)] μ r0 := by
  refine wMi_intro (by decide) (Nat.le_of_ble_eq_true rfl) ?_
  intro p e s m args below meth c A C
  unfold fX0_isFamily at hf
  refine wr_sub [(0, .ref (q 0))] [0] rfl ?_
  refine wr_aload_n 0 C dX0_isFamily_0 0 rfl rfl ?_
  refine gespX_0_0_X0 1 C dX0_isFamily_1 ?_
  refine gespX_1_1_X0 4 C dX0_isFamily_4 ?_
  refine wr_if_le 7 14 C dX0_isFamily_7 (by decide) (fun c1 => ?_) (fun c1 => ?_)
  · replace hf := o_pos c1 hf
    refine wr_iconst 14 C dX0_isFamily_14 (v := 0) rfl ?_
    exact wr_zret 15 C dX0_isFamily_15 rfl ⟨Nat.zero_le _, Nat.zero_le _⟩ (Option.some.inj hf)
  · replace hf := o_neg c1 hf
    refine wr_iconst 10 C dX0_isFamily_10 (v := 1) rfl ?_
    refine wr_goto 11 C dX0_isFamily_11 (tgt := 15) (by decide) ?_
    exact wr_zret 15 C dX0_isFamily_15 rfl ⟨Nat.zero_le _, Nat.zero_le _⟩ (Option.some.inj hf)
abbrev cX0_stampsNow : ByteArray := prog_1_method_36_code
def yX0_stampsNow : MethodName := ⟨RX0, "stampsNow", "()I"⟩
def dkwX0_stampsNow_1 : List UInt8 := [46, 17, 0, 200, 160, 0, 7, 3, 167, 0, 4, 4, 96, 60, 132, 2, 1, 167, 255, 219, 27, 172]
abbrev dktX0_stampsNow_1 : List UInt8 := dkwX0_stampsNow_1 ++ []
def dkwX0_stampsNow_0 : List UInt8 := [3, 60, 3, 61, 28, 42, 180, 0, 12, 180, 0, 231, 162, 0, 32, 27, 42, 180, 0, 12, 180, 0, 234, 28]
abbrev dktX0_stampsNow_0 : List UInt8 := dkwX0_stampsNow_0 ++ dktX0_stampsNow_1
theorem dksX0_stampsNow_0 : cX0_stampsNow.data.toList.drop 0 = dktX0_stampsNow_0 := by decide +kernel
theorem dksX0_stampsNow_1 : cX0_stampsNow.data.toList.drop 24 = dktX0_stampsNow_1 := dk_seg dksX0_stampsNow_0 24 rfl rfl
theorem dX0_stampsNow_0 : decode cX0_stampsNow 0 = .ok (.iconst 0, 1) := dk_3 (dk_at dksX0_stampsNow_0 0 rfl rfl)
theorem dX0_stampsNow_1 : decode cX0_stampsNow 1 = .ok (.istore_n 1, 1) := dk_60 (dk_at dksX0_stampsNow_0 1 rfl rfl)
theorem dX0_stampsNow_2 : decode cX0_stampsNow 2 = .ok (.iconst 0, 1) := dk_3 (dk_at dksX0_stampsNow_0 2 rfl rfl)
theorem dX0_stampsNow_3 : decode cX0_stampsNow 3 = .ok (.istore_n 2, 1) := dk_61 (dk_at dksX0_stampsNow_0 3 rfl rfl)
theorem dX0_stampsNow_4 : decode cX0_stampsNow 4 = .ok (.iload_n 2, 1) := dk_28 (dk_at dksX0_stampsNow_0 4 rfl rfl)
theorem dX0_stampsNow_5 : decode cX0_stampsNow 5 = .ok (.aload_n 0, 1) := dk_42 (dk_at dksX0_stampsNow_0 5 rfl rfl)
theorem dX0_stampsNow_6 : decode cX0_stampsNow 6 = .ok (.getfield 12, 3) := dk_180 0 12 (dk_at dksX0_stampsNow_0 6 rfl rfl)
theorem dX0_stampsNow_9 : decode cX0_stampsNow 9 = .ok (.getfield 231, 3) := dk_180 0 231 (dk_at dksX0_stampsNow_0 9 rfl rfl)
theorem dX0_stampsNow_12 : decode cX0_stampsNow 12 = .ok (.if_icmp .ge 32, 3) := dk_162 0 32 (dk_at dksX0_stampsNow_0 12 rfl rfl)
theorem dX0_stampsNow_15 : decode cX0_stampsNow 15 = .ok (.iload_n 1, 1) := dk_27 (dk_at dksX0_stampsNow_0 15 rfl rfl)
theorem dX0_stampsNow_16 : decode cX0_stampsNow 16 = .ok (.aload_n 0, 1) := dk_42 (dk_at dksX0_stampsNow_0 16 rfl rfl)
theorem dX0_stampsNow_17 : decode cX0_stampsNow 17 = .ok (.getfield 12, 3) := dk_180 0 12 (dk_at dksX0_stampsNow_0 17 rfl rfl)
theorem dX0_stampsNow_20 : decode cX0_stampsNow 20 = .ok (.getfield 234, 3) := dk_180 0 234 (dk_at dksX0_stampsNow_0 20 rfl rfl)
theorem dX0_stampsNow_23 : decode cX0_stampsNow 23 = .ok (.iload_n 2, 1) := dk_28 (dk_at dksX0_stampsNow_0 23 rfl rfl)
theorem dX0_stampsNow_24 : decode cX0_stampsNow 24 = .ok (.iaload, 1) := dk_46 (dk_at dksX0_stampsNow_1 0 rfl rfl)
theorem dX0_stampsNow_25 : decode cX0_stampsNow 25 = .ok (.sipush 200, 3) := dk_17 0 200 (dk_at dksX0_stampsNow_1 1 rfl rfl)
theorem dX0_stampsNow_28 : decode cX0_stampsNow 28 = .ok (.if_icmp .ne 7, 3) := dk_160 0 7 (dk_at dksX0_stampsNow_1 4 rfl rfl)
theorem dX0_stampsNow_31 : decode cX0_stampsNow 31 = .ok (.iconst 0, 1) := dk_3 (dk_at dksX0_stampsNow_1 7 rfl rfl)
theorem dX0_stampsNow_32 : decode cX0_stampsNow 32 = .ok (.goto 4, 3) := dk_167 0 4 (dk_at dksX0_stampsNow_1 8 rfl rfl)
theorem dX0_stampsNow_35 : decode cX0_stampsNow 35 = .ok (.iconst 1, 1) := dk_4 (dk_at dksX0_stampsNow_1 11 rfl rfl)
theorem dX0_stampsNow_36 : decode cX0_stampsNow 36 = .ok (.iadd, 1) := dk_96 (dk_at dksX0_stampsNow_1 12 rfl rfl)
theorem dX0_stampsNow_37 : decode cX0_stampsNow 37 = .ok (.istore_n 1, 1) := dk_60 (dk_at dksX0_stampsNow_1 13 rfl rfl)
theorem dX0_stampsNow_38 : decode cX0_stampsNow 38 = .ok (.iinc 2 1, 3) := dk_132 2 1 (dk_at dksX0_stampsNow_1 14 rfl rfl)
theorem dX0_stampsNow_41 : decode cX0_stampsNow 41 = .ok (.goto (-37), 3) := dk_167 255 219 (dk_at dksX0_stampsNow_1 17 rfl rfl)
theorem dX0_stampsNow_44 : decode cX0_stampsNow 44 = .ok (.iload_n 1, 1) := dk_27 (dk_at dksX0_stampsNow_1 20 rfl rfl)
theorem dX0_stampsNow_45 : decode cX0_stampsNow 45 = .ok (.ireturn, 1) := dk_172 (dk_at dksX0_stampsNow_1 21 rfl rfl)

theorem okX0_stampsNow : wOkV yX0_stampsNow cX0_stampsNow 3 (some .int) 0 := ⟨q776, qs24, q136, q777, by decide, by decide, by decide +kernel⟩
def gbX0_stampsNow_4 (N : Nat)   (K : (Int32 → wMem → Option (Int32 × wMem))) (rec : (Int32 → Int32 → wMem → Option (Int32 × wMem))) (x1_ : Int32) (x2_ : Int32) (μ : wMem) : Option (Int32 × wMem) :=
  if (μ.1 1 6) ≤ x2_ then K x1_ μ else wG (ok_in x2_ 40) (wLet (fun (v4 : Int32) (v5 : Int32) (μ3 : wMem) => wLet (v5 + v4 : Int32) fun x6 => wLet (x2_ + 1 : Int32) fun x7 => rec x6 x7 μ3) fun JstampsNow36 => if (μ.1 7 (Int32.toNatClampNeg x2_)) = (200 : Int32) then JstampsNow36 0 x1_ μ else JstampsNow36 1 x1_ μ)
def gX0_stampsNow_4 (N : Nat)   (K : (Int32 → wMem → Option (Int32 × wMem))) : Nat → (Int32 → Int32 → wMem → Option (Int32 × wMem))
  | 0 => fun _ _ _ => none
  | k + 1 => gbX0_stampsNow_4 N   K (gX0_stampsNow_4 N   K k)
set_option maxHeartbeats 4000000 in
set_option maxRecDepth 100000 in
theorem tX0_stampsNow_4 {p : Program} {l : Launch} {e : Env} {s : State} {m : MethodId} {args : Array Value} {below : List Frame} {meth : Method} {c : Code} {D : va_G} {E : List wCell} {q : Nat → Nat} {ca : wCA} {A : Nat → Prop} (C : wC p ({ frames := 0, cells := 0, slots := 0, locals := 0 } : Room) s m args meth c cX0_stampsNow yX0_stampsNow.cls 3 (some .int) D vwCl (spX ++ E) q ca A) (N : Nat)    (K : (Int32 → wMem → Option (Int32 × wMem))) (r0 : (Int32 × wMem)) (hK : ∀ (y1_ : Int32) (μ : wMem), K y1_ μ = some r0 → wJ p l e ({ frames := 0, cells := 0, slots := 0, locals := 0 } : Room) s m args below meth c 3 D vwCl (spX ++ E) q ca A (wQi ({ frames := 0, cells := 0, slots := 0, locals := 0 } : Room) D vwCl (spX ++ E) q ca below args s A r0) 0 0 μ 44 [(1, .int y1_)] []) : ∀ (k : Nat) (x1_ : Int32) (x2_ : Int32) (μ : wMem), gX0_stampsNow_4 N   K k x1_ x2_ μ = some r0 → wJ p l e ({ frames := 0, cells := 0, slots := 0, locals := 0 } : Room) s m args below meth c 3 D vwCl (spX ++ E) q ca A (wQi ({ frames := 0, cells := 0, slots := 0, locals := 0 } : Room) D vwCl (spX ++ E) q ca below args s A r0) 0 0 μ 4 [(0, .ref (q 0)), (1, .int x1_), (2, .int x2_)] [] := by
  intro k
  induction k with
  | zero =>
    intro x1_ x2_ μ hf
    cases hf
  | succ k ih =>
    intro x1_ x2_ μ hf
    replace hf : gbX0_stampsNow_4 N   K (gX0_stampsNow_4 N   K k) x1_ x2_ μ = some r0 := hf
    unfold gbX0_stampsNow_4 at hf
    refine wr_iload_n 4 C dX0_stampsNow_4 2 rfl rfl ?_
    refine wr_aload_n 5 C dX0_stampsNow_5 0 rfl rfl ?_
    refine gespX_0_0_X0 6 C dX0_stampsNow_6 ?_
    refine gespX_1_6_X0 9 C dX0_stampsNow_9 ?_
    refine wr_icmp_ge 12 44 C dX0_stampsNow_12 (by decide) (fun c1 => ?_) (fun c1 => ?_)
    · replace hf := o_pos c1 hf
      refine wr_sub [(1, .int x1_)] [1] rfl ?_
      exact hK x1_ μ hf
    · replace hf := o_neg c1 hf
      refine wr_iload_n 15 C dX0_stampsNow_15 1 rfl rfl ?_
      refine wr_aload_n 16 C dX0_stampsNow_16 0 rfl rfl ?_
      refine gespX_0_0_X0 17 C dX0_stampsNow_17 ?_
      refine gespX_1_13_X0 20 C dX0_stampsNow_20 ?_
      refine wr_iload_n 23 C dX0_stampsNow_23 2 rfl rfl ?_
      obtain ⟨g2, hf⟩ := o_g hf
      refine wr_iald 24 C dX0_stampsNow_24 spX_7 g2 ?_
      refine wr_sipush 25 C dX0_stampsNow_25 (v := 200) rfl ?_
      obtain ⟨JstampsNow36, eJstampsNow36, hf⟩ := o_let hf
      have hJstampsNow36 : ∀ (v4 : Int32) (v5 : Int32) (μ3 : wMem), JstampsNow36 v4 v5 μ3 = some r0 → wJ p l e ({ frames := 0, cells := 0, slots := 0, locals := 0 } : Room) s m args below meth c 3 D vwCl (spX ++ E) q ca A (wQi ({ frames := 0, cells := 0, slots := 0, locals := 0 } : Room) D vwCl (spX ++ E) q ca below args s A r0) 0 0 μ3 36 [(0, .ref (q 0)), (2, .int x2_)] [.int v4, .int v5] := by
        intro v4 v5 μ3 hf
        rw [eJstampsNow36] at hf
        refine wr_iadd 36 C dX0_stampsNow_36 ?_
        obtain ⟨x6, ex6, hf⟩ := o_let hf
        refine wr_istore_n 37 [(1, .int x6), (0, .ref (q 0)), (2, .int x2_)] C dX0_stampsNow_37 ex6 rfl (Nat.le_of_ble_eq_true rfl) rfl ?_
        obtain ⟨x7, ex7, hf⟩ := o_let hf
        refine wr_iinc 38 [(2, .int x7), (1, .int x6), (0, .ref (q 0))] C dX0_stampsNow_38 2 rfl (ex7.trans rfl) (Nat.le_of_ble_eq_true rfl) rfl ?_
        refine wr_goto 41 C dX0_stampsNow_41 (tgt := 4) (by decide) ?_
        refine wr_sub [(0, .ref (q 0)), (1, .int x6), (2, .int x7)] [2, 1, 0] rfl ?_
        exact ih x6 x7 μ3 hf
      refine wr_icmp_ne 28 35 C dX0_stampsNow_28 (by decide) (fun c8 => ?_) (fun c8 => ?_)
      · replace hf := o_neg c8 hf
        refine wr_iconst 35 C dX0_stampsNow_35 (v := 1) rfl ?_
        refine wr_sub [(0, .ref (q 0)), (2, .int x2_)] [0, 2] rfl ?_
        exact hJstampsNow36 1 x1_ μ hf
      · replace hf := o_pos c8 hf
        refine wr_iconst 31 C dX0_stampsNow_31 (v := 0) rfl ?_
        refine wr_goto 32 C dX0_stampsNow_32 (tgt := 36) (by decide) ?_
        refine wr_sub [(0, .ref (q 0)), (2, .int x2_)] [0, 2] rfl ?_
        exact hJstampsNow36 0 x1_ μ hf
def fX0_stampsNow (N : Nat)   (μ : wMem) : Option (Int32 × wMem) :=
  gX0_stampsNow_4 N   (fun (x10 : Int32) (μ9 : wMem) => some (x10, μ9)) N 0 0 μ
set_option maxHeartbeats 4000000 in
set_option maxRecDepth 100000 in
theorem tX0_stampsNow (l : Launch) {D : va_G} {E : List wCell} {q : Nat → Nat} {ca : wCA} (N : Nat)    (μ : wMem) (r0 : (Int32 × wMem)) (hf : fX0_stampsNow N   μ = some r0) : wMi l yX0_stampsNow cX0_stampsNow 3 (some .int) ({ frames := 0, cells := 0, slots := 0, locals := 0 } : Room) D vwCl (spX ++ E) q ca [.ref (q 0)] μ r0 := by
  refine wMi_intro (by decide) (Nat.le_of_ble_eq_true rfl) ?_
  intro p e s m args below meth c A C
  unfold fX0_stampsNow at hf
  refine wr_sub [(0, .ref (q 0))] [0] rfl ?_
  refine wr_iconst 0 C dX0_stampsNow_0 (v := 0) rfl ?_
  refine wr_istore_n 1 [(1, .int 0), (0, .ref (q 0))] C dX0_stampsNow_1 rfl rfl (Nat.le_of_ble_eq_true rfl) rfl ?_
  refine wr_iconst 2 C dX0_stampsNow_2 (v := 0) rfl ?_
  refine wr_istore_n 3 [(2, .int 0), (1, .int 0), (0, .ref (q 0))] C dX0_stampsNow_3 rfl rfl (Nat.le_of_ble_eq_true rfl) rfl ?_
  refine wr_sub [(0, .ref (q 0)), (1, .int 0), (2, .int 0)] [2, 1, 0] rfl ?_
  refine tX0_stampsNow_4 C N    _ r0 (fun x10 μ9 hf => ?_) N 0 0 μ hf
  · replace hf := hf
    refine wr_iload_n 44 C dX0_stampsNow_44 0 rfl rfl ?_
    exact wr_iret 45 C dX0_stampsNow_45 ⟨Nat.zero_le _, Nat.zero_le _⟩ (Option.some.inj hf)
abbrev cX0_now : ByteArray := prog_1_method_37_code
def yX0_now : MethodName := ⟨RX0, "now", "(I)I"⟩
def dkwX0_now_3 : List UInt8 := [180, 0, 228, 172]
abbrev dktX0_now_3 : List UInt8 := dkwX0_now_3 ++ []
def dkwX0_now_2 : List UInt8 := [160, 0, 10, 42, 180, 0, 225, 167, 0, 19, 27, 6, 160, 0, 10, 42, 182, 1, 0, 167, 0, 7, 42]
abbrev dktX0_now_2 : List UInt8 := dkwX0_now_2 ++ dktX0_now_3
def dkwX0_now_1 : List UInt8 := [154, 0, 10, 42, 180, 0, 179, 167, 0, 43, 27, 4, 160, 0, 10, 42, 180, 0, 182, 167, 0, 31, 27, 5]
abbrev dktX0_now_1 : List UInt8 := dkwX0_now_1 ++ dktX0_now_2
def dkwX0_now_0 : List UInt8 := [42, 182, 0, 252, 153, 0, 11, 27, 8, 184, 0, 246, 154, 0, 6, 16, 254, 172, 42, 182, 0, 249, 27]
abbrev dktX0_now_0 : List UInt8 := dkwX0_now_0 ++ dktX0_now_1
theorem dksX0_now_0 : cX0_now.data.toList.drop 0 = dktX0_now_0 := by decide +kernel
theorem dksX0_now_1 : cX0_now.data.toList.drop 23 = dktX0_now_1 := dk_seg dksX0_now_0 23 rfl rfl
theorem dksX0_now_2 : cX0_now.data.toList.drop 47 = dktX0_now_2 := dk_seg dksX0_now_1 24 rfl rfl
theorem dksX0_now_3 : cX0_now.data.toList.drop 70 = dktX0_now_3 := dk_seg dksX0_now_2 23 rfl rfl
theorem dX0_now_0 : decode cX0_now 0 = .ok (.aload_n 0, 1) := dk_42 (dk_at dksX0_now_0 0 rfl rfl)
theorem dX0_now_1 : decode cX0_now 1 = .ok (.invokevirtual 252, 3) := dk_182 0 252 (dk_at dksX0_now_0 1 rfl rfl)
theorem dX0_now_4 : decode cX0_now 4 = .ok (.ifCond .eq 11, 3) := dk_153 0 11 (dk_at dksX0_now_0 4 rfl rfl)
theorem dX0_now_7 : decode cX0_now 7 = .ok (.iload_n 1, 1) := dk_27 (dk_at dksX0_now_0 7 rfl rfl)
theorem dX0_now_8 : decode cX0_now 8 = .ok (.iconst 5, 1) := dk_8 (dk_at dksX0_now_0 8 rfl rfl)
theorem dX0_now_9 : decode cX0_now 9 = .ok (.invokestatic 246, 3) := dk_184 0 246 (dk_at dksX0_now_0 9 rfl rfl)
theorem dX0_now_12 : decode cX0_now 12 = .ok (.ifCond .ne 6, 3) := dk_154 0 6 (dk_at dksX0_now_0 12 rfl rfl)
theorem dX0_now_15 : decode cX0_now 15 = .ok (.bipush (-2), 2) := dk_16 254 (dk_at dksX0_now_0 15 rfl rfl)
theorem dX0_now_17 : decode cX0_now 17 = .ok (.ireturn, 1) := dk_172 (dk_at dksX0_now_0 17 rfl rfl)
theorem dX0_now_18 : decode cX0_now 18 = .ok (.aload_n 0, 1) := dk_42 (dk_at dksX0_now_0 18 rfl rfl)
theorem dX0_now_19 : decode cX0_now 19 = .ok (.invokevirtual 249, 3) := dk_182 0 249 (dk_at dksX0_now_0 19 rfl rfl)
theorem dX0_now_22 : decode cX0_now 22 = .ok (.iload_n 1, 1) := dk_27 (dk_at dksX0_now_0 22 rfl rfl)
theorem dX0_now_23 : decode cX0_now 23 = .ok (.ifCond .ne 10, 3) := dk_154 0 10 (dk_at dksX0_now_1 0 rfl rfl)
theorem dX0_now_26 : decode cX0_now 26 = .ok (.aload_n 0, 1) := dk_42 (dk_at dksX0_now_1 3 rfl rfl)
theorem dX0_now_27 : decode cX0_now 27 = .ok (.getfield 179, 3) := dk_180 0 179 (dk_at dksX0_now_1 4 rfl rfl)
theorem dX0_now_30 : decode cX0_now 30 = .ok (.goto 43, 3) := dk_167 0 43 (dk_at dksX0_now_1 7 rfl rfl)
theorem dX0_now_33 : decode cX0_now 33 = .ok (.iload_n 1, 1) := dk_27 (dk_at dksX0_now_1 10 rfl rfl)
theorem dX0_now_34 : decode cX0_now 34 = .ok (.iconst 1, 1) := dk_4 (dk_at dksX0_now_1 11 rfl rfl)
theorem dX0_now_35 : decode cX0_now 35 = .ok (.if_icmp .ne 10, 3) := dk_160 0 10 (dk_at dksX0_now_1 12 rfl rfl)
theorem dX0_now_38 : decode cX0_now 38 = .ok (.aload_n 0, 1) := dk_42 (dk_at dksX0_now_1 15 rfl rfl)
theorem dX0_now_39 : decode cX0_now 39 = .ok (.getfield 182, 3) := dk_180 0 182 (dk_at dksX0_now_1 16 rfl rfl)
theorem dX0_now_42 : decode cX0_now 42 = .ok (.goto 31, 3) := dk_167 0 31 (dk_at dksX0_now_1 19 rfl rfl)
theorem dX0_now_45 : decode cX0_now 45 = .ok (.iload_n 1, 1) := dk_27 (dk_at dksX0_now_1 22 rfl rfl)
theorem dX0_now_46 : decode cX0_now 46 = .ok (.iconst 2, 1) := dk_5 (dk_at dksX0_now_1 23 rfl rfl)
theorem dX0_now_47 : decode cX0_now 47 = .ok (.if_icmp .ne 10, 3) := dk_160 0 10 (dk_at dksX0_now_2 0 rfl rfl)
theorem dX0_now_50 : decode cX0_now 50 = .ok (.aload_n 0, 1) := dk_42 (dk_at dksX0_now_2 3 rfl rfl)
theorem dX0_now_51 : decode cX0_now 51 = .ok (.getfield 225, 3) := dk_180 0 225 (dk_at dksX0_now_2 4 rfl rfl)
theorem dX0_now_54 : decode cX0_now 54 = .ok (.goto 19, 3) := dk_167 0 19 (dk_at dksX0_now_2 7 rfl rfl)
theorem dX0_now_57 : decode cX0_now 57 = .ok (.iload_n 1, 1) := dk_27 (dk_at dksX0_now_2 10 rfl rfl)
theorem dX0_now_58 : decode cX0_now 58 = .ok (.iconst 3, 1) := dk_6 (dk_at dksX0_now_2 11 rfl rfl)
theorem dX0_now_59 : decode cX0_now 59 = .ok (.if_icmp .ne 10, 3) := dk_160 0 10 (dk_at dksX0_now_2 12 rfl rfl)
theorem dX0_now_62 : decode cX0_now 62 = .ok (.aload_n 0, 1) := dk_42 (dk_at dksX0_now_2 15 rfl rfl)
theorem dX0_now_63 : decode cX0_now 63 = .ok (.invokevirtual 256, 3) := dk_182 1 0 (dk_at dksX0_now_2 16 rfl rfl)
theorem dX0_now_66 : decode cX0_now 66 = .ok (.goto 7, 3) := dk_167 0 7 (dk_at dksX0_now_2 19 rfl rfl)
theorem dX0_now_69 : decode cX0_now 69 = .ok (.aload_n 0, 1) := dk_42 (dk_at dksX0_now_2 22 rfl rfl)
theorem dX0_now_70 : decode cX0_now 70 = .ok (.getfield 228, 3) := dk_180 0 228 (dk_at dksX0_now_3 0 rfl rfl)
theorem dX0_now_73 : decode cX0_now 73 = .ok (.ireturn, 1) := dk_172 (dk_at dksX0_now_3 3 rfl rfl)

theorem okX0_now : wOkV yX0_now cX0_now 2 (some .int) 1 := ⟨q767, q768, q136, q769, by decide, by decide, by decide +kernel⟩
def fX0_now (N : Nat)  (a1 : Int32) (μ : wMem) : Option (Int32 × wMem) :=
  wBind (fX0_isFamily N   μ) fun v3 μ2 => wLet (fun  (μ4 : wMem) => some ((-2), μ4)) fun Jnow15 => if v3 = 0 then Jnow15  μ2 else wBind (fX0_isOneOf N  a1 5 μ2) fun v8 μ7 => if v8 = 0 then Jnow15  μ7 else wBindV (fX0_asItIs N   μ7) fun μ11 => if a1 = 0 then some (μ11.1 0 5, μ11) else if a1 = (1 : Int32) then some (μ11.1 0 6, μ11) else if a1 = (2 : Int32) then some (μ11.1 0 9, μ11) else if a1 = (3 : Int32) then wBind (fX0_stampsNow N   μ11) fun v18 μ17 => some (v18, μ17) else some (μ11.1 0 10, μ11)
set_option maxHeartbeats 4000000 in
set_option maxRecDepth 100000 in
theorem tX0_now (l : Launch) {D : va_G} {E : List wCell} {q : Nat → Nat} {ca : wCA} (N : Nat)   (a1 : Int32) (μ : wMem) (r0 : (Int32 × wMem)) (hf : fX0_now N  a1 μ = some r0) : wMi l yX0_now cX0_now 2 (some .int) ({ frames := 4, cells := 0, slots := 0, locals := 84 } : Room) D vwCl (spX ++ E) q ca [.ref (q 0), .int a1] μ r0 := by
  refine wMi_intro (by decide) (Nat.le_of_ble_eq_true rfl) ?_
  intro p e s m args below meth c A C
  unfold fX0_now at hf
  refine wr_sub [(0, .ref (q 0)), (1, .int a1)] [0, 1] rfl ?_
  refine wr_aload_n 0 C dX0_now_0 0 rfl rfl ?_
  obtain ⟨v3, μ2, h1, hf⟩ := o_bind hf
  refine wr_Vi (kc1 := 0) (ks1 := 0) 1 [] C dX0_now_1 (tX0_isFamily l N    μ (v3, μ2) h1) okX0_isFamily q770 (b := 0) spX_0 rfl ⟨rfl, rfl, Nat.le_of_ble_eq_true rfl, Nat.le_of_ble_eq_true rfl, Nat.zero_le _, Nat.zero_le _⟩ (Nat.le_of_ble_eq_true rfl) rfl ?_
  obtain ⟨Jnow15, eJnow15, hf⟩ := o_let hf
  have hJnow15 : ∀  (μ4 : wMem), Jnow15  μ4 = some r0 → wJ p l e ({ frames := 4, cells := 0, slots := 0, locals := 84 } : Room) s m args below meth c 2 D vwCl (spX ++ E) q ca A (wQi ({ frames := 4, cells := 0, slots := 0, locals := 84 } : Room) D vwCl (spX ++ E) q ca below args s A r0) 0 0 μ4 15 [] [] := by
    intro  μ4 hf
    rw [eJnow15] at hf
    refine wr_bipush 15 C dX0_now_15 (v := (-2)) rfl ?_
    exact wr_iret 17 C dX0_now_17 ⟨Nat.zero_le _, Nat.zero_le _⟩ (Option.some.inj hf)
  refine wr_if_eq 4 15 C dX0_now_4 (by decide) (fun c5 => ?_) (fun c5 => ?_)
  · replace hf := o_pos c5 hf
    refine wr_sub [] [] rfl ?_
    exact hJnow15  μ2 hf
  · replace hf := o_neg c5 hf
    refine wr_iload_n 7 C dX0_now_7 1 rfl rfl ?_
    refine wr_iconst 8 C dX0_now_8 (v := 5) rfl ?_
    obtain ⟨v8, μ7, h6, hf⟩ := o_bind hf
    refine wr_Si (kc1 := 0) (ks1 := 0) 9 [] C dX0_now_9 (tX0_isOneOf l N   a1 5 μ2 (v8, μ7) h6) okX0_isOneOf q734 ⟨rfl, rfl, Nat.le_of_ble_eq_true rfl, Nat.le_of_ble_eq_true rfl, Nat.zero_le _, Nat.zero_le _⟩ (Nat.le_of_ble_eq_true rfl) rfl ?_
    refine wr_if_ne 12 18 C dX0_now_12 (by decide) (fun c9 => ?_) (fun c9 => ?_)
    · replace hf := o_neg c9 hf
      refine wr_aload_n 18 C dX0_now_18 0 rfl rfl ?_
      obtain ⟨μ11, h10, hf⟩ := o_bindV hf
      refine wr_Vv (kc1 := 0) (ks1 := 0) 19 [] C dX0_now_19 (tX0_asItIs l N    μ7 μ11 h10) okX0_asItIs q737 (b := 0) spX_0 rfl ⟨rfl, rfl, Nat.le_of_ble_eq_true rfl, Nat.le_of_ble_eq_true rfl, Nat.zero_le _, Nat.zero_le _⟩ (Nat.le_of_ble_eq_true rfl) rfl ?_
      refine wr_iload_n 22 C dX0_now_22 1 rfl rfl ?_
      refine wr_if_ne 23 33 C dX0_now_23 (by decide) (fun c12 => ?_) (fun c12 => ?_)
      · replace hf := o_neg c12 hf
        refine wr_iload_n 33 C dX0_now_33 1 rfl rfl ?_
        refine wr_iconst 34 C dX0_now_34 (v := 1) rfl ?_
        refine wr_icmp_ne 35 45 C dX0_now_35 (by decide) (fun c13 => ?_) (fun c13 => ?_)
        · replace hf := o_neg c13 hf
          refine wr_iload_n 45 C dX0_now_45 1 rfl rfl ?_
          refine wr_iconst 46 C dX0_now_46 (v := 2) rfl ?_
          refine wr_icmp_ne 47 57 C dX0_now_47 (by decide) (fun c14 => ?_) (fun c14 => ?_)
          · replace hf := o_neg c14 hf
            refine wr_iload_n 57 C dX0_now_57 1 rfl rfl ?_
            refine wr_iconst 58 C dX0_now_58 (v := 3) rfl ?_
            refine wr_icmp_ne 59 69 C dX0_now_59 (by decide) (fun c15 => ?_) (fun c15 => ?_)
            · replace hf := o_neg c15 hf
              refine wr_aload_n 69 C dX0_now_69 0 rfl rfl ?_
              refine gespX_0_10_X0 70 C dX0_now_70 ?_
              exact wr_iret 73 C dX0_now_73 ⟨Nat.zero_le _, Nat.zero_le _⟩ (Option.some.inj hf)
            · replace hf := o_pos c15 hf
              refine wr_aload_n 62 C dX0_now_62 0 rfl rfl ?_
              obtain ⟨v18, μ17, h16, hf⟩ := o_bind hf
              refine wr_Vi (kc1 := 0) (ks1 := 0) 63 [] C dX0_now_63 (tX0_stampsNow l N    μ11 (v18, μ17) h16) okX0_stampsNow q774 (b := 0) spX_0 rfl ⟨rfl, rfl, Nat.le_of_ble_eq_true rfl, Nat.le_of_ble_eq_true rfl, Nat.zero_le _, Nat.zero_le _⟩ (Nat.le_of_ble_eq_true rfl) rfl ?_
              refine wr_goto 66 C dX0_now_66 (tgt := 73) (by decide) ?_
              exact wr_iret 73 C dX0_now_73 ⟨Nat.zero_le _, Nat.zero_le _⟩ (Option.some.inj hf)
          · replace hf := o_pos c14 hf
            refine wr_aload_n 50 C dX0_now_50 0 rfl rfl ?_
            refine gespX_0_9_X0 51 C dX0_now_51 ?_
            refine wr_goto 54 C dX0_now_54 (tgt := 73) (by decide) ?_
            exact wr_iret 73 C dX0_now_73 ⟨Nat.zero_le _, Nat.zero_le _⟩ (Option.some.inj hf)
        · replace hf := o_pos c13 hf
          refine wr_aload_n 38 C dX0_now_38 0 rfl rfl ?_
          refine gespX_0_6_X0 39 C dX0_now_39 ?_
          refine wr_goto 42 C dX0_now_42 (tgt := 73) (by decide) ?_
          exact wr_iret 73 C dX0_now_73 ⟨Nat.zero_le _, Nat.zero_le _⟩ (Option.some.inj hf)
      · replace hf := o_pos c12 hf
        refine wr_aload_n 26 C dX0_now_26 0 rfl rfl ?_
        refine gespX_0_5_X0 27 C dX0_now_27 ?_
        refine wr_goto 30 C dX0_now_30 (tgt := 73) (by decide) ?_
        exact wr_iret 73 C dX0_now_73 ⟨Nat.zero_le _, Nat.zero_le _⟩ (Option.some.inj hf)
    · replace hf := o_pos c9 hf
      refine wr_sub [] [] rfl ?_
      exact hJnow15  μ7 hf
abbrev cX0_stamp : ByteArray := prog_1_method_38_code
def yX0_stamp : MethodName := ⟨RX0, "stamp", "(I)I"⟩
def dkwX0_stamp_3 : List UInt8 := [132, 2, 1, 42, 21, 4, 182, 0, 243, 132, 3, 1, 167, 255, 195, 2, 172]
abbrev dktX0_stamp_3 : List UInt8 := dkwX0_stamp_3 ++ []
def dkwX0_stamp_2 : List UInt8 := [159, 0, 25, 28, 27, 160, 0, 17, 16, 10, 21, 4, 184, 0, 198, 104, 42, 180, 0, 182, 96, 172]
abbrev dktX0_stamp_2 : List UInt8 := dkwX0_stamp_2 ++ dktX0_stamp_3
def dkwX0_stamp_1 : List UInt8 := [180, 0, 231, 162, 0, 56, 42, 180, 0, 12, 180, 0, 234, 29, 46, 54, 4, 21, 4, 17, 0, 200]
abbrev dktX0_stamp_1 : List UInt8 := dkwX0_stamp_1 ++ dktX0_stamp_2
def dkwX0_stamp_0 : List UInt8 := [42, 182, 0, 252, 154, 0, 6, 16, 254, 172, 42, 182, 0, 222, 3, 61, 3, 62, 29, 42, 180, 0, 12]
abbrev dktX0_stamp_0 : List UInt8 := dkwX0_stamp_0 ++ dktX0_stamp_1
theorem dksX0_stamp_0 : cX0_stamp.data.toList.drop 0 = dktX0_stamp_0 := by decide +kernel
theorem dksX0_stamp_1 : cX0_stamp.data.toList.drop 23 = dktX0_stamp_1 := dk_seg dksX0_stamp_0 23 rfl rfl
theorem dksX0_stamp_2 : cX0_stamp.data.toList.drop 45 = dktX0_stamp_2 := dk_seg dksX0_stamp_1 22 rfl rfl
theorem dksX0_stamp_3 : cX0_stamp.data.toList.drop 67 = dktX0_stamp_3 := dk_seg dksX0_stamp_2 22 rfl rfl
theorem dX0_stamp_0 : decode cX0_stamp 0 = .ok (.aload_n 0, 1) := dk_42 (dk_at dksX0_stamp_0 0 rfl rfl)
theorem dX0_stamp_1 : decode cX0_stamp 1 = .ok (.invokevirtual 252, 3) := dk_182 0 252 (dk_at dksX0_stamp_0 1 rfl rfl)
theorem dX0_stamp_4 : decode cX0_stamp 4 = .ok (.ifCond .ne 6, 3) := dk_154 0 6 (dk_at dksX0_stamp_0 4 rfl rfl)
theorem dX0_stamp_7 : decode cX0_stamp 7 = .ok (.bipush (-2), 2) := dk_16 254 (dk_at dksX0_stamp_0 7 rfl rfl)
theorem dX0_stamp_9 : decode cX0_stamp 9 = .ok (.ireturn, 1) := dk_172 (dk_at dksX0_stamp_0 9 rfl rfl)
theorem dX0_stamp_10 : decode cX0_stamp 10 = .ok (.aload_n 0, 1) := dk_42 (dk_at dksX0_stamp_0 10 rfl rfl)
theorem dX0_stamp_11 : decode cX0_stamp 11 = .ok (.invokevirtual 222, 3) := dk_182 0 222 (dk_at dksX0_stamp_0 11 rfl rfl)
theorem dX0_stamp_14 : decode cX0_stamp 14 = .ok (.iconst 0, 1) := dk_3 (dk_at dksX0_stamp_0 14 rfl rfl)
theorem dX0_stamp_15 : decode cX0_stamp 15 = .ok (.istore_n 2, 1) := dk_61 (dk_at dksX0_stamp_0 15 rfl rfl)
theorem dX0_stamp_16 : decode cX0_stamp 16 = .ok (.iconst 0, 1) := dk_3 (dk_at dksX0_stamp_0 16 rfl rfl)
theorem dX0_stamp_17 : decode cX0_stamp 17 = .ok (.istore_n 3, 1) := dk_62 (dk_at dksX0_stamp_0 17 rfl rfl)
theorem dX0_stamp_18 : decode cX0_stamp 18 = .ok (.iload_n 3, 1) := dk_29 (dk_at dksX0_stamp_0 18 rfl rfl)
theorem dX0_stamp_19 : decode cX0_stamp 19 = .ok (.aload_n 0, 1) := dk_42 (dk_at dksX0_stamp_0 19 rfl rfl)
theorem dX0_stamp_20 : decode cX0_stamp 20 = .ok (.getfield 12, 3) := dk_180 0 12 (dk_at dksX0_stamp_0 20 rfl rfl)
theorem dX0_stamp_23 : decode cX0_stamp 23 = .ok (.getfield 231, 3) := dk_180 0 231 (dk_at dksX0_stamp_1 0 rfl rfl)
theorem dX0_stamp_26 : decode cX0_stamp 26 = .ok (.if_icmp .ge 56, 3) := dk_162 0 56 (dk_at dksX0_stamp_1 3 rfl rfl)
theorem dX0_stamp_29 : decode cX0_stamp 29 = .ok (.aload_n 0, 1) := dk_42 (dk_at dksX0_stamp_1 6 rfl rfl)
theorem dX0_stamp_30 : decode cX0_stamp 30 = .ok (.getfield 12, 3) := dk_180 0 12 (dk_at dksX0_stamp_1 7 rfl rfl)
theorem dX0_stamp_33 : decode cX0_stamp 33 = .ok (.getfield 234, 3) := dk_180 0 234 (dk_at dksX0_stamp_1 10 rfl rfl)
theorem dX0_stamp_36 : decode cX0_stamp 36 = .ok (.iload_n 3, 1) := dk_29 (dk_at dksX0_stamp_1 13 rfl rfl)
theorem dX0_stamp_37 : decode cX0_stamp 37 = .ok (.iaload, 1) := dk_46 (dk_at dksX0_stamp_1 14 rfl rfl)
theorem dX0_stamp_38 : decode cX0_stamp 38 = .ok (.istore 4, 2) := dk_54 4 (dk_at dksX0_stamp_1 15 rfl rfl)
theorem dX0_stamp_40 : decode cX0_stamp 40 = .ok (.iload 4, 2) := dk_21 4 (dk_at dksX0_stamp_1 17 rfl rfl)
theorem dX0_stamp_42 : decode cX0_stamp 42 = .ok (.sipush 200, 3) := dk_17 0 200 (dk_at dksX0_stamp_1 19 rfl rfl)
theorem dX0_stamp_45 : decode cX0_stamp 45 = .ok (.if_icmp .eq 25, 3) := dk_159 0 25 (dk_at dksX0_stamp_2 0 rfl rfl)
theorem dX0_stamp_48 : decode cX0_stamp 48 = .ok (.iload_n 2, 1) := dk_28 (dk_at dksX0_stamp_2 3 rfl rfl)
theorem dX0_stamp_49 : decode cX0_stamp 49 = .ok (.iload_n 1, 1) := dk_27 (dk_at dksX0_stamp_2 4 rfl rfl)
theorem dX0_stamp_50 : decode cX0_stamp 50 = .ok (.if_icmp .ne 17, 3) := dk_160 0 17 (dk_at dksX0_stamp_2 5 rfl rfl)
theorem dX0_stamp_53 : decode cX0_stamp 53 = .ok (.bipush 10, 2) := dk_16 10 (dk_at dksX0_stamp_2 8 rfl rfl)
theorem dX0_stamp_55 : decode cX0_stamp 55 = .ok (.iload 4, 2) := dk_21 4 (dk_at dksX0_stamp_2 10 rfl rfl)
theorem dX0_stamp_57 : decode cX0_stamp 57 = .ok (.invokestatic 198, 3) := dk_184 0 198 (dk_at dksX0_stamp_2 12 rfl rfl)
theorem dX0_stamp_60 : decode cX0_stamp 60 = .ok (.imul, 1) := dk_104 (dk_at dksX0_stamp_2 15 rfl rfl)
theorem dX0_stamp_61 : decode cX0_stamp 61 = .ok (.aload_n 0, 1) := dk_42 (dk_at dksX0_stamp_2 16 rfl rfl)
theorem dX0_stamp_62 : decode cX0_stamp 62 = .ok (.getfield 182, 3) := dk_180 0 182 (dk_at dksX0_stamp_2 17 rfl rfl)
theorem dX0_stamp_65 : decode cX0_stamp 65 = .ok (.iadd, 1) := dk_96 (dk_at dksX0_stamp_2 20 rfl rfl)
theorem dX0_stamp_66 : decode cX0_stamp 66 = .ok (.ireturn, 1) := dk_172 (dk_at dksX0_stamp_2 21 rfl rfl)
theorem dX0_stamp_67 : decode cX0_stamp 67 = .ok (.iinc 2 1, 3) := dk_132 2 1 (dk_at dksX0_stamp_3 0 rfl rfl)
theorem dX0_stamp_70 : decode cX0_stamp 70 = .ok (.aload_n 0, 1) := dk_42 (dk_at dksX0_stamp_3 3 rfl rfl)
theorem dX0_stamp_71 : decode cX0_stamp 71 = .ok (.iload 4, 2) := dk_21 4 (dk_at dksX0_stamp_3 4 rfl rfl)
theorem dX0_stamp_73 : decode cX0_stamp 73 = .ok (.invokevirtual 243, 3) := dk_182 0 243 (dk_at dksX0_stamp_3 6 rfl rfl)
theorem dX0_stamp_76 : decode cX0_stamp 76 = .ok (.iinc 3 1, 3) := dk_132 3 1 (dk_at dksX0_stamp_3 9 rfl rfl)
theorem dX0_stamp_79 : decode cX0_stamp 79 = .ok (.goto (-61), 3) := dk_167 255 195 (dk_at dksX0_stamp_3 12 rfl rfl)
theorem dX0_stamp_82 : decode cX0_stamp 82 = .ok (.iconst (-1), 1) := dk_2 (dk_at dksX0_stamp_3 15 rfl rfl)
theorem dX0_stamp_83 : decode cX0_stamp 83 = .ok (.ireturn, 1) := dk_172 (dk_at dksX0_stamp_3 16 rfl rfl)

theorem okX0_stamp : wOkV yX0_stamp cX0_stamp 5 (some .int) 1 := ⟨q779, q780, q136, q781, by decide, by decide, by decide +kernel⟩
def gbX0_stamp_18 (N : Nat)  (x1_ : Int32) (K : (wMem → Option (Int32 × wMem))) (rec : (Int32 → Int32 → wMem → Option (Int32 × wMem))) (x2_ : Int32) (x3_ : Int32) (μ : wMem) : Option (Int32 × wMem) :=
  if (μ.1 1 6) ≤ x3_ then K  μ else wG (ok_in x3_ 40) (wLet (μ.1 7 (Int32.toNatClampNeg x3_) : Int32) fun x9 => wLet (fun (x11 : Int32) (μ10 : wMem) => wBindV (fX0_does N  x9 μ10) fun μ13 => wLet (x3_ + 1 : Int32) fun x14 => rec x11 x14 μ13) fun Jstamp70 => if x9 = (200 : Int32) then Jstamp70 x2_ μ else if x2_ = x1_ then wBind (fX0_postIn N  x9 μ) fun v20 μ19 => some (((10 : Int32) * v20) + (μ19.1 0 6), μ19) else wLet (x2_ + 1 : Int32) fun x17 => Jstamp70 x17 μ)
def gX0_stamp_18 (N : Nat)  (x1_ : Int32) (K : (wMem → Option (Int32 × wMem))) : Nat → (Int32 → Int32 → wMem → Option (Int32 × wMem))
  | 0 => fun _ _ _ => none
  | k + 1 => gbX0_stamp_18 N  x1_ K (gX0_stamp_18 N  x1_ K k)
set_option maxHeartbeats 4000000 in
set_option maxRecDepth 100000 in
theorem tX0_stamp_18 {p : Program} {l : Launch} {e : Env} {s : State} {m : MethodId} {args : Array Value} {below : List Frame} {meth : Method} {c : Code} {D : va_G} {E : List wCell} {q : Nat → Nat} {ca : wCA} {A : Nat → Prop} (C : wC p ({ frames := 2, cells := 0, slots := 0, locals := 42 } : Room) s m args meth c cX0_stamp yX0_stamp.cls 5 (some .int) D vwCl (spX ++ E) q ca A) (N : Nat)   (x1_ : Int32) (K : (wMem → Option (Int32 × wMem))) (r0 : (Int32 × wMem)) (hK : ∀  (μ : wMem), K  μ = some r0 → wJ p l e ({ frames := 2, cells := 0, slots := 0, locals := 42 } : Room) s m args below meth c 5 D vwCl (spX ++ E) q ca A (wQi ({ frames := 2, cells := 0, slots := 0, locals := 42 } : Room) D vwCl (spX ++ E) q ca below args s A r0) 0 0 μ 82 [] []) : ∀ (k : Nat) (x2_ : Int32) (x3_ : Int32) (μ : wMem), gX0_stamp_18 N  x1_ K k x2_ x3_ μ = some r0 → wJ p l e ({ frames := 2, cells := 0, slots := 0, locals := 42 } : Room) s m args below meth c 5 D vwCl (spX ++ E) q ca A (wQi ({ frames := 2, cells := 0, slots := 0, locals := 42 } : Room) D vwCl (spX ++ E) q ca below args s A r0) 0 0 μ 18 [(0, .ref (q 0)), (1, .int x1_), (2, .int x2_), (3, .int x3_)] [] := by
  intro k
  induction k with
  | zero =>
    intro x2_ x3_ μ hf
    cases hf
  | succ k ih =>
    intro x2_ x3_ μ hf
    replace hf : gbX0_stamp_18 N  x1_ K (gX0_stamp_18 N  x1_ K k) x2_ x3_ μ = some r0 := hf
    unfold gbX0_stamp_18 at hf
    refine wr_iload_n 18 C dX0_stamp_18 3 rfl rfl ?_
    refine wr_aload_n 19 C dX0_stamp_19 0 rfl rfl ?_
    refine gespX_0_0_X0 20 C dX0_stamp_20 ?_
    refine gespX_1_6_X0 23 C dX0_stamp_23 ?_
    refine wr_icmp_ge 26 82 C dX0_stamp_26 (by decide) (fun c7 => ?_) (fun c7 => ?_)
    · replace hf := o_pos c7 hf
      refine wr_sub [] [] rfl ?_
      exact hK  μ hf
    · replace hf := o_neg c7 hf
      refine wr_aload_n 29 C dX0_stamp_29 0 rfl rfl ?_
      refine gespX_0_0_X0 30 C dX0_stamp_30 ?_
      refine gespX_1_13_X0 33 C dX0_stamp_33 ?_
      refine wr_iload_n 36 C dX0_stamp_36 3 rfl rfl ?_
      obtain ⟨g8, hf⟩ := o_g hf
      refine wr_iald 37 C dX0_stamp_37 spX_7 g8 ?_
      obtain ⟨x9, ex9, hf⟩ := o_let hf
      refine wr_istore 38 [(4, .int x9), (0, .ref (q 0)), (1, .int x1_), (2, .int x2_), (3, .int x3_)] C dX0_stamp_38 ex9 (Nat.le_of_ble_eq_true rfl) rfl ?_
      refine wr_iload 40 C dX0_stamp_40 0 rfl ?_
      refine wr_sipush 42 C dX0_stamp_42 (v := 200) rfl ?_
      obtain ⟨Jstamp70, eJstamp70, hf⟩ := o_let hf
      have hJstamp70 : ∀ (x11 : Int32) (μ10 : wMem), Jstamp70 x11 μ10 = some r0 → wJ p l e ({ frames := 2, cells := 0, slots := 0, locals := 42 } : Room) s m args below meth c 5 D vwCl (spX ++ E) q ca A (wQi ({ frames := 2, cells := 0, slots := 0, locals := 42 } : Room) D vwCl (spX ++ E) q ca below args s A r0) 0 0 μ10 70 [(0, .ref (q 0)), (1, .int x1_), (2, .int x11), (3, .int x3_), (4, .int x9)] [] := by
        intro x11 μ10 hf
        rw [eJstamp70] at hf
        refine wr_aload_n 70 C dX0_stamp_70 0 rfl rfl ?_
        refine wr_iload 71 C dX0_stamp_71 4 rfl ?_
        obtain ⟨μ13, h12, hf⟩ := o_bindV hf
        refine wr_Vv (kc1 := 0) (ks1 := 0) 73 [] C dX0_stamp_73 (tX0_does l N   x9 μ10 μ13 h12) okX0_does q755 (b := 0) spX_0 rfl ⟨rfl, rfl, Nat.le_of_ble_eq_true rfl, Nat.le_of_ble_eq_true rfl, Nat.zero_le _, Nat.zero_le _⟩ (Nat.le_of_ble_eq_true rfl) rfl ?_
        obtain ⟨x14, ex14, hf⟩ := o_let hf
        refine wr_iinc 76 [(3, .int x14), (0, .ref (q 0)), (1, .int x1_), (2, .int x11), (4, .int x9)] C dX0_stamp_76 3 rfl (ex14.trans rfl) (Nat.le_of_ble_eq_true rfl) rfl ?_
        refine wr_goto 79 C dX0_stamp_79 (tgt := 18) (by decide) ?_
        refine wr_sub [(0, .ref (q 0)), (1, .int x1_), (2, .int x11), (3, .int x14)] [1, 2, 3, 0] rfl ?_
        exact ih x11 x14 μ13 hf
      refine wr_icmp_eq 45 70 C dX0_stamp_45 (by decide) (fun c15 => ?_) (fun c15 => ?_)
      · replace hf := o_pos c15 hf
        refine wr_sub [(0, .ref (q 0)), (1, .int x1_), (2, .int x2_), (3, .int x3_), (4, .int x9)] [1, 2, 3, 4, 0] rfl ?_
        exact hJstamp70 x2_ μ hf
      · replace hf := o_neg c15 hf
        refine wr_iload_n 48 C dX0_stamp_48 3 rfl rfl ?_
        refine wr_iload_n 49 C dX0_stamp_49 2 rfl rfl ?_
        refine wr_icmp_ne 50 67 C dX0_stamp_50 (by decide) (fun c16 => ?_) (fun c16 => ?_)
        · replace hf := o_neg c16 hf
          obtain ⟨x17, ex17, hf⟩ := o_let hf
          refine wr_iinc 67 [(2, .int x17), (4, .int x9), (0, .ref (q 0)), (1, .int x1_), (3, .int x3_)] C dX0_stamp_67 3 rfl (ex17.trans rfl) (Nat.le_of_ble_eq_true rfl) rfl ?_
          refine wr_sub [(0, .ref (q 0)), (1, .int x1_), (2, .int x17), (3, .int x3_), (4, .int x9)] [2, 3, 0, 4, 1] rfl ?_
          exact hJstamp70 x17 μ hf
        · replace hf := o_pos c16 hf
          refine wr_bipush 53 C dX0_stamp_53 (v := 10) rfl ?_
          refine wr_iload 55 C dX0_stamp_55 0 rfl ?_
          obtain ⟨v20, μ19, h18, hf⟩ := o_bind hf
          refine wr_Si (kc1 := 0) (ks1 := 0) 57 [.int 10] C dX0_stamp_57 (tX0_postIn l N   x9 μ (v20, μ19) h18) okX0_postIn q752 ⟨rfl, rfl, Nat.le_of_ble_eq_true rfl, Nat.le_of_ble_eq_true rfl, Nat.zero_le _, Nat.zero_le _⟩ (Nat.le_of_ble_eq_true rfl) rfl ?_
          refine wr_imul 60 C dX0_stamp_60 ?_
          refine wr_aload_n 61 C dX0_stamp_61 1 rfl rfl ?_
          refine gespX_0_6_X0 62 C dX0_stamp_62 ?_
          refine wr_iadd 65 C dX0_stamp_65 ?_
          exact wr_iret 66 C dX0_stamp_66 ⟨Nat.zero_le _, Nat.zero_le _⟩ (Option.some.inj hf)
def fX0_stamp (N : Nat)  (a1 : Int32) (μ : wMem) : Option (Int32 × wMem) :=
  wBind (fX0_isFamily N   μ) fun v3 μ2 => if v3 = 0 then some ((-2), μ2) else wBindV (fX0_asAtFirst N   μ2) fun μ6 => gX0_stamp_18 N  a1 (fun  (μ21 : wMem) => some ((-1), μ21)) N 0 0 μ6
set_option maxHeartbeats 4000000 in
set_option maxRecDepth 100000 in
theorem tX0_stamp (l : Launch) {D : va_G} {E : List wCell} {q : Nat → Nat} {ca : wCA} (N : Nat)   (a1 : Int32) (μ : wMem) (r0 : (Int32 × wMem)) (hf : fX0_stamp N  a1 μ = some r0) : wMi l yX0_stamp cX0_stamp 5 (some .int) ({ frames := 2, cells := 0, slots := 0, locals := 42 } : Room) D vwCl (spX ++ E) q ca [.ref (q 0), .int a1] μ r0 := by
  refine wMi_intro (by decide) (Nat.le_of_ble_eq_true rfl) ?_
  intro p e s m args below meth c A C
  unfold fX0_stamp at hf
  refine wr_sub [(0, .ref (q 0)), (1, .int a1)] [0, 1] rfl ?_
  refine wr_aload_n 0 C dX0_stamp_0 0 rfl rfl ?_
  obtain ⟨v3, μ2, h1, hf⟩ := o_bind hf
  refine wr_Vi (kc1 := 0) (ks1 := 0) 1 [] C dX0_stamp_1 (tX0_isFamily l N    μ (v3, μ2) h1) okX0_isFamily q770 (b := 0) spX_0 rfl ⟨rfl, rfl, Nat.le_of_ble_eq_true rfl, Nat.le_of_ble_eq_true rfl, Nat.zero_le _, Nat.zero_le _⟩ (Nat.le_of_ble_eq_true rfl) rfl ?_
  refine wr_if_ne 4 10 C dX0_stamp_4 (by decide) (fun c4 => ?_) (fun c4 => ?_)
  · replace hf := o_neg c4 hf
    refine wr_aload_n 10 C dX0_stamp_10 0 rfl rfl ?_
    obtain ⟨μ6, h5, hf⟩ := o_bindV hf
    refine wr_Vv (kc1 := 0) (ks1 := 0) 11 [] C dX0_stamp_11 (tX0_asAtFirst l N    μ2 μ6 h5) okX0_asAtFirst q741 (b := 0) spX_0 rfl ⟨rfl, rfl, Nat.le_of_ble_eq_true rfl, Nat.le_of_ble_eq_true rfl, Nat.zero_le _, Nat.zero_le _⟩ (Nat.le_of_ble_eq_true rfl) rfl ?_
    refine wr_iconst 14 C dX0_stamp_14 (v := 0) rfl ?_
    refine wr_istore_n 15 [(2, .int 0), (0, .ref (q 0)), (1, .int a1)] C dX0_stamp_15 rfl rfl (Nat.le_of_ble_eq_true rfl) rfl ?_
    refine wr_iconst 16 C dX0_stamp_16 (v := 0) rfl ?_
    refine wr_istore_n 17 [(3, .int 0), (2, .int 0), (0, .ref (q 0)), (1, .int a1)] C dX0_stamp_17 rfl rfl (Nat.le_of_ble_eq_true rfl) rfl ?_
    refine wr_sub [(0, .ref (q 0)), (1, .int a1), (2, .int 0), (3, .int 0)] [2, 3, 1, 0] rfl ?_
    refine tX0_stamp_18 C N   a1 _ r0 (fun  μ21 hf => ?_) N 0 0 μ6 hf
    · replace hf := hf
      refine wr_iconst 82 C dX0_stamp_82 (v := (-1)) rfl ?_
      exact wr_iret 83 C dX0_stamp_83 ⟨Nat.zero_le _, Nat.zero_le _⟩ (Option.some.inj hf)
  · replace hf := o_pos c4 hf
    refine wr_bipush 7 C dX0_stamp_7 (v := (-2)) rfl ?_
    exact wr_iret 9 C dX0_stamp_9 ⟨Nat.zero_le _, Nat.zero_le _⟩ (Option.some.inj hf)
abbrev cX0_liesBy : ByteArray := prog_1_method_39_code
def yX0_liesBy : MethodName := ⟨RX0, "liesBy", "(I)V"⟩
def dkwX0_liesBy_1 : List UInt8 := [4, 167, 0, 4, 3, 96, 181, 1, 3, 42, 42, 180, 0, 182, 181, 1, 6, 177]
abbrev dktX0_liesBy_1 : List UInt8 := dkwX0_liesBy_1 ++ []
def dkwX0_liesBy_0 : List UInt8 := [27, 17, 0, 200, 160, 0, 4, 177, 42, 89, 180, 1, 3, 42, 180, 1, 6, 42, 180, 0, 182, 160, 0, 7]
abbrev dktX0_liesBy_0 : List UInt8 := dkwX0_liesBy_0 ++ dktX0_liesBy_1
theorem dksX0_liesBy_0 : cX0_liesBy.data.toList.drop 0 = dktX0_liesBy_0 := by decide +kernel
theorem dksX0_liesBy_1 : cX0_liesBy.data.toList.drop 24 = dktX0_liesBy_1 := dk_seg dksX0_liesBy_0 24 rfl rfl
theorem dX0_liesBy_0 : decode cX0_liesBy 0 = .ok (.iload_n 1, 1) := dk_27 (dk_at dksX0_liesBy_0 0 rfl rfl)
theorem dX0_liesBy_1 : decode cX0_liesBy 1 = .ok (.sipush 200, 3) := dk_17 0 200 (dk_at dksX0_liesBy_0 1 rfl rfl)
theorem dX0_liesBy_4 : decode cX0_liesBy 4 = .ok (.if_icmp .ne 4, 3) := dk_160 0 4 (dk_at dksX0_liesBy_0 4 rfl rfl)
theorem dX0_liesBy_7 : decode cX0_liesBy 7 = .ok (.return_, 1) := dk_177 (dk_at dksX0_liesBy_0 7 rfl rfl)
theorem dX0_liesBy_8 : decode cX0_liesBy 8 = .ok (.aload_n 0, 1) := dk_42 (dk_at dksX0_liesBy_0 8 rfl rfl)
theorem dX0_liesBy_9 : decode cX0_liesBy 9 = .ok (.dup, 1) := dk_89 (dk_at dksX0_liesBy_0 9 rfl rfl)
theorem dX0_liesBy_10 : decode cX0_liesBy 10 = .ok (.getfield 259, 3) := dk_180 1 3 (dk_at dksX0_liesBy_0 10 rfl rfl)
theorem dX0_liesBy_13 : decode cX0_liesBy 13 = .ok (.aload_n 0, 1) := dk_42 (dk_at dksX0_liesBy_0 13 rfl rfl)
theorem dX0_liesBy_14 : decode cX0_liesBy 14 = .ok (.getfield 262, 3) := dk_180 1 6 (dk_at dksX0_liesBy_0 14 rfl rfl)
theorem dX0_liesBy_17 : decode cX0_liesBy 17 = .ok (.aload_n 0, 1) := dk_42 (dk_at dksX0_liesBy_0 17 rfl rfl)
theorem dX0_liesBy_18 : decode cX0_liesBy 18 = .ok (.getfield 182, 3) := dk_180 0 182 (dk_at dksX0_liesBy_0 18 rfl rfl)
theorem dX0_liesBy_21 : decode cX0_liesBy 21 = .ok (.if_icmp .ne 7, 3) := dk_160 0 7 (dk_at dksX0_liesBy_0 21 rfl rfl)
theorem dX0_liesBy_24 : decode cX0_liesBy 24 = .ok (.iconst 1, 1) := dk_4 (dk_at dksX0_liesBy_1 0 rfl rfl)
theorem dX0_liesBy_25 : decode cX0_liesBy 25 = .ok (.goto 4, 3) := dk_167 0 4 (dk_at dksX0_liesBy_1 1 rfl rfl)
theorem dX0_liesBy_28 : decode cX0_liesBy 28 = .ok (.iconst 0, 1) := dk_3 (dk_at dksX0_liesBy_1 4 rfl rfl)
theorem dX0_liesBy_29 : decode cX0_liesBy 29 = .ok (.iadd, 1) := dk_96 (dk_at dksX0_liesBy_1 5 rfl rfl)
theorem dX0_liesBy_30 : decode cX0_liesBy 30 = .ok (.putfield 259, 3) := dk_181 1 3 (dk_at dksX0_liesBy_1 6 rfl rfl)
theorem dX0_liesBy_33 : decode cX0_liesBy 33 = .ok (.aload_n 0, 1) := dk_42 (dk_at dksX0_liesBy_1 9 rfl rfl)
theorem dX0_liesBy_34 : decode cX0_liesBy 34 = .ok (.aload_n 0, 1) := dk_42 (dk_at dksX0_liesBy_1 10 rfl rfl)
theorem dX0_liesBy_35 : decode cX0_liesBy 35 = .ok (.getfield 182, 3) := dk_180 0 182 (dk_at dksX0_liesBy_1 11 rfl rfl)
theorem dX0_liesBy_38 : decode cX0_liesBy 38 = .ok (.putfield 262, 3) := dk_181 1 6 (dk_at dksX0_liesBy_1 14 rfl rfl)
theorem dX0_liesBy_41 : decode cX0_liesBy 41 = .ok (.return_, 1) := dk_177 (dk_at dksX0_liesBy_1 17 rfl rfl)
theorem gespX_0_11_X0 {p : Program} {l : Launch} {e : Env} {R : Room} {s : State} {m : MethodId} {args : Array Value} {below : List Frame} {meth : Method} {c : Code} {cc : ByteArray} {nL : Nat} {ret : Option FieldType} {D : va_G} {E : List wCell} {q : Nat → Nat} {ca : wCA} {A : Nat → Prop} {Q : State → Prop} {kc ks : Nat} {μ : wMem} {lv : List (Nat × Value)} {st : List Value} (pc : Nat) (C : wC p R s m args meth c cc "OnePassport" nL ret D vwCl (spX ++ E) q ca A) (hd : decode cc pc = .ok (.getfield 259, 3)) (k : wJ p l e R s m args below meth c nL D vwCl (spX ++ E) q ca A Q kc ks μ (pc + 3) lv (.int (μ.1 0 11) :: st)) : wJ p l e R s m args below meth c nL D vwCl (spX ++ E) q ca A Q kc ks μ pc lv (.ref (q 0) :: st) := wr_getI pc 11 C hd spX_0 rfl in_X0 (by decide) rfl q342 k
theorem puspX_0_11_X0 {p : Program} {l : Launch} {e : Env} {R : Room} {s : State} {m : MethodId} {args : Array Value} {below : List Frame} {meth : Method} {c : Code} {cc : ByteArray} {nL : Nat} {ret : Option FieldType} {D : va_G} {E : List wCell} {q : Nat → Nat} {ca : wCA} {A : Nat → Prop} {Q : State → Prop} {kc ks : Nat} {μ : wMem} {lv : List (Nat × Value)} {st : List Value} {v : Int32} {μ1 : wMem} (pc : Nat) (C : wC p R s m args meth c cc "OnePassport" nL ret D vwCl (spX ++ E) q ca A) (hd : decode cc pc = .ok (.putfield 259, 3)) (hμ : μ1 = wSI μ 0 11 v) (k : wJ p l e R s m args below meth c nL D vwCl (spX ++ E) q ca A Q kc ks μ1 (pc + 3) lv st) : wJ p l e R s m args below meth c nL D vwCl (spX ++ E) q ca A Q kc ks μ pc lv (.int v :: .ref (q 0) :: st) := wr_putI pc 11 C hd spX_0 rfl in_X0 tyX0 tyX0_ok nmX0 (by decide) rfl q342 rfl rfl hμ k
theorem gespX_0_12_X0 {p : Program} {l : Launch} {e : Env} {R : Room} {s : State} {m : MethodId} {args : Array Value} {below : List Frame} {meth : Method} {c : Code} {cc : ByteArray} {nL : Nat} {ret : Option FieldType} {D : va_G} {E : List wCell} {q : Nat → Nat} {ca : wCA} {A : Nat → Prop} {Q : State → Prop} {kc ks : Nat} {μ : wMem} {lv : List (Nat × Value)} {st : List Value} (pc : Nat) (C : wC p R s m args meth c cc "OnePassport" nL ret D vwCl (spX ++ E) q ca A) (hd : decode cc pc = .ok (.getfield 262, 3)) (k : wJ p l e R s m args below meth c nL D vwCl (spX ++ E) q ca A Q kc ks μ (pc + 3) lv (.int (μ.1 0 12) :: st)) : wJ p l e R s m args below meth c nL D vwCl (spX ++ E) q ca A Q kc ks μ pc lv (.ref (q 0) :: st) := wr_getI pc 12 C hd spX_0 rfl in_X0 (by decide) rfl q343 k
theorem puspX_0_12_X0 {p : Program} {l : Launch} {e : Env} {R : Room} {s : State} {m : MethodId} {args : Array Value} {below : List Frame} {meth : Method} {c : Code} {cc : ByteArray} {nL : Nat} {ret : Option FieldType} {D : va_G} {E : List wCell} {q : Nat → Nat} {ca : wCA} {A : Nat → Prop} {Q : State → Prop} {kc ks : Nat} {μ : wMem} {lv : List (Nat × Value)} {st : List Value} {v : Int32} {μ1 : wMem} (pc : Nat) (C : wC p R s m args meth c cc "OnePassport" nL ret D vwCl (spX ++ E) q ca A) (hd : decode cc pc = .ok (.putfield 262, 3)) (hμ : μ1 = wSI μ 0 12 v) (k : wJ p l e R s m args below meth c nL D vwCl (spX ++ E) q ca A Q kc ks μ1 (pc + 3) lv st) : wJ p l e R s m args below meth c nL D vwCl (spX ++ E) q ca A Q kc ks μ pc lv (.int v :: .ref (q 0) :: st) := wr_putI pc 12 C hd spX_0 rfl in_X0 tyX0 tyX0_ok nmX0 (by decide) rfl q343 rfl rfl hμ k
theorem okX0_liesBy : wOkV yX0_liesBy cX0_liesBy 2 none 1 := ⟨q788, qs25, q136, q789, by decide, by decide, by decide +kernel⟩
def fX0_liesBy (N : Nat)  (a1 : Int32) (μ : wMem) : Option wMem :=
  if a1 = (200 : Int32) then some μ else wLet (fun (v3 : Int32) (v4 : Int32) (μ2 : wMem) => wLet (wSI μ2 0 11 (v4 + v3)) fun μ5 => wLet (wSI μ5 0 12 (μ5.1 0 6)) fun μ6 => some μ6) fun JliesBy29 => if (μ.1 0 12) = (μ.1 0 6) then JliesBy29 1 (μ.1 0 11) μ else JliesBy29 0 (μ.1 0 11) μ
set_option maxHeartbeats 4000000 in
set_option maxRecDepth 100000 in
theorem tX0_liesBy (l : Launch) {D : va_G} {E : List wCell} {q : Nat → Nat} {ca : wCA} (N : Nat)   (a1 : Int32) (μ : wMem) (r0 : wMem) (hf : fX0_liesBy N  a1 μ = some r0) : wMv l yX0_liesBy cX0_liesBy 2 none ({ frames := 0, cells := 0, slots := 0, locals := 0 } : Room) D vwCl (spX ++ E) q ca [.ref (q 0), .int a1] μ r0 := by
  refine wMv_intro (by decide) (Nat.le_of_ble_eq_true rfl) ?_
  intro p e s m args below meth c A C
  unfold fX0_liesBy at hf
  refine wr_sub [(0, .ref (q 0)), (1, .int a1)] [0, 1] rfl ?_
  refine wr_iload_n 0 C dX0_liesBy_0 1 rfl rfl ?_
  refine wr_sipush 1 C dX0_liesBy_1 (v := 200) rfl ?_
  refine wr_icmp_ne 4 8 C dX0_liesBy_4 (by decide) (fun c1 => ?_) (fun c1 => ?_)
  · replace hf := o_neg c1 hf
    refine wr_aload_n 8 C dX0_liesBy_8 0 rfl rfl ?_
    refine wr_dup 9 C dX0_liesBy_9 rfl ?_
    refine gespX_0_11_X0 10 C dX0_liesBy_10 ?_
    refine wr_aload_n 13 C dX0_liesBy_13 0 rfl rfl ?_
    refine gespX_0_12_X0 14 C dX0_liesBy_14 ?_
    refine wr_aload_n 17 C dX0_liesBy_17 0 rfl rfl ?_
    refine gespX_0_6_X0 18 C dX0_liesBy_18 ?_
    obtain ⟨JliesBy29, eJliesBy29, hf⟩ := o_let hf
    have hJliesBy29 : ∀ (v3 : Int32) (v4 : Int32) (μ2 : wMem), JliesBy29 v3 v4 μ2 = some r0 → wJ p l e ({ frames := 0, cells := 0, slots := 0, locals := 0 } : Room) s m args below meth c 2 D vwCl (spX ++ E) q ca A (wQv ({ frames := 0, cells := 0, slots := 0, locals := 0 } : Room) D vwCl (spX ++ E) q ca below args s A r0) 0 0 μ2 29 [(0, .ref (q 0))] [.int v3, .int v4, .ref (q 0)] := by
      intro v3 v4 μ2 hf
      rw [eJliesBy29] at hf
      refine wr_iadd 29 C dX0_liesBy_29 ?_
      obtain ⟨μ5, eμ5, hf⟩ := o_let hf
      refine puspX_0_11_X0 30 C dX0_liesBy_30 eμ5 ?_
      refine wr_aload_n 33 C dX0_liesBy_33 0 rfl rfl ?_
      refine wr_aload_n 34 C dX0_liesBy_34 0 rfl rfl ?_
      refine gespX_0_6_X0 35 C dX0_liesBy_35 ?_
      obtain ⟨μ6, eμ6, hf⟩ := o_let hf
      refine puspX_0_12_X0 38 C dX0_liesBy_38 eμ6 ?_
      exact wr_vret 41 C dX0_liesBy_41 ⟨Nat.zero_le _, Nat.zero_le _⟩ (Option.some.inj hf)
    refine wr_icmp_ne 21 28 C dX0_liesBy_21 (by decide) (fun c7 => ?_) (fun c7 => ?_)
    · replace hf := o_neg c7 hf
      refine wr_iconst 28 C dX0_liesBy_28 (v := 0) rfl ?_
      refine wr_sub [(0, .ref (q 0))] [0] rfl ?_
      exact hJliesBy29 0 (μ.1 0 11) μ hf
    · replace hf := o_pos c7 hf
      refine wr_iconst 24 C dX0_liesBy_24 (v := 1) rfl ?_
      refine wr_goto 25 C dX0_liesBy_25 (tgt := 29) (by decide) ?_
      refine wr_sub [(0, .ref (q 0))] [0] rfl ?_
      exact hJliesBy29 1 (μ.1 0 11) μ hf
  · replace hf := o_pos c1 hf
    exact wr_vret 7 C dX0_liesBy_7 ⟨Nat.zero_le _, Nat.zero_le _⟩ (Option.some.inj hf)
abbrev cX0_lies : ByteArray := prog_1_method_40_code
def yX0_lies : MethodName := ⟨RX0, "lies", "()I"⟩
def dkwX0_lies_3 : List UInt8 := [180, 1, 3, 172]
abbrev dktX0_lies_3 : List UInt8 := dkwX0_lies_3 ++ []
def dkwX0_lies_2 : List UInt8 := [182, 1, 9, 42, 42, 180, 0, 12, 180, 0, 234, 27, 46, 182, 0, 243, 132, 1, 1, 167, 255, 216, 42]
abbrev dktX0_lies_2 : List UInt8 := dkwX0_lies_2 ++ dktX0_lies_3
def dkwX0_lies_1 : List UInt8 := [3, 60, 27, 42, 180, 0, 12, 180, 0, 231, 162, 0, 35, 42, 42, 180, 0, 12, 180, 0, 234, 27, 46]
abbrev dktX0_lies_1 : List UInt8 := dkwX0_lies_1 ++ dktX0_lies_2
def dkwX0_lies_0 : List UInt8 := [42, 182, 0, 252, 154, 0, 6, 16, 254, 172, 42, 182, 0, 222, 42, 3, 181, 1, 3, 42, 2, 181, 1, 6]
abbrev dktX0_lies_0 : List UInt8 := dkwX0_lies_0 ++ dktX0_lies_1
theorem dksX0_lies_0 : cX0_lies.data.toList.drop 0 = dktX0_lies_0 := by decide +kernel
theorem dksX0_lies_1 : cX0_lies.data.toList.drop 24 = dktX0_lies_1 := dk_seg dksX0_lies_0 24 rfl rfl
theorem dksX0_lies_2 : cX0_lies.data.toList.drop 47 = dktX0_lies_2 := dk_seg dksX0_lies_1 23 rfl rfl
theorem dksX0_lies_3 : cX0_lies.data.toList.drop 70 = dktX0_lies_3 := dk_seg dksX0_lies_2 23 rfl rfl
theorem dX0_lies_0 : decode cX0_lies 0 = .ok (.aload_n 0, 1) := dk_42 (dk_at dksX0_lies_0 0 rfl rfl)
theorem dX0_lies_1 : decode cX0_lies 1 = .ok (.invokevirtual 252, 3) := dk_182 0 252 (dk_at dksX0_lies_0 1 rfl rfl)
theorem dX0_lies_4 : decode cX0_lies 4 = .ok (.ifCond .ne 6, 3) := dk_154 0 6 (dk_at dksX0_lies_0 4 rfl rfl)
theorem dX0_lies_7 : decode cX0_lies 7 = .ok (.bipush (-2), 2) := dk_16 254 (dk_at dksX0_lies_0 7 rfl rfl)
theorem dX0_lies_9 : decode cX0_lies 9 = .ok (.ireturn, 1) := dk_172 (dk_at dksX0_lies_0 9 rfl rfl)
theorem dX0_lies_10 : decode cX0_lies 10 = .ok (.aload_n 0, 1) := dk_42 (dk_at dksX0_lies_0 10 rfl rfl)
theorem dX0_lies_11 : decode cX0_lies 11 = .ok (.invokevirtual 222, 3) := dk_182 0 222 (dk_at dksX0_lies_0 11 rfl rfl)
theorem dX0_lies_14 : decode cX0_lies 14 = .ok (.aload_n 0, 1) := dk_42 (dk_at dksX0_lies_0 14 rfl rfl)
theorem dX0_lies_15 : decode cX0_lies 15 = .ok (.iconst 0, 1) := dk_3 (dk_at dksX0_lies_0 15 rfl rfl)
theorem dX0_lies_16 : decode cX0_lies 16 = .ok (.putfield 259, 3) := dk_181 1 3 (dk_at dksX0_lies_0 16 rfl rfl)
theorem dX0_lies_19 : decode cX0_lies 19 = .ok (.aload_n 0, 1) := dk_42 (dk_at dksX0_lies_0 19 rfl rfl)
theorem dX0_lies_20 : decode cX0_lies 20 = .ok (.iconst (-1), 1) := dk_2 (dk_at dksX0_lies_0 20 rfl rfl)
theorem dX0_lies_21 : decode cX0_lies 21 = .ok (.putfield 262, 3) := dk_181 1 6 (dk_at dksX0_lies_0 21 rfl rfl)
theorem dX0_lies_24 : decode cX0_lies 24 = .ok (.iconst 0, 1) := dk_3 (dk_at dksX0_lies_1 0 rfl rfl)
theorem dX0_lies_25 : decode cX0_lies 25 = .ok (.istore_n 1, 1) := dk_60 (dk_at dksX0_lies_1 1 rfl rfl)
theorem dX0_lies_26 : decode cX0_lies 26 = .ok (.iload_n 1, 1) := dk_27 (dk_at dksX0_lies_1 2 rfl rfl)
theorem dX0_lies_27 : decode cX0_lies 27 = .ok (.aload_n 0, 1) := dk_42 (dk_at dksX0_lies_1 3 rfl rfl)
theorem dX0_lies_28 : decode cX0_lies 28 = .ok (.getfield 12, 3) := dk_180 0 12 (dk_at dksX0_lies_1 4 rfl rfl)
theorem dX0_lies_31 : decode cX0_lies 31 = .ok (.getfield 231, 3) := dk_180 0 231 (dk_at dksX0_lies_1 7 rfl rfl)
theorem dX0_lies_34 : decode cX0_lies 34 = .ok (.if_icmp .ge 35, 3) := dk_162 0 35 (dk_at dksX0_lies_1 10 rfl rfl)
theorem dX0_lies_37 : decode cX0_lies 37 = .ok (.aload_n 0, 1) := dk_42 (dk_at dksX0_lies_1 13 rfl rfl)
theorem dX0_lies_38 : decode cX0_lies 38 = .ok (.aload_n 0, 1) := dk_42 (dk_at dksX0_lies_1 14 rfl rfl)
theorem dX0_lies_39 : decode cX0_lies 39 = .ok (.getfield 12, 3) := dk_180 0 12 (dk_at dksX0_lies_1 15 rfl rfl)
theorem dX0_lies_42 : decode cX0_lies 42 = .ok (.getfield 234, 3) := dk_180 0 234 (dk_at dksX0_lies_1 18 rfl rfl)
theorem dX0_lies_45 : decode cX0_lies 45 = .ok (.iload_n 1, 1) := dk_27 (dk_at dksX0_lies_1 21 rfl rfl)
theorem dX0_lies_46 : decode cX0_lies 46 = .ok (.iaload, 1) := dk_46 (dk_at dksX0_lies_1 22 rfl rfl)
theorem dX0_lies_47 : decode cX0_lies 47 = .ok (.invokevirtual 265, 3) := dk_182 1 9 (dk_at dksX0_lies_2 0 rfl rfl)
theorem dX0_lies_50 : decode cX0_lies 50 = .ok (.aload_n 0, 1) := dk_42 (dk_at dksX0_lies_2 3 rfl rfl)
theorem dX0_lies_51 : decode cX0_lies 51 = .ok (.aload_n 0, 1) := dk_42 (dk_at dksX0_lies_2 4 rfl rfl)
theorem dX0_lies_52 : decode cX0_lies 52 = .ok (.getfield 12, 3) := dk_180 0 12 (dk_at dksX0_lies_2 5 rfl rfl)
theorem dX0_lies_55 : decode cX0_lies 55 = .ok (.getfield 234, 3) := dk_180 0 234 (dk_at dksX0_lies_2 8 rfl rfl)
theorem dX0_lies_58 : decode cX0_lies 58 = .ok (.iload_n 1, 1) := dk_27 (dk_at dksX0_lies_2 11 rfl rfl)
theorem dX0_lies_59 : decode cX0_lies 59 = .ok (.iaload, 1) := dk_46 (dk_at dksX0_lies_2 12 rfl rfl)
theorem dX0_lies_60 : decode cX0_lies 60 = .ok (.invokevirtual 243, 3) := dk_182 0 243 (dk_at dksX0_lies_2 13 rfl rfl)
theorem dX0_lies_63 : decode cX0_lies 63 = .ok (.iinc 1 1, 3) := dk_132 1 1 (dk_at dksX0_lies_2 16 rfl rfl)
theorem dX0_lies_66 : decode cX0_lies 66 = .ok (.goto (-40), 3) := dk_167 255 216 (dk_at dksX0_lies_2 19 rfl rfl)
theorem dX0_lies_69 : decode cX0_lies 69 = .ok (.aload_n 0, 1) := dk_42 (dk_at dksX0_lies_2 22 rfl rfl)
theorem dX0_lies_70 : decode cX0_lies 70 = .ok (.getfield 259, 3) := dk_180 1 3 (dk_at dksX0_lies_3 0 rfl rfl)
theorem dX0_lies_73 : decode cX0_lies 73 = .ok (.ireturn, 1) := dk_172 (dk_at dksX0_lies_3 3 rfl rfl)

theorem okX0_lies : wOkV yX0_lies cX0_lies 2 (some .int) 0 := ⟨q783, q784, q136, q785, by decide, by decide, by decide +kernel⟩
def gbX0_lies_26 (N : Nat)   (K : (wMem → Option (Int32 × wMem))) (rec : (Int32 → wMem → Option (Int32 × wMem))) (x1_ : Int32) (μ : wMem) : Option (Int32 × wMem) :=
  if (μ.1 1 6) ≤ x1_ then K  μ else wG (ok_in x1_ 40) (wBindV (fX0_liesBy N  (μ.1 7 (Int32.toNatClampNeg x1_)) μ) fun μ12 => wG (ok_in x1_ 40) (wBindV (fX0_does N  (μ12.1 7 (Int32.toNatClampNeg x1_)) μ12) fun μ15 => wLet (x1_ + 1 : Int32) fun x16 => rec x16 μ15))
def gX0_lies_26 (N : Nat)   (K : (wMem → Option (Int32 × wMem))) : Nat → (Int32 → wMem → Option (Int32 × wMem))
  | 0 => fun _ _ => none
  | k + 1 => gbX0_lies_26 N   K (gX0_lies_26 N   K k)
set_option maxHeartbeats 4000000 in
set_option maxRecDepth 100000 in
theorem tX0_lies_26 {p : Program} {l : Launch} {e : Env} {s : State} {m : MethodId} {args : Array Value} {below : List Frame} {meth : Method} {c : Code} {D : va_G} {E : List wCell} {q : Nat → Nat} {ca : wCA} {A : Nat → Prop} (C : wC p ({ frames := 2, cells := 0, slots := 0, locals := 42 } : Room) s m args meth c cX0_lies yX0_lies.cls 2 (some .int) D vwCl (spX ++ E) q ca A) (N : Nat)    (K : (wMem → Option (Int32 × wMem))) (r0 : (Int32 × wMem)) (hK : ∀  (μ : wMem), K  μ = some r0 → wJ p l e ({ frames := 2, cells := 0, slots := 0, locals := 42 } : Room) s m args below meth c 2 D vwCl (spX ++ E) q ca A (wQi ({ frames := 2, cells := 0, slots := 0, locals := 42 } : Room) D vwCl (spX ++ E) q ca below args s A r0) 0 0 μ 69 [(0, .ref (q 0))] []) : ∀ (k : Nat) (x1_ : Int32) (μ : wMem), gX0_lies_26 N   K k x1_ μ = some r0 → wJ p l e ({ frames := 2, cells := 0, slots := 0, locals := 42 } : Room) s m args below meth c 2 D vwCl (spX ++ E) q ca A (wQi ({ frames := 2, cells := 0, slots := 0, locals := 42 } : Room) D vwCl (spX ++ E) q ca below args s A r0) 0 0 μ 26 [(0, .ref (q 0)), (1, .int x1_)] [] := by
  intro k
  induction k with
  | zero =>
    intro x1_ μ hf
    cases hf
  | succ k ih =>
    intro x1_ μ hf
    replace hf : gbX0_lies_26 N   K (gX0_lies_26 N   K k) x1_ μ = some r0 := hf
    unfold gbX0_lies_26 at hf
    refine wr_iload_n 26 C dX0_lies_26 1 rfl rfl ?_
    refine wr_aload_n 27 C dX0_lies_27 0 rfl rfl ?_
    refine gespX_0_0_X0 28 C dX0_lies_28 ?_
    refine gespX_1_6_X0 31 C dX0_lies_31 ?_
    refine wr_icmp_ge 34 69 C dX0_lies_34 (by decide) (fun c9 => ?_) (fun c9 => ?_)
    · replace hf := o_pos c9 hf
      refine wr_sub [(0, .ref (q 0))] [0] rfl ?_
      exact hK  μ hf
    · replace hf := o_neg c9 hf
      refine wr_aload_n 37 C dX0_lies_37 0 rfl rfl ?_
      refine wr_aload_n 38 C dX0_lies_38 0 rfl rfl ?_
      refine gespX_0_0_X0 39 C dX0_lies_39 ?_
      refine gespX_1_13_X0 42 C dX0_lies_42 ?_
      refine wr_iload_n 45 C dX0_lies_45 1 rfl rfl ?_
      obtain ⟨g10, hf⟩ := o_g hf
      refine wr_iald 46 C dX0_lies_46 spX_7 g10 ?_
      obtain ⟨μ12, h11, hf⟩ := o_bindV hf
      refine wr_Vv (kc1 := 0) (ks1 := 0) 47 [] C dX0_lies_47 (tX0_liesBy l N   (μ.1 7 (Int32.toNatClampNeg x1_)) μ μ12 h11) okX0_liesBy q786 (b := 0) spX_0 rfl ⟨rfl, rfl, Nat.le_of_ble_eq_true rfl, Nat.le_of_ble_eq_true rfl, Nat.zero_le _, Nat.zero_le _⟩ (Nat.le_of_ble_eq_true rfl) rfl ?_
      refine wr_aload_n 50 C dX0_lies_50 0 rfl rfl ?_
      refine wr_aload_n 51 C dX0_lies_51 0 rfl rfl ?_
      refine gespX_0_0_X0 52 C dX0_lies_52 ?_
      refine gespX_1_13_X0 55 C dX0_lies_55 ?_
      refine wr_iload_n 58 C dX0_lies_58 1 rfl rfl ?_
      obtain ⟨g13, hf⟩ := o_g hf
      refine wr_iald 59 C dX0_lies_59 spX_7 g13 ?_
      obtain ⟨μ15, h14, hf⟩ := o_bindV hf
      refine wr_Vv (kc1 := 0) (ks1 := 0) 60 [] C dX0_lies_60 (tX0_does l N   (μ12.1 7 (Int32.toNatClampNeg x1_)) μ12 μ15 h14) okX0_does q755 (b := 0) spX_0 rfl ⟨rfl, rfl, Nat.le_of_ble_eq_true rfl, Nat.le_of_ble_eq_true rfl, Nat.zero_le _, Nat.zero_le _⟩ (Nat.le_of_ble_eq_true rfl) rfl ?_
      obtain ⟨x16, ex16, hf⟩ := o_let hf
      refine wr_iinc 63 [(1, .int x16), (0, .ref (q 0))] C dX0_lies_63 1 rfl (ex16.trans rfl) (Nat.le_of_ble_eq_true rfl) rfl ?_
      refine wr_goto 66 C dX0_lies_66 (tgt := 26) (by decide) ?_
      refine wr_sub [(0, .ref (q 0)), (1, .int x16)] [1, 0] rfl ?_
      exact ih x16 μ15 hf
def fX0_lies (N : Nat)   (μ : wMem) : Option (Int32 × wMem) :=
  wBind (fX0_isFamily N   μ) fun v3 μ2 => if v3 = 0 then some ((-2), μ2) else wBindV (fX0_asAtFirst N   μ2) fun μ6 => wLet (wSI μ6 0 11 (0 : Int32)) fun μ7 => wLet (wSI μ7 0 12 (-1 : Int32)) fun μ8 => gX0_lies_26 N   (fun  (μ17 : wMem) => some (μ17.1 0 11, μ17)) N 0 μ8
set_option maxHeartbeats 4000000 in
set_option maxRecDepth 100000 in
theorem tX0_lies (l : Launch) {D : va_G} {E : List wCell} {q : Nat → Nat} {ca : wCA} (N : Nat)    (μ : wMem) (r0 : (Int32 × wMem)) (hf : fX0_lies N   μ = some r0) : wMi l yX0_lies cX0_lies 2 (some .int) ({ frames := 2, cells := 0, slots := 0, locals := 42 } : Room) D vwCl (spX ++ E) q ca [.ref (q 0)] μ r0 := by
  refine wMi_intro (by decide) (Nat.le_of_ble_eq_true rfl) ?_
  intro p e s m args below meth c A C
  unfold fX0_lies at hf
  refine wr_sub [(0, .ref (q 0))] [0] rfl ?_
  refine wr_aload_n 0 C dX0_lies_0 0 rfl rfl ?_
  obtain ⟨v3, μ2, h1, hf⟩ := o_bind hf
  refine wr_Vi (kc1 := 0) (ks1 := 0) 1 [] C dX0_lies_1 (tX0_isFamily l N    μ (v3, μ2) h1) okX0_isFamily q770 (b := 0) spX_0 rfl ⟨rfl, rfl, Nat.le_of_ble_eq_true rfl, Nat.le_of_ble_eq_true rfl, Nat.zero_le _, Nat.zero_le _⟩ (Nat.le_of_ble_eq_true rfl) rfl ?_
  refine wr_if_ne 4 10 C dX0_lies_4 (by decide) (fun c4 => ?_) (fun c4 => ?_)
  · replace hf := o_neg c4 hf
    refine wr_aload_n 10 C dX0_lies_10 0 rfl rfl ?_
    obtain ⟨μ6, h5, hf⟩ := o_bindV hf
    refine wr_Vv (kc1 := 0) (ks1 := 0) 11 [] C dX0_lies_11 (tX0_asAtFirst l N    μ2 μ6 h5) okX0_asAtFirst q741 (b := 0) spX_0 rfl ⟨rfl, rfl, Nat.le_of_ble_eq_true rfl, Nat.le_of_ble_eq_true rfl, Nat.zero_le _, Nat.zero_le _⟩ (Nat.le_of_ble_eq_true rfl) rfl ?_
    refine wr_aload_n 14 C dX0_lies_14 0 rfl rfl ?_
    refine wr_iconst 15 C dX0_lies_15 (v := 0) rfl ?_
    obtain ⟨μ7, eμ7, hf⟩ := o_let hf
    refine puspX_0_11_X0 16 C dX0_lies_16 eμ7 ?_
    refine wr_aload_n 19 C dX0_lies_19 0 rfl rfl ?_
    refine wr_iconst 20 C dX0_lies_20 (v := (-1)) rfl ?_
    obtain ⟨μ8, eμ8, hf⟩ := o_let hf
    refine puspX_0_12_X0 21 C dX0_lies_21 eμ8 ?_
    refine wr_iconst 24 C dX0_lies_24 (v := 0) rfl ?_
    refine wr_istore_n 25 [(1, .int 0), (0, .ref (q 0))] C dX0_lies_25 rfl rfl (Nat.le_of_ble_eq_true rfl) rfl ?_
    refine wr_sub [(0, .ref (q 0)), (1, .int 0)] [1, 0] rfl ?_
    refine tX0_lies_26 C N    _ r0 (fun  μ17 hf => ?_) N 0 μ8 hf
    · replace hf := hf
      refine wr_aload_n 69 C dX0_lies_69 0 rfl rfl ?_
      refine gespX_0_11_X0 70 C dX0_lies_70 ?_
      exact wr_iret 73 C dX0_lies_73 ⟨Nat.zero_le _, Nat.zero_le _⟩ (Option.some.inj hf)
  · replace hf := o_pos c4 hf
    refine wr_bipush 7 C dX0_lies_7 (v := (-2)) rfl ?_
    exact wr_iret 9 C dX0_lies_9 ⟨Nat.zero_le _, Nat.zero_le _⟩ (Option.some.inj hf)
abbrev cX0_isCrossing : ByteArray := prog_1_method_41_code
def yX0_isCrossing : MethodName := ⟨RX0, "isCrossing", "(III)Z"⟩
def dkwX0_isCrossing_1 : List UInt8 := [4, 167, 0, 4, 3, 172]
abbrev dktX0_isCrossing_1 : List UInt8 := dkwX0_isCrossing_1 ++ []
def dkwX0_isCrossing_0 : List UInt8 := [42, 27, 182, 0, 134, 153, 0, 23, 42, 28, 182, 0, 165, 153, 0, 15, 42, 29, 182, 0, 146, 153, 0, 7]
abbrev dktX0_isCrossing_0 : List UInt8 := dkwX0_isCrossing_0 ++ dktX0_isCrossing_1
theorem dksX0_isCrossing_0 : cX0_isCrossing.data.toList.drop 0 = dktX0_isCrossing_0 := by decide +kernel
theorem dksX0_isCrossing_1 : cX0_isCrossing.data.toList.drop 24 = dktX0_isCrossing_1 := dk_seg dksX0_isCrossing_0 24 rfl rfl
theorem dX0_isCrossing_0 : decode cX0_isCrossing 0 = .ok (.aload_n 0, 1) := dk_42 (dk_at dksX0_isCrossing_0 0 rfl rfl)
theorem dX0_isCrossing_1 : decode cX0_isCrossing 1 = .ok (.iload_n 1, 1) := dk_27 (dk_at dksX0_isCrossing_0 1 rfl rfl)
theorem dX0_isCrossing_2 : decode cX0_isCrossing 2 = .ok (.invokevirtual 134, 3) := dk_182 0 134 (dk_at dksX0_isCrossing_0 2 rfl rfl)
theorem dX0_isCrossing_5 : decode cX0_isCrossing 5 = .ok (.ifCond .eq 23, 3) := dk_153 0 23 (dk_at dksX0_isCrossing_0 5 rfl rfl)
theorem dX0_isCrossing_8 : decode cX0_isCrossing 8 = .ok (.aload_n 0, 1) := dk_42 (dk_at dksX0_isCrossing_0 8 rfl rfl)
theorem dX0_isCrossing_9 : decode cX0_isCrossing 9 = .ok (.iload_n 2, 1) := dk_28 (dk_at dksX0_isCrossing_0 9 rfl rfl)
theorem dX0_isCrossing_10 : decode cX0_isCrossing 10 = .ok (.invokevirtual 165, 3) := dk_182 0 165 (dk_at dksX0_isCrossing_0 10 rfl rfl)
theorem dX0_isCrossing_13 : decode cX0_isCrossing 13 = .ok (.ifCond .eq 15, 3) := dk_153 0 15 (dk_at dksX0_isCrossing_0 13 rfl rfl)
theorem dX0_isCrossing_16 : decode cX0_isCrossing 16 = .ok (.aload_n 0, 1) := dk_42 (dk_at dksX0_isCrossing_0 16 rfl rfl)
theorem dX0_isCrossing_17 : decode cX0_isCrossing 17 = .ok (.iload_n 3, 1) := dk_29 (dk_at dksX0_isCrossing_0 17 rfl rfl)
theorem dX0_isCrossing_18 : decode cX0_isCrossing 18 = .ok (.invokevirtual 146, 3) := dk_182 0 146 (dk_at dksX0_isCrossing_0 18 rfl rfl)
theorem dX0_isCrossing_21 : decode cX0_isCrossing 21 = .ok (.ifCond .eq 7, 3) := dk_153 0 7 (dk_at dksX0_isCrossing_0 21 rfl rfl)
theorem dX0_isCrossing_24 : decode cX0_isCrossing 24 = .ok (.iconst 1, 1) := dk_4 (dk_at dksX0_isCrossing_1 0 rfl rfl)
theorem dX0_isCrossing_25 : decode cX0_isCrossing 25 = .ok (.goto 4, 3) := dk_167 0 4 (dk_at dksX0_isCrossing_1 1 rfl rfl)
theorem dX0_isCrossing_28 : decode cX0_isCrossing 28 = .ok (.iconst 0, 1) := dk_3 (dk_at dksX0_isCrossing_1 4 rfl rfl)
theorem dX0_isCrossing_29 : decode cX0_isCrossing 29 = .ok (.ireturn, 1) := dk_172 (dk_at dksX0_isCrossing_1 5 rfl rfl)

theorem okX0_isCrossing : wOkV yX0_isCrossing cX0_isCrossing 4 (some .boolean) 3 := ⟨q796, qs26, q136, q797, by decide, by decide, by decide +kernel⟩
def fX0_isCrossing (N : Nat)  (a1 : Int32) (a2 : Int32) (a3 : Int32) (μ : wMem) : Option (Int32 × wMem) :=
  wBind (fX0_isPerson N  a1 μ) fun v3 μ2 => if v3 = 0 then some (0, μ2) else wBind (fX0_isPersonOrNone N  a2 μ2) fun v7 μ6 => if v7 = 0 then some (0, μ6) else wBind (fX0_isPost N  a3 μ6) fun v11 μ10 => if v11 = 0 then some (0, μ10) else some (1, μ10)
set_option maxHeartbeats 4000000 in
set_option maxRecDepth 100000 in
theorem tX0_isCrossing (l : Launch) {D : va_G} {E : List wCell} {q : Nat → Nat} {ca : wCA} (N : Nat)   (a1 : Int32) (a2 : Int32) (a3 : Int32) (μ : wMem) (r0 : (Int32 × wMem)) (hf : fX0_isCrossing N  a1 a2 a3 μ = some r0) : wMi l yX0_isCrossing cX0_isCrossing 4 (some .boolean) ({ frames := 3, cells := 0, slots := 0, locals := 67 } : Room) D vwCl (spX ++ E) q ca [.ref (q 0), .int a1, .int a2, .int a3] μ r0 := by
  refine wMi_intro (by decide) (Nat.le_of_ble_eq_true rfl) ?_
  intro p e s m args below meth c A C
  unfold fX0_isCrossing at hf
  refine wr_sub [(0, .ref (q 0)), (1, .int a1), (2, .int a2), (3, .int a3)] [0, 1, 2, 3] rfl ?_
  refine wr_aload_n 0 C dX0_isCrossing_0 0 rfl rfl ?_
  refine wr_iload_n 1 C dX0_isCrossing_1 1 rfl rfl ?_
  obtain ⟨v3, μ2, h1, hf⟩ := o_bind hf
  refine wr_Vi (kc1 := 0) (ks1 := 0) 2 [] C dX0_isCrossing_2 (tX0_isPerson l N   a1 μ (v3, μ2) h1) okX0_isPerson q702 (b := 0) spX_0 rfl ⟨rfl, rfl, Nat.le_of_ble_eq_true rfl, Nat.le_of_ble_eq_true rfl, Nat.zero_le _, Nat.zero_le _⟩ (Nat.le_of_ble_eq_true rfl) rfl ?_
  refine wr_if_eq 5 28 C dX0_isCrossing_5 (by decide) (fun c4 => ?_) (fun c4 => ?_)
  · replace hf := o_pos c4 hf
    refine wr_iconst 28 C dX0_isCrossing_28 (v := 0) rfl ?_
    exact wr_zret 29 C dX0_isCrossing_29 rfl ⟨Nat.zero_le _, Nat.zero_le _⟩ (Option.some.inj hf)
  · replace hf := o_neg c4 hf
    refine wr_aload_n 8 C dX0_isCrossing_8 0 rfl rfl ?_
    refine wr_iload_n 9 C dX0_isCrossing_9 2 rfl rfl ?_
    obtain ⟨v7, μ6, h5, hf⟩ := o_bind hf
    refine wr_Vi (kc1 := 0) (ks1 := 0) 10 [] C dX0_isCrossing_10 (tX0_isPersonOrNone l N   a2 μ2 (v7, μ6) h5) okX0_isPersonOrNone q718 (b := 0) spX_0 rfl ⟨rfl, rfl, Nat.le_of_ble_eq_true rfl, Nat.le_of_ble_eq_true rfl, Nat.zero_le _, Nat.zero_le _⟩ (Nat.le_of_ble_eq_true rfl) rfl ?_
    refine wr_if_eq 13 28 C dX0_isCrossing_13 (by decide) (fun c8 => ?_) (fun c8 => ?_)
    · replace hf := o_pos c8 hf
      refine wr_iconst 28 C dX0_isCrossing_28 (v := 0) rfl ?_
      exact wr_zret 29 C dX0_isCrossing_29 rfl ⟨Nat.zero_le _, Nat.zero_le _⟩ (Option.some.inj hf)
    · replace hf := o_neg c8 hf
      refine wr_aload_n 16 C dX0_isCrossing_16 0 rfl rfl ?_
      refine wr_iload_n 17 C dX0_isCrossing_17 3 rfl rfl ?_
      obtain ⟨v11, μ10, h9, hf⟩ := o_bind hf
      refine wr_Vi (kc1 := 0) (ks1 := 0) 18 [] C dX0_isCrossing_18 (tX0_isPost l N   a3 μ6 (v11, μ10) h9) okX0_isPost q706 (b := 0) spX_0 rfl ⟨rfl, rfl, Nat.le_of_ble_eq_true rfl, Nat.le_of_ble_eq_true rfl, Nat.zero_le _, Nat.zero_le _⟩ (Nat.le_of_ble_eq_true rfl) rfl ?_
      refine wr_if_eq 21 28 C dX0_isCrossing_21 (by decide) (fun c12 => ?_) (fun c12 => ?_)
      · replace hf := o_pos c12 hf
        refine wr_iconst 28 C dX0_isCrossing_28 (v := 0) rfl ?_
        exact wr_zret 29 C dX0_isCrossing_29 rfl ⟨Nat.zero_le _, Nat.zero_le _⟩ (Option.some.inj hf)
      · replace hf := o_neg c12 hf
        refine wr_iconst 24 C dX0_isCrossing_24 (v := 1) rfl ?_
        refine wr_goto 25 C dX0_isCrossing_25 (tgt := 29) (by decide) ?_
        exact wr_zret 29 C dX0_isCrossing_29 rfl ⟨Nat.zero_le _, Nat.zero_le _⟩ (Option.some.inj hf)
