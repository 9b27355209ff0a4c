set_option maxRecDepth 100000
abbrev cX0_spot : ByteArray := prog_1_method_96_code
def yX0_spot : MethodName := ⟨RX0, "spot", "(II)I"⟩
def dkwX0_spot_0 : List UInt8 := [17, 12, 64, 26, 104, 27, 96, 172]
abbrev dktX0_spot_0 : List UInt8 := dkwX0_spot_0 ++ []
theorem dksX0_spot_0 : cX0_spot.data.toList.drop 0 = dktX0_spot_0 := by decide +kernel
theorem dX0_spot_0 : decode cX0_spot 0 = .ok (.sipush 3136, 3) := dk_17 12 64 (dk_at dksX0_spot_0 0 rfl rfl)
theorem dX0_spot_3 : decode cX0_spot 3 = .ok (.iload_n 0, 1) := dk_26 (dk_at dksX0_spot_0 3 rfl rfl)
theorem dX0_spot_4 : decode cX0_spot 4 = .ok (.imul, 1) := dk_104 (dk_at dksX0_spot_0 4 rfl rfl)
theorem dX0_spot_5 : decode cX0_spot 5 = .ok (.iload_n 1, 1) := dk_27 (dk_at dksX0_spot_0 5 rfl rfl)
theorem dX0_spot_6 : decode cX0_spot 6 = .ok (.iadd, 1) := dk_96 (dk_at dksX0_spot_0 6 rfl rfl)
theorem dX0_spot_7 : decode cX0_spot 7 = .ok (.ireturn, 1) := dk_172 (dk_at dksX0_spot_0 7 rfl rfl)

theorem okX0_spot : wOkS yX0_spot cX0_spot 2 (some .int) 2 := ⟨q1115, q136, q1116, by decide, by decide, by decide +kernel⟩
def fX0_spot (N : Nat)  (a0 : Int32) (a1 : Int32) (μ : wMem) : Option (Int32 × wMem) :=
  some (((3136 : Int32) * a0) + a1, μ)
set_option maxHeartbeats 4000000 in
set_option maxRecDepth 100000 in
theorem tX0_spot (l : Launch) {D : va_G} {E : List wCell} {q : Nat → Nat} {ca : wCA} (N : Nat)   (a0 : Int32) (a1 : Int32) (μ : wMem) (r0 : (Int32 × wMem)) (hf : fX0_spot N  a0 a1 μ = some r0) : wMi l yX0_spot cX0_spot 2 (some .int) ({ frames := 0, cells := 0, slots := 0, locals := 0 } : Room) D vwCl (spX ++ E) q ca [.int a0, .int a1] μ r0 := by
  refine wMi_intro (by decide) (Nat.le_of_ble_eq_true rfl) ?_
  intro p e s m args below meth c A C
  unfold fX0_spot at hf
  refine wr_sub [(0, .int a0), (1, .int a1)] [0, 1] rfl ?_
  refine wr_sipush 0 C dX0_spot_0 (v := 3136) rfl ?_
  refine wr_iload_n 3 C dX0_spot_3 0 rfl rfl ?_
  refine wr_imul 4 C dX0_spot_4 ?_
  refine wr_iload_n 5 C dX0_spot_5 1 rfl rfl ?_
  refine wr_iadd 6 C dX0_spot_6 ?_
  exact wr_iret 7 C dX0_spot_7 ⟨Nat.zero_le _, Nat.zero_le _⟩ (Option.some.inj hf)
abbrev cX0_alone : ByteArray := prog_1_method_105_code
def yX0_alone : MethodName := ⟨RX0, "alone", "(II)I"⟩
def dkwX0_alone_2 : List UInt8 := [2, 167, 0, 6, 28, 4, 100, 172]
abbrev dktX0_alone_2 : List UInt8 := dkwX0_alone_2 ++ []
def dkwX0_alone_1 : List UInt8 := [167, 0, 31, 28, 5, 162, 0, 7, 3, 167, 0, 22, 42, 180, 0, 12, 180, 0, 188, 27, 46, 158, 0, 7]
abbrev dktX0_alone_1 : List UInt8 := dkwX0_alone_1 ++ dktX0_alone_2
def dkwX0_alone_0 : List UInt8 := [42, 27, 182, 0, 146, 153, 0, 15, 28, 133, 9, 20, 1, 178, 184, 0, 103, 154, 0, 8, 16, 254]
abbrev dktX0_alone_0 : List UInt8 := dkwX0_alone_0 ++ dktX0_alone_1
theorem dksX0_alone_0 : cX0_alone.data.toList.drop 0 = dktX0_alone_0 := by decide +kernel
theorem dksX0_alone_1 : cX0_alone.data.toList.drop 22 = dktX0_alone_1 := dk_seg dksX0_alone_0 22 rfl rfl
theorem dksX0_alone_2 : cX0_alone.data.toList.drop 46 = dktX0_alone_2 := dk_seg dksX0_alone_1 24 rfl rfl
theorem dX0_alone_0 : decode cX0_alone 0 = .ok (.aload_n 0, 1) := dk_42 (dk_at dksX0_alone_0 0 rfl rfl)
theorem dX0_alone_1 : decode cX0_alone 1 = .ok (.iload_n 1, 1) := dk_27 (dk_at dksX0_alone_0 1 rfl rfl)
theorem dX0_alone_2 : decode cX0_alone 2 = .ok (.invokevirtual 146, 3) := dk_182 0 146 (dk_at dksX0_alone_0 2 rfl rfl)
theorem dX0_alone_5 : decode cX0_alone 5 = .ok (.ifCond .eq 15, 3) := dk_153 0 15 (dk_at dksX0_alone_0 5 rfl rfl)
theorem dX0_alone_8 : decode cX0_alone 8 = .ok (.iload_n 2, 1) := dk_28 (dk_at dksX0_alone_0 8 rfl rfl)
theorem dX0_alone_9 : decode cX0_alone 9 = .ok (.i2l, 1) := dk_133 (dk_at dksX0_alone_0 9 rfl rfl)
theorem dX0_alone_10 : decode cX0_alone 10 = .ok (.lconst 0, 1) := dk_9 (dk_at dksX0_alone_0 10 rfl rfl)
theorem dX0_alone_11 : decode cX0_alone 11 = .ok (.ldc2_w 434, 3) := dk_20 1 178 (dk_at dksX0_alone_0 11 rfl rfl)
theorem dX0_alone_14 : decode cX0_alone 14 = .ok (.invokestatic 103, 3) := dk_184 0 103 (dk_at dksX0_alone_0 14 rfl rfl)
theorem dX0_alone_17 : decode cX0_alone 17 = .ok (.ifCond .ne 8, 3) := dk_154 0 8 (dk_at dksX0_alone_0 17 rfl rfl)
theorem dX0_alone_20 : decode cX0_alone 20 = .ok (.bipush (-2), 2) := dk_16 254 (dk_at dksX0_alone_0 20 rfl rfl)
theorem dX0_alone_22 : decode cX0_alone 22 = .ok (.goto 31, 3) := dk_167 0 31 (dk_at dksX0_alone_1 0 rfl rfl)
theorem dX0_alone_25 : decode cX0_alone 25 = .ok (.iload_n 2, 1) := dk_28 (dk_at dksX0_alone_1 3 rfl rfl)
theorem dX0_alone_26 : decode cX0_alone 26 = .ok (.iconst 2, 1) := dk_5 (dk_at dksX0_alone_1 4 rfl rfl)
theorem dX0_alone_27 : decode cX0_alone 27 = .ok (.if_icmp .ge 7, 3) := dk_162 0 7 (dk_at dksX0_alone_1 5 rfl rfl)
theorem dX0_alone_30 : decode cX0_alone 30 = .ok (.iconst 0, 1) := dk_3 (dk_at dksX0_alone_1 8 rfl rfl)
theorem dX0_alone_31 : decode cX0_alone 31 = .ok (.goto 22, 3) := dk_167 0 22 (dk_at dksX0_alone_1 9 rfl rfl)
theorem dX0_alone_34 : decode cX0_alone 34 = .ok (.aload_n 0, 1) := dk_42 (dk_at dksX0_alone_1 12 rfl rfl)
theorem dX0_alone_35 : decode cX0_alone 35 = .ok (.getfield 12, 3) := dk_180 0 12 (dk_at dksX0_alone_1 13 rfl rfl)
theorem dX0_alone_38 : decode cX0_alone 38 = .ok (.getfield 188, 3) := dk_180 0 188 (dk_at dksX0_alone_1 16 rfl rfl)
theorem dX0_alone_41 : decode cX0_alone 41 = .ok (.iload_n 1, 1) := dk_27 (dk_at dksX0_alone_1 19 rfl rfl)
theorem dX0_alone_42 : decode cX0_alone 42 = .ok (.iaload, 1) := dk_46 (dk_at dksX0_alone_1 20 rfl rfl)
theorem dX0_alone_43 : decode cX0_alone 43 = .ok (.ifCond .le 7, 3) := dk_158 0 7 (dk_at dksX0_alone_1 21 rfl rfl)
theorem dX0_alone_46 : decode cX0_alone 46 = .ok (.iconst (-1), 1) := dk_2 (dk_at dksX0_alone_2 0 rfl rfl)
theorem dX0_alone_47 : decode cX0_alone 47 = .ok (.goto 6, 3) := dk_167 0 6 (dk_at dksX0_alone_2 1 rfl rfl)
theorem dX0_alone_50 : decode cX0_alone 50 = .ok (.iload_n 2, 1) := dk_28 (dk_at dksX0_alone_2 4 rfl rfl)
theorem dX0_alone_51 : decode cX0_alone 51 = .ok (.iconst 1, 1) := dk_4 (dk_at dksX0_alone_2 5 rfl rfl)
theorem dX0_alone_52 : decode cX0_alone 52 = .ok (.isub, 1) := dk_100 (dk_at dksX0_alone_2 6 rfl rfl)
theorem dX0_alone_53 : decode cX0_alone 53 = .ok (.ireturn, 1) := dk_172 (dk_at dksX0_alone_2 7 rfl rfl)

theorem okX0_alone : wOkV yX0_alone cX0_alone 3 (some .int) 2 := ⟨q1147, q1148, q136, q1149, by decide, by decide, by decide +kernel⟩
def fX0_alone (N : Nat)  (a1 : Int32) (a2 : Int32) (μ : wMem) : Option (Int32 × wMem) :=
  wBind (fX0_isPost N  a1 μ) fun v3 μ2 => wLet (fun  (μ4 : wMem) => some ((-2), μ4)) fun Jalone20 => if v3 = 0 then Jalone20  μ2 else wBind (fX0_isIn N  (Int32.toInt64 a2) 0 12 μ2) fun v8 μ7 => if v8 = 0 then Jalone20  μ7 else if (2 : Int32) ≤ a2 then wG (ok_in a1 2) (if (μ7.1 6 (Int32.toNatClampNeg a1)) ≤ 0 then some (a2 - (1 : Int32), μ7) else some ((-1), μ7)) else some (0, μ7)
set_option maxHeartbeats 4000000 in
set_option maxRecDepth 100000 in
theorem tX0_alone (l : Launch) {D : va_G} {E : List wCell} {q : Nat → Nat} {ca : wCA} (N : Nat)   (a1 : Int32) (a2 : Int32) (μ : wMem) (r0 : (Int32 × wMem)) (hf : fX0_alone N  a1 a2 μ = some r0) : wMi l yX0_alone cX0_alone 3 (some .int) ({ frames := 2, cells := 0, slots := 0, locals := 46 } : Room) D vwCl (spX ++ E) q ca [.ref (q 0), .int a1, .int a2] μ r0 := by
  refine wMi_intro (by decide) (Nat.le_of_ble_eq_true rfl) ?_
  intro p e s m args below meth c A C
  unfold fX0_alone at hf
  refine wr_sub [(0, .ref (q 0)), (1, .int a1), (2, .int a2)] [0, 1, 2] rfl ?_
  refine wr_aload_n 0 C dX0_alone_0 0 rfl rfl ?_
  refine wr_iload_n 1 C dX0_alone_1 1 rfl rfl ?_
  obtain ⟨v3, μ2, h1, hf⟩ := o_bind hf
  refine wr_Vi (kc1 := 0) (ks1 := 0) 2 [] C dX0_alone_2 (tX0_isPost l N   a1 μ (v3, μ2) h1) okX0_isPost q706 (b := 0) spX_0 rfl ⟨rfl, rfl, Nat.le_of_ble_eq_true rfl, Nat.le_of_ble_eq_true rfl, Nat.zero_le _, Nat.zero_le _⟩ (Nat.le_of_ble_eq_true rfl) rfl ?_
  obtain ⟨Jalone20, eJalone20, hf⟩ := o_let hf
  have hJalone20 : ∀  (μ4 : wMem), Jalone20  μ4 = some r0 → wJ p l e ({ frames := 2, cells := 0, slots := 0, locals := 46 } : Room) s m args below meth c 3 D vwCl (spX ++ E) q ca A (wQi ({ frames := 2, cells := 0, slots := 0, locals := 46 } : Room) D vwCl (spX ++ E) q ca below args s A r0) 0 0 μ4 20 [] [] := by
    intro  μ4 hf
    rw [eJalone20] at hf
    refine wr_bipush 20 C dX0_alone_20 (v := (-2)) rfl ?_
    refine wr_goto 22 C dX0_alone_22 (tgt := 53) (by decide) ?_
    exact wr_iret 53 C dX0_alone_53 ⟨Nat.zero_le _, Nat.zero_le _⟩ (Option.some.inj hf)
  refine wr_if_eq 5 20 C dX0_alone_5 (by decide) (fun c5 => ?_) (fun c5 => ?_)
  · replace hf := o_pos c5 hf
    refine wr_sub [] [] rfl ?_
    exact hJalone20  μ2 hf
  · replace hf := o_neg c5 hf
    refine wr_iload_n 8 C dX0_alone_8 2 rfl rfl ?_
    refine wr_i2l 9 C dX0_alone_9 ?_
    refine wr_lconst 10 C dX0_alone_10 (v := 0) rfl ?_
    refine wr_ldc2 11 C dX0_alone_11 q1150 ?_
    obtain ⟨v8, μ7, h6, hf⟩ := o_bind hf
    refine wr_Si (kc1 := 0) (ks1 := 0) 14 [] C dX0_alone_14 (tX0_isIn l N   (Int32.toInt64 a2) 0 12 μ2 (v8, μ7) h6) okX0_isIn q446 ⟨rfl, rfl, Nat.le_of_ble_eq_true rfl, Nat.le_of_ble_eq_true rfl, Nat.zero_le _, Nat.zero_le _⟩ (Nat.le_of_ble_eq_true rfl) rfl ?_
    refine wr_if_ne 17 25 C dX0_alone_17 (by decide) (fun c9 => ?_) (fun c9 => ?_)
    · replace hf := o_neg c9 hf
      refine wr_iload_n 25 C dX0_alone_25 2 rfl rfl ?_
      refine wr_iconst 26 C dX0_alone_26 (v := 2) rfl ?_
      refine wr_icmp_ge 27 34 C dX0_alone_27 (by decide) (fun c10 => ?_) (fun c10 => ?_)
      · replace hf := o_pos c10 hf
        refine wr_aload_n 34 C dX0_alone_34 0 rfl rfl ?_
        refine gespX_0_0_X0 35 C dX0_alone_35 ?_
        refine gespX_1_12_X0 38 C dX0_alone_38 ?_
        refine wr_iload_n 41 C dX0_alone_41 1 rfl rfl ?_
        obtain ⟨g11, hf⟩ := o_g hf
        refine wr_iald 42 C dX0_alone_42 spX_6 g11 ?_
        refine wr_if_le 43 50 C dX0_alone_43 (by decide) (fun c12 => ?_) (fun c12 => ?_)
        · replace hf := o_pos c12 hf
          refine wr_iload_n 50 C dX0_alone_50 2 rfl rfl ?_
          refine wr_iconst 51 C dX0_alone_51 (v := 1) rfl ?_
          refine wr_isub 52 C dX0_alone_52 ?_
          exact wr_iret 53 C dX0_alone_53 ⟨Nat.zero_le _, Nat.zero_le _⟩ (Option.some.inj hf)
        · replace hf := o_neg c12 hf
          refine wr_iconst 46 C dX0_alone_46 (v := (-1)) rfl ?_
          refine wr_goto 47 C dX0_alone_47 (tgt := 53) (by decide) ?_
          exact wr_iret 53 C dX0_alone_53 ⟨Nat.zero_le _, Nat.zero_le _⟩ (Option.some.inj hf)
      · replace hf := o_neg c10 hf
        refine wr_iconst 30 C dX0_alone_30 (v := 0) rfl ?_
        refine wr_goto 31 C dX0_alone_31 (tgt := 53) (by decide) ?_
        exact wr_iret 53 C dX0_alone_53 ⟨Nat.zero_le _, Nat.zero_le _⟩ (Option.some.inj hf)
    · replace hf := o_pos c9 hf
      refine wr_sub [] [] rfl ?_
      exact hJalone20  μ7 hf
abbrev cX0_worthOf : ByteArray := prog_1_method_106_code
def yX0_worthOf : MethodName := ⟨RX0, "worthOf", "(II)I"⟩
def dkwX0_worthOf_2 : List UInt8 := [21, 4, 79, 29, 2, 160, 0, 7, 2, 167, 0, 7, 29, 21, 5, 100, 172]
abbrev dktX0_worthOf_2 : List UInt8 := dkwX0_worthOf_2 ++ []
def dkwX0_worthOf_1 : List UInt8 := [16, 100, 21, 4, 28, 96, 184, 1, 168, 79, 42, 182, 1, 90, 54, 5, 42, 180, 0, 12, 180, 0, 140, 27]
abbrev dktX0_worthOf_1 : List UInt8 := dkwX0_worthOf_1 ++ dktX0_worthOf_2
def dkwX0_worthOf_0 : List UInt8 := [42, 182, 1, 90, 62, 42, 180, 0, 12, 180, 0, 140, 27, 46, 54, 4, 42, 180, 0, 12, 180, 0, 140, 27]
abbrev dktX0_worthOf_0 : List UInt8 := dkwX0_worthOf_0 ++ dktX0_worthOf_1
theorem dksX0_worthOf_0 : cX0_worthOf.data.toList.drop 0 = dktX0_worthOf_0 := by decide +kernel
theorem dksX0_worthOf_1 : cX0_worthOf.data.toList.drop 24 = dktX0_worthOf_1 := dk_seg dksX0_worthOf_0 24 rfl rfl
theorem dksX0_worthOf_2 : cX0_worthOf.data.toList.drop 48 = dktX0_worthOf_2 := dk_seg dksX0_worthOf_1 24 rfl rfl
theorem dX0_worthOf_0 : decode cX0_worthOf 0 = .ok (.aload_n 0, 1) := dk_42 (dk_at dksX0_worthOf_0 0 rfl rfl)
theorem dX0_worthOf_1 : decode cX0_worthOf 1 = .ok (.invokevirtual 346, 3) := dk_182 1 90 (dk_at dksX0_worthOf_0 1 rfl rfl)
theorem dX0_worthOf_4 : decode cX0_worthOf 4 = .ok (.istore_n 3, 1) := dk_62 (dk_at dksX0_worthOf_0 4 rfl rfl)
theorem dX0_worthOf_5 : decode cX0_worthOf 5 = .ok (.aload_n 0, 1) := dk_42 (dk_at dksX0_worthOf_0 5 rfl rfl)
theorem dX0_worthOf_6 : decode cX0_worthOf 6 = .ok (.getfield 12, 3) := dk_180 0 12 (dk_at dksX0_worthOf_0 6 rfl rfl)
theorem dX0_worthOf_9 : decode cX0_worthOf 9 = .ok (.getfield 140, 3) := dk_180 0 140 (dk_at dksX0_worthOf_0 9 rfl rfl)
theorem dX0_worthOf_12 : decode cX0_worthOf 12 = .ok (.iload_n 1, 1) := dk_27 (dk_at dksX0_worthOf_0 12 rfl rfl)
theorem dX0_worthOf_13 : decode cX0_worthOf 13 = .ok (.iaload, 1) := dk_46 (dk_at dksX0_worthOf_0 13 rfl rfl)
theorem dX0_worthOf_14 : decode cX0_worthOf 14 = .ok (.istore 4, 2) := dk_54 4 (dk_at dksX0_worthOf_0 14 rfl rfl)
theorem dX0_worthOf_16 : decode cX0_worthOf 16 = .ok (.aload_n 0, 1) := dk_42 (dk_at dksX0_worthOf_0 16 rfl rfl)
theorem dX0_worthOf_17 : decode cX0_worthOf 17 = .ok (.getfield 12, 3) := dk_180 0 12 (dk_at dksX0_worthOf_0 17 rfl rfl)
theorem dX0_worthOf_20 : decode cX0_worthOf 20 = .ok (.getfield 140, 3) := dk_180 0 140 (dk_at dksX0_worthOf_0 20 rfl rfl)
theorem dX0_worthOf_23 : decode cX0_worthOf 23 = .ok (.iload_n 1, 1) := dk_27 (dk_at dksX0_worthOf_0 23 rfl rfl)
theorem dX0_worthOf_24 : decode cX0_worthOf 24 = .ok (.bipush 100, 2) := dk_16 100 (dk_at dksX0_worthOf_1 0 rfl rfl)
theorem dX0_worthOf_26 : decode cX0_worthOf 26 = .ok (.iload 4, 2) := dk_21 4 (dk_at dksX0_worthOf_1 2 rfl rfl)
theorem dX0_worthOf_28 : decode cX0_worthOf 28 = .ok (.iload_n 2, 1) := dk_28 (dk_at dksX0_worthOf_1 4 rfl rfl)
theorem dX0_worthOf_29 : decode cX0_worthOf 29 = .ok (.iadd, 1) := dk_96 (dk_at dksX0_worthOf_1 5 rfl rfl)
theorem dX0_worthOf_30 : decode cX0_worthOf 30 = .ok (.invokestatic 424, 3) := dk_184 1 168 (dk_at dksX0_worthOf_1 6 rfl rfl)
theorem dX0_worthOf_33 : decode cX0_worthOf 33 = .ok (.iastore, 1) := dk_79 (dk_at dksX0_worthOf_1 9 rfl rfl)
theorem dX0_worthOf_34 : decode cX0_worthOf 34 = .ok (.aload_n 0, 1) := dk_42 (dk_at dksX0_worthOf_1 10 rfl rfl)
theorem dX0_worthOf_35 : decode cX0_worthOf 35 = .ok (.invokevirtual 346, 3) := dk_182 1 90 (dk_at dksX0_worthOf_1 11 rfl rfl)
theorem dX0_worthOf_38 : decode cX0_worthOf 38 = .ok (.istore 5, 2) := dk_54 5 (dk_at dksX0_worthOf_1 14 rfl rfl)
theorem dX0_worthOf_40 : decode cX0_worthOf 40 = .ok (.aload_n 0, 1) := dk_42 (dk_at dksX0_worthOf_1 16 rfl rfl)
theorem dX0_worthOf_41 : decode cX0_worthOf 41 = .ok (.getfield 12, 3) := dk_180 0 12 (dk_at dksX0_worthOf_1 17 rfl rfl)
theorem dX0_worthOf_44 : decode cX0_worthOf 44 = .ok (.getfield 140, 3) := dk_180 0 140 (dk_at dksX0_worthOf_1 20 rfl rfl)
theorem dX0_worthOf_47 : decode cX0_worthOf 47 = .ok (.iload_n 1, 1) := dk_27 (dk_at dksX0_worthOf_1 23 rfl rfl)
theorem dX0_worthOf_48 : decode cX0_worthOf 48 = .ok (.iload 4, 2) := dk_21 4 (dk_at dksX0_worthOf_2 0 rfl rfl)
theorem dX0_worthOf_50 : decode cX0_worthOf 50 = .ok (.iastore, 1) := dk_79 (dk_at dksX0_worthOf_2 2 rfl rfl)
theorem dX0_worthOf_51 : decode cX0_worthOf 51 = .ok (.iload_n 3, 1) := dk_29 (dk_at dksX0_worthOf_2 3 rfl rfl)
theorem dX0_worthOf_52 : decode cX0_worthOf 52 = .ok (.iconst (-1), 1) := dk_2 (dk_at dksX0_worthOf_2 4 rfl rfl)
theorem dX0_worthOf_53 : decode cX0_worthOf 53 = .ok (.if_icmp .ne 7, 3) := dk_160 0 7 (dk_at dksX0_worthOf_2 5 rfl rfl)
theorem dX0_worthOf_56 : decode cX0_worthOf 56 = .ok (.iconst (-1), 1) := dk_2 (dk_at dksX0_worthOf_2 8 rfl rfl)
theorem dX0_worthOf_57 : decode cX0_worthOf 57 = .ok (.goto 7, 3) := dk_167 0 7 (dk_at dksX0_worthOf_2 9 rfl rfl)
theorem dX0_worthOf_60 : decode cX0_worthOf 60 = .ok (.iload_n 3, 1) := dk_29 (dk_at dksX0_worthOf_2 12 rfl rfl)
theorem dX0_worthOf_61 : decode cX0_worthOf 61 = .ok (.iload 5, 2) := dk_21 5 (dk_at dksX0_worthOf_2 13 rfl rfl)
theorem dX0_worthOf_63 : decode cX0_worthOf 63 = .ok (.isub, 1) := dk_100 (dk_at dksX0_worthOf_2 15 rfl rfl)
theorem dX0_worthOf_64 : decode cX0_worthOf 64 = .ok (.ireturn, 1) := dk_172 (dk_at dksX0_worthOf_2 16 rfl rfl)

theorem okX0_worthOf : wOkV yX0_worthOf cX0_worthOf 6 (some .int) 2 := ⟨q1157, qs63, q136, q1158, by decide, by decide, by decide +kernel⟩
def fX0_worthOf (N : Nat)  (a1 : Int32) (a2 : Int32) (μ : wMem) : Option (Int32 × wMem) :=
  wBind (fX0_surestNow N   μ) fun v3 μ2 => wG (ok_in a1 6) (wLet (μ2.1 2 (Int32.toNatClampNeg a1) : Int32) fun x5 => wG (ok_in a1 6) (wLet (wSI μ2 2 (Int32.toNatClampNeg a1) (if (x5 + a2) < (100 : Int32) then (x5 + a2) else (100 : Int32))) fun μ7 => wBind (fX0_surestNow N   μ7) fun v10 μ9 => wG (ok_in a1 6) (wLet (wSI μ9 2 (Int32.toNatClampNeg a1) x5) fun μ12 => if v3 = (-1 : Int32) then some ((-1), μ12) else some (v3 - v10, μ12))))
set_option maxHeartbeats 4000000 in
set_option maxRecDepth 100000 in
theorem tX0_worthOf (l : Launch) {D : va_G} {E : List wCell} {q : Nat → Nat} {ca : wCA} (N : Nat)   (a1 : Int32) (a2 : Int32) (μ : wMem) (r0 : (Int32 × wMem)) (hf : fX0_worthOf N  a1 a2 μ = some r0) : wMi l yX0_worthOf cX0_worthOf 6 (some .int) ({ frames := 8, cells := 0, slots := 0, locals := 176 } : Room) D vwCl (spX ++ E) q ca [.ref (q 0), .int a1, .int a2] μ r0 := by
  refine wMi_intro (by decide) (Nat.le_of_ble_eq_true rfl) ?_
  intro p e s m args below meth c A C
  unfold fX0_worthOf at hf
  refine wr_sub [(0, .ref (q 0)), (1, .int a1), (2, .int a2)] [0, 1, 2] rfl ?_
  refine wr_aload_n 0 C dX0_worthOf_0 0 rfl rfl ?_
  obtain ⟨v3, μ2, h1, hf⟩ := o_bind hf
  refine wr_Vi (kc1 := 0) (ks1 := 0) 1 [] C dX0_worthOf_1 (tX0_surestNow l N    μ (v3, μ2) h1) okX0_surestNow q943 (b := 0) spX_0 rfl ⟨rfl, rfl, Nat.le_of_ble_eq_true rfl, Nat.le_of_ble_eq_true rfl, Nat.zero_le _, Nat.zero_le _⟩ (Nat.le_of_ble_eq_true rfl) rfl ?_
  refine wr_istore_n 4 [(3, .int v3), (0, .ref (q 0)), (1, .int a1), (2, .int a2)] C dX0_worthOf_4 rfl rfl (Nat.le_of_ble_eq_true rfl) rfl ?_
  refine wr_aload_n 5 C dX0_worthOf_5 1 rfl rfl ?_
  refine gespX_0_0_X0 6 C dX0_worthOf_6 ?_
  refine gespX_1_8_X0 9 C dX0_worthOf_9 ?_
  refine wr_iload_n 12 C dX0_worthOf_12 2 rfl rfl ?_
  obtain ⟨g4, hf⟩ := o_g hf
  refine wr_iald 13 C dX0_worthOf_13 spX_2 g4 ?_
  obtain ⟨x5, ex5, hf⟩ := o_let hf
  refine wr_istore 14 [(4, .int x5), (3, .int v3), (0, .ref (q 0)), (1, .int a1), (2, .int a2)] C dX0_worthOf_14 ex5 (Nat.le_of_ble_eq_true rfl) rfl ?_
  refine wr_aload_n 16 C dX0_worthOf_16 2 rfl rfl ?_
  refine gespX_0_0_X0 17 C dX0_worthOf_17 ?_
  refine gespX_1_8_X0 20 C dX0_worthOf_20 ?_
  refine wr_iload_n 23 C dX0_worthOf_23 3 rfl rfl ?_
  refine wr_bipush 24 C dX0_worthOf_24 (v := 100) rfl ?_
  refine wr_iload 26 C dX0_worthOf_26 0 rfl ?_
  refine wr_iload_n 28 C dX0_worthOf_28 4 rfl rfl ?_
  refine wr_iadd 29 C dX0_worthOf_29 ?_
  refine wr_mmin 30 C dX0_worthOf_30 q1129 q477 q149 q478 ⟨Nat.le_of_ble_eq_true rfl, Nat.le_of_ble_eq_true rfl, Nat.zero_le _, Nat.zero_le _⟩ (Nat.le_of_ble_eq_true rfl) ?_
  obtain ⟨g6, hf⟩ := o_g hf
  obtain ⟨μ7, eμ7, hf⟩ := o_let hf
  refine wr_iast 33 C dX0_worthOf_33 spX_2 g6 eμ7 ?_
  refine wr_aload_n 34 C dX0_worthOf_34 2 rfl rfl ?_
  obtain ⟨v10, μ9, h8, hf⟩ := o_bind hf
  refine wr_Vi (kc1 := 0) (ks1 := 0) 35 [] C dX0_worthOf_35 (tX0_surestNow l N    μ7 (v10, μ9) h8) okX0_surestNow q943 (b := 0) spX_0 rfl ⟨rfl, rfl, Nat.le_of_ble_eq_true rfl, Nat.le_of_ble_eq_true rfl, Nat.zero_le _, Nat.zero_le _⟩ (Nat.le_of_ble_eq_true rfl) rfl ?_
  refine wr_istore 38 [(5, .int v10), (4, .int x5), (3, .int v3), (0, .ref (q 0)), (1, .int a1), (2, .int a2)] C dX0_worthOf_38 rfl (Nat.le_of_ble_eq_true rfl) rfl ?_
  refine wr_aload_n 40 C dX0_worthOf_40 3 rfl rfl ?_
  refine gespX_0_0_X0 41 C dX0_worthOf_41 ?_
  refine gespX_1_8_X0 44 C dX0_worthOf_44 ?_
  refine wr_iload_n 47 C dX0_worthOf_47 4 rfl rfl ?_
  refine wr_iload 48 C dX0_worthOf_48 1 rfl ?_
  obtain ⟨g11, hf⟩ := o_g hf
  obtain ⟨μ12, eμ12, hf⟩ := o_let hf
  refine wr_iast 50 C dX0_worthOf_50 spX_2 g11 eμ12 ?_
  refine wr_iload_n 51 C dX0_worthOf_51 2 rfl rfl ?_
  refine wr_iconst 52 C dX0_worthOf_52 (v := (-1)) rfl ?_
  refine wr_icmp_ne 53 60 C dX0_worthOf_53 (by decide) (fun c13 => ?_) (fun c13 => ?_)
  · replace hf := o_neg c13 hf
    refine wr_iload_n 60 C dX0_worthOf_60 2 rfl rfl ?_
    refine wr_iload 61 C dX0_worthOf_61 0 rfl ?_
    refine wr_isub 63 C dX0_worthOf_63 ?_
    exact wr_iret 64 C dX0_worthOf_64 ⟨Nat.zero_le _, Nat.zero_le _⟩ (Option.some.inj hf)
  · replace hf := o_pos c13 hf
    refine wr_iconst 56 C dX0_worthOf_56 (v := (-1)) rfl ?_
    refine wr_goto 57 C dX0_worthOf_57 (tgt := 64) (by decide) ?_
    exact wr_iret 64 C dX0_worthOf_64 ⟨Nat.zero_le _, Nat.zero_le _⟩ (Option.some.inj hf)
abbrev cX0_worth : ByteArray := prog_1_method_107_code
def yX0_worth : MethodName := ⟨RX0, "worth", "(II)I"⟩
def dkwX0_worth_1 : List UInt8 := [182, 1, 180, 167, 0, 5, 16, 254, 172]
abbrev dktX0_worth_1 : List UInt8 := dkwX0_worth_1 ++ []
def dkwX0_worth_0 : List UInt8 := [42, 27, 182, 0, 134, 153, 0, 24, 28, 133, 9, 20, 1, 97, 184, 0, 103, 153, 0, 12, 42, 27, 28]
abbrev dktX0_worth_0 : List UInt8 := dkwX0_worth_0 ++ dktX0_worth_1
theorem dksX0_worth_0 : cX0_worth.data.toList.drop 0 = dktX0_worth_0 := by decide +kernel
theorem dksX0_worth_1 : cX0_worth.data.toList.drop 23 = dktX0_worth_1 := dk_seg dksX0_worth_0 23 rfl rfl
theorem dX0_worth_0 : decode cX0_worth 0 = .ok (.aload_n 0, 1) := dk_42 (dk_at dksX0_worth_0 0 rfl rfl)
theorem dX0_worth_1 : decode cX0_worth 1 = .ok (.iload_n 1, 1) := dk_27 (dk_at dksX0_worth_0 1 rfl rfl)
theorem dX0_worth_2 : decode cX0_worth 2 = .ok (.invokevirtual 134, 3) := dk_182 0 134 (dk_at dksX0_worth_0 2 rfl rfl)
theorem dX0_worth_5 : decode cX0_worth 5 = .ok (.ifCond .eq 24, 3) := dk_153 0 24 (dk_at dksX0_worth_0 5 rfl rfl)
theorem dX0_worth_8 : decode cX0_worth 8 = .ok (.iload_n 2, 1) := dk_28 (dk_at dksX0_worth_0 8 rfl rfl)
theorem dX0_worth_9 : decode cX0_worth 9 = .ok (.i2l, 1) := dk_133 (dk_at dksX0_worth_0 9 rfl rfl)
theorem dX0_worth_10 : decode cX0_worth 10 = .ok (.lconst 0, 1) := dk_9 (dk_at dksX0_worth_0 10 rfl rfl)
theorem dX0_worth_11 : decode cX0_worth 11 = .ok (.ldc2_w 353, 3) := dk_20 1 97 (dk_at dksX0_worth_0 11 rfl rfl)
theorem dX0_worth_14 : decode cX0_worth 14 = .ok (.invokestatic 103, 3) := dk_184 0 103 (dk_at dksX0_worth_0 14 rfl rfl)
theorem dX0_worth_17 : decode cX0_worth 17 = .ok (.ifCond .eq 12, 3) := dk_153 0 12 (dk_at dksX0_worth_0 17 rfl rfl)
theorem dX0_worth_20 : decode cX0_worth 20 = .ok (.aload_n 0, 1) := dk_42 (dk_at dksX0_worth_0 20 rfl rfl)
theorem dX0_worth_21 : decode cX0_worth 21 = .ok (.iload_n 1, 1) := dk_27 (dk_at dksX0_worth_0 21 rfl rfl)
theorem dX0_worth_22 : decode cX0_worth 22 = .ok (.iload_n 2, 1) := dk_28 (dk_at dksX0_worth_0 22 rfl rfl)
theorem dX0_worth_23 : decode cX0_worth 23 = .ok (.invokevirtual 436, 3) := dk_182 1 180 (dk_at dksX0_worth_1 0 rfl rfl)
theorem dX0_worth_26 : decode cX0_worth 26 = .ok (.goto 5, 3) := dk_167 0 5 (dk_at dksX0_worth_1 3 rfl rfl)
theorem dX0_worth_29 : decode cX0_worth 29 = .ok (.bipush (-2), 2) := dk_16 254 (dk_at dksX0_worth_1 6 rfl rfl)
theorem dX0_worth_31 : decode cX0_worth 31 = .ok (.ireturn, 1) := dk_172 (dk_at dksX0_worth_1 8 rfl rfl)

theorem okX0_worth : wOkV yX0_worth cX0_worth 3 (some .int) 2 := ⟨q1152, q1153, q136, q1154, by decide, by decide, by decide +kernel⟩
def fX0_worth (N : Nat)  (a1 : Int32) (a2 : Int32) (μ : wMem) : Option (Int32 × wMem) :=
  wBind (fX0_isPerson N  a1 μ) fun v3 μ2 => wLet (fun  (μ4 : wMem) => some ((-2), μ4)) fun Jworth29 => if v3 = 0 then Jworth29  μ2 else wBind (fX0_isIn N  (Int32.toInt64 a2) 0 100 μ2) fun v8 μ7 => if v8 = 0 then Jworth29  μ7 else wBind (fX0_worthOf N  a1 a2 μ7) fun v12 μ11 => some (v12, μ11)
set_option maxHeartbeats 4000000 in
set_option maxRecDepth 100000 in
theorem tX0_worth (l : Launch) {D : va_G} {E : List wCell} {q : Nat → Nat} {ca : wCA} (N : Nat)   (a1 : Int32) (a2 : Int32) (μ : wMem) (r0 : (Int32 × wMem)) (hf : fX0_worth N  a1 a2 μ = some r0) : wMi l yX0_worth cX0_worth 3 (some .int) ({ frames := 9, cells := 0, slots := 0, locals := 201 } : Room) D vwCl (spX ++ E) q ca [.ref (q 0), .int a1, .int a2] μ r0 := by
  refine wMi_intro (by decide) (Nat.le_of_ble_eq_true rfl) ?_
  intro p e s m args below meth c A C
  unfold fX0_worth at hf
  refine wr_sub [(0, .ref (q 0)), (1, .int a1), (2, .int a2)] [0, 1, 2] rfl ?_
  refine wr_aload_n 0 C dX0_worth_0 0 rfl rfl ?_
  refine wr_iload_n 1 C dX0_worth_1 1 rfl rfl ?_
  obtain ⟨v3, μ2, h1, hf⟩ := o_bind hf
  refine wr_Vi (kc1 := 0) (ks1 := 0) 2 [] C dX0_worth_2 (tX0_isPerson l N   a1 μ (v3, μ2) h1) okX0_isPerson q702 (b := 0) spX_0 rfl ⟨rfl, rfl, Nat.le_of_ble_eq_true rfl, Nat.le_of_ble_eq_true rfl, Nat.zero_le _, Nat.zero_le _⟩ (Nat.le_of_ble_eq_true rfl) rfl ?_
  obtain ⟨Jworth29, eJworth29, hf⟩ := o_let hf
  have hJworth29 : ∀  (μ4 : wMem), Jworth29  μ4 = some r0 → wJ p l e ({ frames := 9, cells := 0, slots := 0, locals := 201 } : Room) s m args below meth c 3 D vwCl (spX ++ E) q ca A (wQi ({ frames := 9, cells := 0, slots := 0, locals := 201 } : Room) D vwCl (spX ++ E) q ca below args s A r0) 0 0 μ4 29 [] [] := by
    intro  μ4 hf
    rw [eJworth29] at hf
    refine wr_bipush 29 C dX0_worth_29 (v := (-2)) rfl ?_
    exact wr_iret 31 C dX0_worth_31 ⟨Nat.zero_le _, Nat.zero_le _⟩ (Option.some.inj hf)
  refine wr_if_eq 5 29 C dX0_worth_5 (by decide) (fun c5 => ?_) (fun c5 => ?_)
  · replace hf := o_pos c5 hf
    refine wr_sub [] [] rfl ?_
    exact hJworth29  μ2 hf
  · replace hf := o_neg c5 hf
    refine wr_iload_n 8 C dX0_worth_8 2 rfl rfl ?_
    refine wr_i2l 9 C dX0_worth_9 ?_
    refine wr_lconst 10 C dX0_worth_10 (v := 0) rfl ?_
    refine wr_ldc2 11 C dX0_worth_11 q969 ?_
    obtain ⟨v8, μ7, h6, hf⟩ := o_bind hf
    refine wr_Si (kc1 := 0) (ks1 := 0) 14 [] C dX0_worth_14 (tX0_isIn l N   (Int32.toInt64 a2) 0 100 μ2 (v8, μ7) h6) okX0_isIn q446 ⟨rfl, rfl, Nat.le_of_ble_eq_true rfl, Nat.le_of_ble_eq_true rfl, Nat.zero_le _, Nat.zero_le _⟩ (Nat.le_of_ble_eq_true rfl) rfl ?_
    refine wr_if_eq 17 29 C dX0_worth_17 (by decide) (fun c9 => ?_) (fun c9 => ?_)
    · replace hf := o_pos c9 hf
      refine wr_sub [] [] rfl ?_
      exact hJworth29  μ7 hf
    · replace hf := o_neg c9 hf
      refine wr_aload_n 20 C dX0_worth_20 0 rfl rfl ?_
      refine wr_iload_n 21 C dX0_worth_21 1 rfl rfl ?_
      refine wr_iload_n 22 C dX0_worth_22 2 rfl rfl ?_
      obtain ⟨v12, μ11, h10, hf⟩ := o_bind hf
      refine wr_Vi (kc1 := 0) (ks1 := 0) 23 [] C dX0_worth_23 (tX0_worthOf l N   a1 a2 μ7 (v12, μ11) h10) okX0_worthOf q1155 (b := 0) spX_0 rfl ⟨rfl, rfl, Nat.le_of_ble_eq_true rfl, Nat.le_of_ble_eq_true rfl, Nat.zero_le _, Nat.zero_le _⟩ (Nat.le_of_ble_eq_true rfl) rfl ?_
      refine wr_goto 26 C dX0_worth_26 (tgt := 31) (by decide) ?_
      exact wr_iret 31 C dX0_worth_31 ⟨Nat.zero_le _, Nat.zero_le _⟩ (Option.some.inj hf)
abbrev cX0_whom : ByteArray := prog_1_method_108_code
def yX0_whom : MethodName := ⟨RX0, "whom", "(I)I"⟩
def dkwX0_whom_3 : List UInt8 := [172]
abbrev dktX0_whom_3 : List UInt8 := dkwX0_whom_3 ++ []
def dkwX0_whom_2 : List UInt8 := [54, 5, 21, 5, 29, 163, 0, 6, 167, 0, 9, 21, 5, 62, 21, 4, 61, 132, 4, 1, 167, 255, 217, 28]
abbrev dktX0_whom_2 : List UInt8 := dkwX0_whom_2 ++ dktX0_whom_3
def dkwX0_whom_1 : List UInt8 := [3, 62, 3, 54, 4, 21, 4, 42, 180, 0, 12, 180, 0, 128, 162, 0, 33, 42, 21, 4, 27, 182, 1, 180]
abbrev dktX0_whom_1 : List UInt8 := dkwX0_whom_1 ++ dktX0_whom_2
def dkwX0_whom_0 : List UInt8 := [42, 182, 0, 252, 153, 0, 15, 27, 133, 9, 20, 1, 97, 184, 0, 103, 154, 0, 6, 16, 254, 172, 2, 61]
abbrev dktX0_whom_0 : List UInt8 := dkwX0_whom_0 ++ dktX0_whom_1
theorem dksX0_whom_0 : cX0_whom.data.toList.drop 0 = dktX0_whom_0 := by decide +kernel
theorem dksX0_whom_1 : cX0_whom.data.toList.drop 24 = dktX0_whom_1 := dk_seg dksX0_whom_0 24 rfl rfl
theorem dksX0_whom_2 : cX0_whom.data.toList.drop 48 = dktX0_whom_2 := dk_seg dksX0_whom_1 24 rfl rfl
theorem dksX0_whom_3 : cX0_whom.data.toList.drop 72 = dktX0_whom_3 := dk_seg dksX0_whom_2 24 rfl rfl
theorem dX0_whom_0 : decode cX0_whom 0 = .ok (.aload_n 0, 1) := dk_42 (dk_at dksX0_whom_0 0 rfl rfl)
theorem dX0_whom_1 : decode cX0_whom 1 = .ok (.invokevirtual 252, 3) := dk_182 0 252 (dk_at dksX0_whom_0 1 rfl rfl)
theorem dX0_whom_4 : decode cX0_whom 4 = .ok (.ifCond .eq 15, 3) := dk_153 0 15 (dk_at dksX0_whom_0 4 rfl rfl)
theorem dX0_whom_7 : decode cX0_whom 7 = .ok (.iload_n 1, 1) := dk_27 (dk_at dksX0_whom_0 7 rfl rfl)
theorem dX0_whom_8 : decode cX0_whom 8 = .ok (.i2l, 1) := dk_133 (dk_at dksX0_whom_0 8 rfl rfl)
theorem dX0_whom_9 : decode cX0_whom 9 = .ok (.lconst 0, 1) := dk_9 (dk_at dksX0_whom_0 9 rfl rfl)
theorem dX0_whom_10 : decode cX0_whom 10 = .ok (.ldc2_w 353, 3) := dk_20 1 97 (dk_at dksX0_whom_0 10 rfl rfl)
theorem dX0_whom_13 : decode cX0_whom 13 = .ok (.invokestatic 103, 3) := dk_184 0 103 (dk_at dksX0_whom_0 13 rfl rfl)
theorem dX0_whom_16 : decode cX0_whom 16 = .ok (.ifCond .ne 6, 3) := dk_154 0 6 (dk_at dksX0_whom_0 16 rfl rfl)
theorem dX0_whom_19 : decode cX0_whom 19 = .ok (.bipush (-2), 2) := dk_16 254 (dk_at dksX0_whom_0 19 rfl rfl)
theorem dX0_whom_21 : decode cX0_whom 21 = .ok (.ireturn, 1) := dk_172 (dk_at dksX0_whom_0 21 rfl rfl)
theorem dX0_whom_22 : decode cX0_whom 22 = .ok (.iconst (-1), 1) := dk_2 (dk_at dksX0_whom_0 22 rfl rfl)
theorem dX0_whom_23 : decode cX0_whom 23 = .ok (.istore_n 2, 1) := dk_61 (dk_at dksX0_whom_0 23 rfl rfl)
theorem dX0_whom_24 : decode cX0_whom 24 = .ok (.iconst 0, 1) := dk_3 (dk_at dksX0_whom_1 0 rfl rfl)
theorem dX0_whom_25 : decode cX0_whom 25 = .ok (.istore_n 3, 1) := dk_62 (dk_at dksX0_whom_1 1 rfl rfl)
theorem dX0_whom_26 : decode cX0_whom 26 = .ok (.iconst 0, 1) := dk_3 (dk_at dksX0_whom_1 2 rfl rfl)
theorem dX0_whom_27 : decode cX0_whom 27 = .ok (.istore 4, 2) := dk_54 4 (dk_at dksX0_whom_1 3 rfl rfl)
theorem dX0_whom_29 : decode cX0_whom 29 = .ok (.iload 4, 2) := dk_21 4 (dk_at dksX0_whom_1 5 rfl rfl)
theorem dX0_whom_31 : decode cX0_whom 31 = .ok (.aload_n 0, 1) := dk_42 (dk_at dksX0_whom_1 7 rfl rfl)
theorem dX0_whom_32 : decode cX0_whom 32 = .ok (.getfield 12, 3) := dk_180 0 12 (dk_at dksX0_whom_1 8 rfl rfl)
theorem dX0_whom_35 : decode cX0_whom 35 = .ok (.getfield 128, 3) := dk_180 0 128 (dk_at dksX0_whom_1 11 rfl rfl)
theorem dX0_whom_38 : decode cX0_whom 38 = .ok (.if_icmp .ge 33, 3) := dk_162 0 33 (dk_at dksX0_whom_1 14 rfl rfl)
theorem dX0_whom_41 : decode cX0_whom 41 = .ok (.aload_n 0, 1) := dk_42 (dk_at dksX0_whom_1 17 rfl rfl)
theorem dX0_whom_42 : decode cX0_whom 42 = .ok (.iload 4, 2) := dk_21 4 (dk_at dksX0_whom_1 18 rfl rfl)
theorem dX0_whom_44 : decode cX0_whom 44 = .ok (.iload_n 1, 1) := dk_27 (dk_at dksX0_whom_1 20 rfl rfl)
theorem dX0_whom_45 : decode cX0_whom 45 = .ok (.invokevirtual 436, 3) := dk_182 1 180 (dk_at dksX0_whom_1 21 rfl rfl)
theorem dX0_whom_48 : decode cX0_whom 48 = .ok (.istore 5, 2) := dk_54 5 (dk_at dksX0_whom_2 0 rfl rfl)
theorem dX0_whom_50 : decode cX0_whom 50 = .ok (.iload 5, 2) := dk_21 5 (dk_at dksX0_whom_2 2 rfl rfl)
theorem dX0_whom_52 : decode cX0_whom 52 = .ok (.iload_n 3, 1) := dk_29 (dk_at dksX0_whom_2 4 rfl rfl)
theorem dX0_whom_53 : decode cX0_whom 53 = .ok (.if_icmp .gt 6, 3) := dk_163 0 6 (dk_at dksX0_whom_2 5 rfl rfl)
theorem dX0_whom_56 : decode cX0_whom 56 = .ok (.goto 9, 3) := dk_167 0 9 (dk_at dksX0_whom_2 8 rfl rfl)
theorem dX0_whom_59 : decode cX0_whom 59 = .ok (.iload 5, 2) := dk_21 5 (dk_at dksX0_whom_2 11 rfl rfl)
theorem dX0_whom_61 : decode cX0_whom 61 = .ok (.istore_n 3, 1) := dk_62 (dk_at dksX0_whom_2 13 rfl rfl)
theorem dX0_whom_62 : decode cX0_whom 62 = .ok (.iload 4, 2) := dk_21 4 (dk_at dksX0_whom_2 14 rfl rfl)
theorem dX0_whom_64 : decode cX0_whom 64 = .ok (.istore_n 2, 1) := dk_61 (dk_at dksX0_whom_2 16 rfl rfl)
theorem dX0_whom_65 : decode cX0_whom 65 = .ok (.iinc 4 1, 3) := dk_132 4 1 (dk_at dksX0_whom_2 17 rfl rfl)
theorem dX0_whom_68 : decode cX0_whom 68 = .ok (.goto (-39), 3) := dk_167 255 217 (dk_at dksX0_whom_2 20 rfl rfl)
theorem dX0_whom_71 : decode cX0_whom 71 = .ok (.iload_n 2, 1) := dk_28 (dk_at dksX0_whom_2 23 rfl rfl)
theorem dX0_whom_72 : decode cX0_whom 72 = .ok (.ireturn, 1) := dk_172 (dk_at dksX0_whom_3 0 rfl rfl)

theorem okX0_whom : wOkV yX0_whom cX0_whom 6 (some .int) 1 := ⟨q1160, q1161, q136, q1162, by decide, by decide, by decide +kernel⟩
def gbX0_whom_29 (N : Nat)  (x1_ : Int32) (K : (Int32 → wMem → Option (Int32 × wMem))) (rec : (Int32 → Int32 → Int32 → wMem → Option (Int32 × wMem))) (x2_ : Int32) (x3_ : Int32) (x4_ : Int32) (μ : wMem) : Option (Int32 × wMem) :=
  if (μ.1 1 2) ≤ x4_ then K x2_ μ else wBind (fX0_worthOf N  x4_ x1_ μ) fun v13 μ12 => wLet (fun (x15 : Int32) (x16 : Int32) (μ14 : wMem) => wLet (x4_ + 1 : Int32) fun x17 => rec x15 x16 x17 μ14) fun Jwhom65 => if x3_ < v13 then Jwhom65 x4_ v13 μ12 else Jwhom65 x2_ x3_ μ12
def gX0_whom_29 (N : Nat)  (x1_ : Int32) (K : (Int32 → wMem → Option (Int32 × wMem))) : Nat → (Int32 → Int32 → Int32 → wMem → Option (Int32 × wMem))
  | 0 => fun _ _ _ _ => none
  | k + 1 => gbX0_whom_29 N  x1_ K (gX0_whom_29 N  x1_ K k)
set_option maxHeartbeats 4000000 in
set_option maxRecDepth 100000 in
theorem tX0_whom_29 {p : Program} {l : Launch} {e : Env} {s : State} {m : MethodId} {args : Array Value} {below : List Frame} {meth : Method} {c : Code} {D : va_G} {E : List wCell} {q : Nat → Nat} {ca : wCA} {A : Nat → Prop} (C : wC p ({ frames := 9, cells := 0, slots := 0, locals := 201 } : Room) s m args meth c cX0_whom yX0_whom.cls 6 (some .int) D vwCl (spX ++ E) q ca A) (N : Nat)   (x1_ : Int32) (K : (Int32 → wMem → Option (Int32 × wMem))) (r0 : (Int32 × wMem)) (hK : ∀ (y2_ : Int32) (μ : wMem), K y2_ μ = some r0 → wJ p l e ({ frames := 9, cells := 0, slots := 0, locals := 201 } : Room) s m args below meth c 6 D vwCl (spX ++ E) q ca A (wQi ({ frames := 9, cells := 0, slots := 0, locals := 201 } : Room) D vwCl (spX ++ E) q ca below args s A r0) 0 0 μ 71 [(2, .int y2_)] []) : ∀ (k : Nat) (x2_ : Int32) (x3_ : Int32) (x4_ : Int32) (μ : wMem), gX0_whom_29 N  x1_ K k x2_ x3_ x4_ μ = some r0 → wJ p l e ({ frames := 9, cells := 0, slots := 0, locals := 201 } : Room) s m args below meth c 6 D vwCl (spX ++ E) q ca A (wQi ({ frames := 9, cells := 0, slots := 0, locals := 201 } : Room) D vwCl (spX ++ E) q ca below args s A r0) 0 0 μ 29 [(0, .ref (q 0)), (1, .int x1_), (2, .int x2_), (3, .int x3_), (4, .int x4_)] [] := by
  intro k
  induction k with
  | zero =>
    intro x2_ x3_ x4_ μ hf
    cases hf
  | succ k ih =>
    intro x2_ x3_ x4_ μ hf
    replace hf : gbX0_whom_29 N  x1_ K (gX0_whom_29 N  x1_ K k) x2_ x3_ x4_ μ = some r0 := hf
    unfold gbX0_whom_29 at hf
    refine wr_iload 29 C dX0_whom_29 4 rfl ?_
    refine wr_aload_n 31 C dX0_whom_31 0 rfl rfl ?_
    refine gespX_0_0_X0 32 C dX0_whom_32 ?_
    refine gespX_1_2_X0 35 C dX0_whom_35 ?_
    refine wr_icmp_ge 38 71 C dX0_whom_38 (by decide) (fun c10 => ?_) (fun c10 => ?_)
    · replace hf := o_pos c10 hf
      refine wr_sub [(2, .int x2_)] [2] rfl ?_
      exact hK x2_ μ hf
    · replace hf := o_neg c10 hf
      refine wr_aload_n 41 C dX0_whom_41 0 rfl rfl ?_
      refine wr_iload 42 C dX0_whom_42 4 rfl ?_
      refine wr_iload_n 44 C dX0_whom_44 1 rfl rfl ?_
      obtain ⟨v13, μ12, h11, hf⟩ := o_bind hf
      refine wr_Vi (kc1 := 0) (ks1 := 0) 45 [] C dX0_whom_45 (tX0_worthOf l N   x4_ x1_ μ (v13, μ12) h11) okX0_worthOf q1155 (b := 0) spX_0 rfl ⟨rfl, rfl, Nat.le_of_ble_eq_true rfl, Nat.le_of_ble_eq_true rfl, Nat.zero_le _, Nat.zero_le _⟩ (Nat.le_of_ble_eq_true rfl) rfl ?_
      refine wr_istore 48 [(5, .int v13), (0, .ref (q 0)), (1, .int x1_), (2, .int x2_), (3, .int x3_), (4, .int x4_)] C dX0_whom_48 rfl (Nat.le_of_ble_eq_true rfl) rfl ?_
      refine wr_iload 50 C dX0_whom_50 0 rfl ?_
      refine wr_iload_n 52 C dX0_whom_52 4 rfl rfl ?_
      obtain ⟨Jwhom65, eJwhom65, hf⟩ := o_let hf
      have hJwhom65 : ∀ (x15 : Int32) (x16 : Int32) (μ14 : wMem), Jwhom65 x15 x16 μ14 = some r0 → wJ p l e ({ frames := 9, cells := 0, slots := 0, locals := 201 } : Room) s m args below meth c 6 D vwCl (spX ++ E) q ca A (wQi ({ frames := 9, cells := 0, slots := 0, locals := 201 } : Room) D vwCl (spX ++ E) q ca below args s A r0) 0 0 μ14 65 [(0, .ref (q 0)), (1, .int x1_), (2, .int x15), (3, .int x16), (4, .int x4_)] [] := by
        intro x15 x16 μ14 hf
        rw [eJwhom65] at hf
        obtain ⟨x17, ex17, hf⟩ := o_let hf
        refine wr_iinc 65 [(4, .int x17), (0, .ref (q 0)), (1, .int x1_), (2, .int x15), (3, .int x16)] C dX0_whom_65 4 rfl (ex17.trans rfl) (Nat.le_of_ble_eq_true rfl) rfl ?_
        refine wr_goto 68 C dX0_whom_68 (tgt := 29) (by decide) ?_
        refine wr_sub [(0, .ref (q 0)), (1, .int x1_), (2, .int x15), (3, .int x16), (4, .int x17)] [1, 2, 3, 4, 0] rfl ?_
        exact ih x15 x16 x17 μ14 hf
      refine wr_icmp_gt 53 59 C dX0_whom_53 (by decide) (fun c18 => ?_) (fun c18 => ?_)
      · replace hf := o_pos c18 hf
        refine wr_iload 59 C dX0_whom_59 0 rfl ?_
        refine wr_istore_n 61 [(3, .int v13), (5, .int v13), (0, .ref (q 0)), (1, .int x1_), (2, .int x2_), (4, .int x4_)] C dX0_whom_61 rfl rfl (Nat.le_of_ble_eq_true rfl) rfl ?_
        refine wr_iload 62 C dX0_whom_62 5 rfl ?_
        refine wr_istore_n 64 [(2, .int x4_), (3, .int v13), (5, .int v13), (0, .ref (q 0)), (1, .int x1_), (4, .int x4_)] C dX0_whom_64 rfl rfl (Nat.le_of_ble_eq_true rfl) rfl ?_
        refine wr_sub [(0, .ref (q 0)), (1, .int x1_), (2, .int x4_), (3, .int v13), (4, .int x4_)] [3, 4, 0, 1, 5] rfl ?_
        exact hJwhom65 x4_ v13 μ12 hf
      · replace hf := o_neg c18 hf
        refine wr_goto 56 C dX0_whom_56 (tgt := 65) (by decide) ?_
        refine wr_sub [(0, .ref (q 0)), (1, .int x1_), (2, .int x2_), (3, .int x3_), (4, .int x4_)] [1, 2, 3, 4, 5] rfl ?_
        exact hJwhom65 x2_ x3_ μ12 hf
def fX0_whom (N : Nat)  (a1 : Int32) (μ : wMem) : Option (Int32 × wMem) :=
  wBind (fX0_isFamily N   μ) fun v3 μ2 => wLet (fun  (μ4 : wMem) => some ((-2), μ4)) fun Jwhom19 => if v3 = 0 then Jwhom19  μ2 else wBind (fX0_isIn N  (Int32.toInt64 a1) 0 100 μ2) fun v8 μ7 => if v8 = 0 then Jwhom19  μ7 else gX0_whom_29 N  a1 (fun (x20 : Int32) (μ19 : wMem) => some (x20, μ19)) N (-1) 0 0 μ7
set_option maxHeartbeats 4000000 in
set_option maxRecDepth 100000 in
theorem tX0_whom (l : Launch) {D : va_G} {E : List wCell} {q : Nat → Nat} {ca : wCA} (N : Nat)   (a1 : Int32) (μ : wMem) (r0 : (Int32 × wMem)) (hf : fX0_whom N  a1 μ = some r0) : wMi l yX0_whom cX0_whom 6 (some .int) ({ frames := 9, cells := 0, slots := 0, locals := 201 } : Room) D vwCl (spX ++ E) q ca [.ref (q 0), .int a1] μ r0 := by
  refine wMi_intro (by decide) (Nat.le_of_ble_eq_true rfl) ?_
  intro p e s m args below meth c A C
  unfold fX0_whom at hf
  refine wr_sub [(0, .ref (q 0)), (1, .int a1)] [0, 1] rfl ?_
  refine wr_aload_n 0 C dX0_whom_0 0 rfl rfl ?_
  obtain ⟨v3, μ2, h1, hf⟩ := o_bind hf
  refine wr_Vi (kc1 := 0) (ks1 := 0) 1 [] C dX0_whom_1 (tX0_isFamily l N    μ (v3, μ2) h1) okX0_isFamily q770 (b := 0) spX_0 rfl ⟨rfl, rfl, Nat.le_of_ble_eq_true rfl, Nat.le_of_ble_eq_true rfl, Nat.zero_le _, Nat.zero_le _⟩ (Nat.le_of_ble_eq_true rfl) rfl ?_
  obtain ⟨Jwhom19, eJwhom19, hf⟩ := o_let hf
  have hJwhom19 : ∀  (μ4 : wMem), Jwhom19  μ4 = some r0 → wJ p l e ({ frames := 9, cells := 0, slots := 0, locals := 201 } : Room) s m args below meth c 6 D vwCl (spX ++ E) q ca A (wQi ({ frames := 9, cells := 0, slots := 0, locals := 201 } : Room) D vwCl (spX ++ E) q ca below args s A r0) 0 0 μ4 19 [] [] := by
    intro  μ4 hf
    rw [eJwhom19] at hf
    refine wr_bipush 19 C dX0_whom_19 (v := (-2)) rfl ?_
    exact wr_iret 21 C dX0_whom_21 ⟨Nat.zero_le _, Nat.zero_le _⟩ (Option.some.inj hf)
  refine wr_if_eq 4 19 C dX0_whom_4 (by decide) (fun c5 => ?_) (fun c5 => ?_)
  · replace hf := o_pos c5 hf
    refine wr_sub [] [] rfl ?_
    exact hJwhom19  μ2 hf
  · replace hf := o_neg c5 hf
    refine wr_iload_n 7 C dX0_whom_7 1 rfl rfl ?_
    refine wr_i2l 8 C dX0_whom_8 ?_
    refine wr_lconst 9 C dX0_whom_9 (v := 0) rfl ?_
    refine wr_ldc2 10 C dX0_whom_10 q969 ?_
    obtain ⟨v8, μ7, h6, hf⟩ := o_bind hf
    refine wr_Si (kc1 := 0) (ks1 := 0) 13 [] C dX0_whom_13 (tX0_isIn l N   (Int32.toInt64 a1) 0 100 μ2 (v8, μ7) h6) okX0_isIn q446 ⟨rfl, rfl, Nat.le_of_ble_eq_true rfl, Nat.le_of_ble_eq_true rfl, Nat.zero_le _, Nat.zero_le _⟩ (Nat.le_of_ble_eq_true rfl) rfl ?_
    refine wr_if_ne 16 22 C dX0_whom_16 (by decide) (fun c9 => ?_) (fun c9 => ?_)
    · replace hf := o_neg c9 hf
      refine wr_iconst 22 C dX0_whom_22 (v := (-1)) rfl ?_
      refine wr_istore_n 23 [(2, .int ((-1))), (0, .ref (q 0)), (1, .int a1)] C dX0_whom_23 rfl rfl (Nat.le_of_ble_eq_true rfl) rfl ?_
      refine wr_iconst 24 C dX0_whom_24 (v := 0) rfl ?_
      refine wr_istore_n 25 [(3, .int 0), (2, .int ((-1))), (0, .ref (q 0)), (1, .int a1)] C dX0_whom_25 rfl rfl (Nat.le_of_ble_eq_true rfl) rfl ?_
      refine wr_iconst 26 C dX0_whom_26 (v := 0) rfl ?_
      refine wr_istore 27 [(4, .int 0), (3, .int 0), (2, .int ((-1))), (0, .ref (q 0)), (1, .int a1)] C dX0_whom_27 rfl (Nat.le_of_ble_eq_true rfl) rfl ?_
      refine wr_sub [(0, .ref (q 0)), (1, .int a1), (2, .int ((-1))), (3, .int 0), (4, .int 0)] [3, 4, 2, 1, 0] rfl ?_
      refine tX0_whom_29 C N   a1 _ r0 (fun x20 μ19 hf => ?_) N (-1) 0 0 μ7 hf
      · replace hf := hf
        refine wr_iload_n 71 C dX0_whom_71 0 rfl rfl ?_
        exact wr_iret 72 C dX0_whom_72 ⟨Nat.zero_le _, Nat.zero_le _⟩ (Option.some.inj hf)
    · replace hf := o_pos c9 hf
      refine wr_sub [] [] rfl ?_
      exact hJwhom19  μ7 hf
abbrev cX0_blur : ByteArray := prog_1_method_109_code
def yX0_blur : MethodName := ⟨RX0, "blur", "(I)I"⟩
def dkwX0_blur_3 : List UInt8 := [132, 4, 1, 167, 255, 209, 42, 180, 0, 12, 180, 0, 162, 27, 28, 79, 29, 172]
abbrev dktX0_blur_3 : List UInt8 := dkwX0_blur_3 ++ []
def dkwX0_blur_2 : List UInt8 := [79, 42, 42, 180, 0, 33, 182, 1, 67, 19, 1, 35, 162, 0, 8, 21, 4, 167, 0, 4, 2, 62]
abbrev dktX0_blur_2 : List UInt8 := dkwX0_blur_2 ++ dktX0_blur_3
def dkwX0_blur_1 : List UInt8 := [54, 4, 21, 4, 16, 9, 163, 0, 46, 29, 2, 160, 0, 41, 42, 180, 0, 12, 180, 0, 162, 27, 21, 4]
abbrev dktX0_blur_1 : List UInt8 := dkwX0_blur_1 ++ dktX0_blur_2
def dkwX0_blur_0 : List UInt8 := [42, 27, 182, 0, 146, 154, 0, 6, 16, 254, 172, 42, 180, 0, 12, 180, 0, 162, 27, 46, 61, 2, 62, 3]
abbrev dktX0_blur_0 : List UInt8 := dkwX0_blur_0 ++ dktX0_blur_1
theorem dksX0_blur_0 : cX0_blur.data.toList.drop 0 = dktX0_blur_0 := by decide +kernel
theorem dksX0_blur_1 : cX0_blur.data.toList.drop 24 = dktX0_blur_1 := dk_seg dksX0_blur_0 24 rfl rfl
theorem dksX0_blur_2 : cX0_blur.data.toList.drop 48 = dktX0_blur_2 := dk_seg dksX0_blur_1 24 rfl rfl
theorem dksX0_blur_3 : cX0_blur.data.toList.drop 70 = dktX0_blur_3 := dk_seg dksX0_blur_2 22 rfl rfl
theorem dX0_blur_0 : decode cX0_blur 0 = .ok (.aload_n 0, 1) := dk_42 (dk_at dksX0_blur_0 0 rfl rfl)
theorem dX0_blur_1 : decode cX0_blur 1 = .ok (.iload_n 1, 1) := dk_27 (dk_at dksX0_blur_0 1 rfl rfl)
theorem dX0_blur_2 : decode cX0_blur 2 = .ok (.invokevirtual 146, 3) := dk_182 0 146 (dk_at dksX0_blur_0 2 rfl rfl)
theorem dX0_blur_5 : decode cX0_blur 5 = .ok (.ifCond .ne 6, 3) := dk_154 0 6 (dk_at dksX0_blur_0 5 rfl rfl)
theorem dX0_blur_8 : decode cX0_blur 8 = .ok (.bipush (-2), 2) := dk_16 254 (dk_at dksX0_blur_0 8 rfl rfl)
theorem dX0_blur_10 : decode cX0_blur 10 = .ok (.ireturn, 1) := dk_172 (dk_at dksX0_blur_0 10 rfl rfl)
theorem dX0_blur_11 : decode cX0_blur 11 = .ok (.aload_n 0, 1) := dk_42 (dk_at dksX0_blur_0 11 rfl rfl)
theorem dX0_blur_12 : decode cX0_blur 12 = .ok (.getfield 12, 3) := dk_180 0 12 (dk_at dksX0_blur_0 12 rfl rfl)
theorem dX0_blur_15 : decode cX0_blur 15 = .ok (.getfield 162, 3) := dk_180 0 162 (dk_at dksX0_blur_0 15 rfl rfl)
theorem dX0_blur_18 : decode cX0_blur 18 = .ok (.iload_n 1, 1) := dk_27 (dk_at dksX0_blur_0 18 rfl rfl)
theorem dX0_blur_19 : decode cX0_blur 19 = .ok (.iaload, 1) := dk_46 (dk_at dksX0_blur_0 19 rfl rfl)
theorem dX0_blur_20 : decode cX0_blur 20 = .ok (.istore_n 2, 1) := dk_61 (dk_at dksX0_blur_0 20 rfl rfl)
theorem dX0_blur_21 : decode cX0_blur 21 = .ok (.iconst (-1), 1) := dk_2 (dk_at dksX0_blur_0 21 rfl rfl)
theorem dX0_blur_22 : decode cX0_blur 22 = .ok (.istore_n 3, 1) := dk_62 (dk_at dksX0_blur_0 22 rfl rfl)
theorem dX0_blur_23 : decode cX0_blur 23 = .ok (.iconst 0, 1) := dk_3 (dk_at dksX0_blur_0 23 rfl rfl)
theorem dX0_blur_24 : decode cX0_blur 24 = .ok (.istore 4, 2) := dk_54 4 (dk_at dksX0_blur_1 0 rfl rfl)
theorem dX0_blur_26 : decode cX0_blur 26 = .ok (.iload 4, 2) := dk_21 4 (dk_at dksX0_blur_1 2 rfl rfl)
theorem dX0_blur_28 : decode cX0_blur 28 = .ok (.bipush 9, 2) := dk_16 9 (dk_at dksX0_blur_1 4 rfl rfl)
theorem dX0_blur_30 : decode cX0_blur 30 = .ok (.if_icmp .gt 46, 3) := dk_163 0 46 (dk_at dksX0_blur_1 6 rfl rfl)
theorem dX0_blur_33 : decode cX0_blur 33 = .ok (.iload_n 3, 1) := dk_29 (dk_at dksX0_blur_1 9 rfl rfl)
theorem dX0_blur_34 : decode cX0_blur 34 = .ok (.iconst (-1), 1) := dk_2 (dk_at dksX0_blur_1 10 rfl rfl)
theorem dX0_blur_35 : decode cX0_blur 35 = .ok (.if_icmp .ne 41, 3) := dk_160 0 41 (dk_at dksX0_blur_1 11 rfl rfl)
theorem dX0_blur_38 : decode cX0_blur 38 = .ok (.aload_n 0, 1) := dk_42 (dk_at dksX0_blur_1 14 rfl rfl)
theorem dX0_blur_39 : decode cX0_blur 39 = .ok (.getfield 12, 3) := dk_180 0 12 (dk_at dksX0_blur_1 15 rfl rfl)
theorem dX0_blur_42 : decode cX0_blur 42 = .ok (.getfield 162, 3) := dk_180 0 162 (dk_at dksX0_blur_1 18 rfl rfl)
theorem dX0_blur_45 : decode cX0_blur 45 = .ok (.iload_n 1, 1) := dk_27 (dk_at dksX0_blur_1 21 rfl rfl)
theorem dX0_blur_46 : decode cX0_blur 46 = .ok (.iload 4, 2) := dk_21 4 (dk_at dksX0_blur_1 22 rfl rfl)
theorem dX0_blur_48 : decode cX0_blur 48 = .ok (.iastore, 1) := dk_79 (dk_at dksX0_blur_2 0 rfl rfl)
theorem dX0_blur_49 : decode cX0_blur 49 = .ok (.aload_n 0, 1) := dk_42 (dk_at dksX0_blur_2 1 rfl rfl)
theorem dX0_blur_50 : decode cX0_blur 50 = .ok (.aload_n 0, 1) := dk_42 (dk_at dksX0_blur_2 2 rfl rfl)
theorem dX0_blur_51 : decode cX0_blur 51 = .ok (.getfield 33, 3) := dk_180 0 33 (dk_at dksX0_blur_2 3 rfl rfl)
theorem dX0_blur_54 : decode cX0_blur 54 = .ok (.invokevirtual 323, 3) := dk_182 1 67 (dk_at dksX0_blur_2 6 rfl rfl)
theorem dX0_blur_57 : decode cX0_blur 57 = .ok (.ldc_w 291, 3) := dk_19 1 35 (dk_at dksX0_blur_2 9 rfl rfl)
theorem dX0_blur_60 : decode cX0_blur 60 = .ok (.if_icmp .ge 8, 3) := dk_162 0 8 (dk_at dksX0_blur_2 12 rfl rfl)
theorem dX0_blur_63 : decode cX0_blur 63 = .ok (.iload 4, 2) := dk_21 4 (dk_at dksX0_blur_2 15 rfl rfl)
theorem dX0_blur_65 : decode cX0_blur 65 = .ok (.goto 4, 3) := dk_167 0 4 (dk_at dksX0_blur_2 17 rfl rfl)
theorem dX0_blur_68 : decode cX0_blur 68 = .ok (.iconst (-1), 1) := dk_2 (dk_at dksX0_blur_2 20 rfl rfl)
theorem dX0_blur_69 : decode cX0_blur 69 = .ok (.istore_n 3, 1) := dk_62 (dk_at dksX0_blur_2 21 rfl rfl)
theorem dX0_blur_70 : decode cX0_blur 70 = .ok (.iinc 4 1, 3) := dk_132 4 1 (dk_at dksX0_blur_3 0 rfl rfl)
theorem dX0_blur_73 : decode cX0_blur 73 = .ok (.goto (-47), 3) := dk_167 255 209 (dk_at dksX0_blur_3 3 rfl rfl)
theorem dX0_blur_76 : decode cX0_blur 76 = .ok (.aload_n 0, 1) := dk_42 (dk_at dksX0_blur_3 6 rfl rfl)
theorem dX0_blur_77 : decode cX0_blur 77 = .ok (.getfield 12, 3) := dk_180 0 12 (dk_at dksX0_blur_3 7 rfl rfl)
theorem dX0_blur_80 : decode cX0_blur 80 = .ok (.getfield 162, 3) := dk_180 0 162 (dk_at dksX0_blur_3 10 rfl rfl)
theorem dX0_blur_83 : decode cX0_blur 83 = .ok (.iload_n 1, 1) := dk_27 (dk_at dksX0_blur_3 13 rfl rfl)
theorem dX0_blur_84 : decode cX0_blur 84 = .ok (.iload_n 2, 1) := dk_28 (dk_at dksX0_blur_3 14 rfl rfl)
theorem dX0_blur_85 : decode cX0_blur 85 = .ok (.iastore, 1) := dk_79 (dk_at dksX0_blur_3 15 rfl rfl)
theorem dX0_blur_86 : decode cX0_blur 86 = .ok (.iload_n 3, 1) := dk_29 (dk_at dksX0_blur_3 16 rfl rfl)
theorem dX0_blur_87 : decode cX0_blur 87 = .ok (.ireturn, 1) := dk_172 (dk_at dksX0_blur_3 17 rfl rfl)

theorem okX0_blur : wOkV yX0_blur cX0_blur 5 (some .int) 1 := ⟨q1164, q1165, q136, q1166, by decide, by decide, by decide +kernel⟩
def gbX0_blur_26 (N : Nat)  (x1_ : Int32) (x2_ : Int32) (K : (Int32 → wMem → Option (Int32 × wMem))) (rec : (Int32 → Int32 → wMem → Option (Int32 × wMem))) (x3_ : Int32) (x4_ : Int32) (μ : wMem) : Option (Int32 × wMem) :=
  if (9 : Int32) < x4_ then K x3_ μ else if x3_ = (-1 : Int32) then wG (ok_in x1_ 2) (wLet (wSI μ 5 (Int32.toNatClampNeg x1_) x4_) fun μ10 => wBind (fX0_costNow N 19  μ10) fun v13 μ12 => wLet (fun (v15 : Int32) (μ14 : wMem) => wLet (x4_ + 1 : Int32) fun x16 => rec v15 x16 μ14) fun Jblur69 => if (1000000000 : Int32) ≤ v13 then Jblur69 (-1) μ12 else Jblur69 x4_ μ12) else K x3_ μ
def gX0_blur_26 (N : Nat)  (x1_ : Int32) (x2_ : Int32) (K : (Int32 → wMem → Option (Int32 × wMem))) : Nat → (Int32 → Int32 → wMem → Option (Int32 × wMem))
  | 0 => fun _ _ _ => none
  | k + 1 => gbX0_blur_26 N  x1_ x2_ K (gX0_blur_26 N  x1_ x2_ K k)
set_option maxHeartbeats 4000000 in
set_option maxRecDepth 100000 in
theorem tX0_blur_26 {p : Program} {l : Launch} {e : Env} {s : State} {m : MethodId} {args : Array Value} {below : List Frame} {meth : Method} {c : Code} {D : va_G} {E : List wCell} {q : Nat → Nat} {ca : wCA} {A : Nat → Prop} (C : wC p ({ frames := 7, cells := 0, slots := 0, locals := 155 } : Room) s m args meth c cX0_blur yX0_blur.cls 5 (some .int) D vwCl (spX ++ E) q ca A) (N : Nat)   (x1_ : Int32) (x2_ : Int32) (K : (Int32 → wMem → Option (Int32 × wMem))) (r0 : (Int32 × wMem)) (hK : ∀ (y3_ : Int32) (μ : wMem), K y3_ μ = some r0 → wJ p l e ({ frames := 7, cells := 0, slots := 0, locals := 155 } : Room) s m args below meth c 5 D vwCl (spX ++ E) q ca A (wQi ({ frames := 7, cells := 0, slots := 0, locals := 155 } : Room) D vwCl (spX ++ E) q ca below args s A r0) 0 0 μ 76 [(0, .ref (q 0)), (1, .int x1_), (2, .int x2_), (3, .int y3_)] []) : ∀ (k : Nat) (x3_ : Int32) (x4_ : Int32) (μ : wMem), gX0_blur_26 N  x1_ x2_ K k x3_ x4_ μ = some r0 → wJ p l e ({ frames := 7, cells := 0, slots := 0, locals := 155 } : Room) s m args below meth c 5 D vwCl (spX ++ E) q ca A (wQi ({ frames := 7, cells := 0, slots := 0, locals := 155 } : Room) D vwCl (spX ++ E) q ca below args s A r0) 0 0 μ 26 [(0, .ref (q 0)), (1, .int x1_), (2, .int x2_), (3, .int x3_), (4, .int x4_)] [] := by
  intro k
  induction k with
  | zero =>
    intro x3_ x4_ μ hf
    cases hf
  | succ k ih =>
    intro x3_ x4_ μ hf
    replace hf : gbX0_blur_26 N  x1_ x2_ K (gX0_blur_26 N  x1_ x2_ K k) x3_ x4_ μ = some r0 := hf
    unfold gbX0_blur_26 at hf
    refine wr_iload 26 C dX0_blur_26 4 rfl ?_
    refine wr_bipush 28 C dX0_blur_28 (v := 9) rfl ?_
    refine wr_icmp_gt 30 76 C dX0_blur_30 (by decide) (fun c7 => ?_) (fun c7 => ?_)
    · replace hf := o_pos c7 hf
      refine wr_sub [(0, .ref (q 0)), (1, .int x1_), (2, .int x2_), (3, .int x3_)] [0, 1, 2, 3] rfl ?_
      exact hK x3_ μ hf
    · replace hf := o_neg c7 hf
      refine wr_iload_n 33 C dX0_blur_33 3 rfl rfl ?_
      refine wr_iconst 34 C dX0_blur_34 (v := (-1)) rfl ?_
      refine wr_icmp_ne 35 76 C dX0_blur_35 (by decide) (fun c8 => ?_) (fun c8 => ?_)
      · replace hf := o_neg c8 hf
        refine wr_sub [(0, .ref (q 0)), (1, .int x1_), (2, .int x2_), (3, .int x3_)] [0, 1, 2, 3] rfl ?_
        exact hK x3_ μ hf
      · replace hf := o_pos c8 hf
        refine wr_aload_n 38 C dX0_blur_38 0 rfl rfl ?_
        refine gespX_0_0_X0 39 C dX0_blur_39 ?_
        refine gespX_1_11_X0 42 C dX0_blur_42 ?_
        refine wr_iload_n 45 C dX0_blur_45 1 rfl rfl ?_
        refine wr_iload 46 C dX0_blur_46 4 rfl ?_
        obtain ⟨g9, hf⟩ := o_g hf
        obtain ⟨μ10, eμ10, hf⟩ := o_let hf
        refine wr_iast 48 C dX0_blur_48 spX_5 g9 eμ10 ?_
        refine wr_aload_n 49 C dX0_blur_49 0 rfl rfl ?_
        refine wr_aload_n 50 C dX0_blur_50 0 rfl rfl ?_
        refine gespX_0_13_X0 51 C dX0_blur_51 ?_
        obtain ⟨v13, μ12, h11, hf⟩ := o_bind hf
        refine wr_Vi (kc1 := 0) (ks1 := 0) 54 [] C dX0_blur_54 (tX0_costNow l N 19   μ10 (v13, μ12) h11) okX0_costNow q856 (b := 0) spX_0 rfl ⟨rfl, rfl, Nat.le_of_ble_eq_true rfl, Nat.le_of_ble_eq_true rfl, Nat.zero_le _, Nat.zero_le _⟩ (Nat.le_of_ble_eq_true rfl) rfl ?_
        refine wr_ldcw 57 C dX0_blur_57 q864 ?_
        obtain ⟨Jblur69, eJblur69, hf⟩ := o_let hf
        have hJblur69 : ∀ (v15 : Int32) (μ14 : wMem), Jblur69 v15 μ14 = some r0 → wJ p l e ({ frames := 7, cells := 0, slots := 0, locals := 155 } : Room) s m args below meth c 5 D vwCl (spX ++ E) q ca A (wQi ({ frames := 7, cells := 0, slots := 0, locals := 155 } : Room) D vwCl (spX ++ E) q ca below args s A r0) 0 0 μ14 69 [(0, .ref (q 0)), (1, .int x1_), (2, .int x2_), (4, .int x4_)] [.int v15] := by
          intro v15 μ14 hf
          rw [eJblur69] at hf
          refine wr_istore_n 69 [(3, .int v15), (0, .ref (q 0)), (1, .int x1_), (2, .int x2_), (4, .int x4_)] C dX0_blur_69 rfl rfl (Nat.le_of_ble_eq_true rfl) rfl ?_
          obtain ⟨x16, ex16, hf⟩ := o_let hf
          refine wr_iinc 70 [(4, .int x16), (3, .int v15), (0, .ref (q 0)), (1, .int x1_), (2, .int x2_)] C dX0_blur_70 4 rfl (ex16.trans rfl) (Nat.le_of_ble_eq_true rfl) rfl ?_
          refine wr_goto 73 C dX0_blur_73 (tgt := 26) (by decide) ?_
          refine wr_sub [(0, .ref (q 0)), (1, .int x1_), (2, .int x2_), (3, .int v15), (4, .int x16)] [2, 3, 4, 1, 0] rfl ?_
          exact ih v15 x16 μ14 hf
        refine wr_icmp_ge 60 68 C dX0_blur_60 (by decide) (fun c17 => ?_) (fun c17 => ?_)
        · replace hf := o_pos c17 hf
          refine wr_iconst 68 C dX0_blur_68 (v := (-1)) rfl ?_
          refine wr_sub [(0, .ref (q 0)), (1, .int x1_), (2, .int x2_), (4, .int x4_)] [0, 1, 2, 4] rfl ?_
          exact hJblur69 (-1) μ12 hf
        · replace hf := o_neg c17 hf
          refine wr_iload 63 C dX0_blur_63 4 rfl ?_
          refine wr_goto 65 C dX0_blur_65 (tgt := 69) (by decide) ?_
          refine wr_sub [(0, .ref (q 0)), (1, .int x1_), (2, .int x2_), (4, .int x4_)] [0, 1, 2, 4] rfl ?_
          exact hJblur69 x4_ μ12 hf
def fX0_blur (N : Nat)  (a1 : Int32) (μ : wMem) : Option (Int32 × wMem) :=
  wBind (fX0_isPost N  a1 μ) fun v3 μ2 => if v3 = 0 then some ((-2), μ2) else wG (ok_in a1 2) (wLet (μ2.1 5 (Int32.toNatClampNeg a1) : Int32) fun x6 => gX0_blur_26 N  a1 x6 (fun (x19 : Int32) (μ18 : wMem) => wG (ok_in a1 2) (wLet (wSI μ18 5 (Int32.toNatClampNeg a1) x6) fun μ21 => some (x19, μ21))) N (-1) 0 μ2)
set_option maxHeartbeats 4000000 in
set_option maxRecDepth 100000 in
theorem tX0_blur (l : Launch) {D : va_G} {E : List wCell} {q : Nat → Nat} {ca : wCA} (N : Nat)   (a1 : Int32) (μ : wMem) (r0 : (Int32 × wMem)) (hf : fX0_blur N  a1 μ = some r0) : wMi l yX0_blur cX0_blur 5 (some .int) ({ frames := 7, cells := 0, slots := 0, locals := 155 } : Room) D vwCl (spX ++ E) q ca [.ref (q 0), .int a1] μ r0 := by
  refine wMi_intro (by decide) (Nat.le_of_ble_eq_true rfl) ?_
  intro p e s m args below meth c A C
  unfold fX0_blur at hf
  refine wr_sub [(0, .ref (q 0)), (1, .int a1)] [0, 1] rfl ?_
  refine wr_aload_n 0 C dX0_blur_0 0 rfl rfl ?_
  refine wr_iload_n 1 C dX0_blur_1 1 rfl rfl ?_
  obtain ⟨v3, μ2, h1, hf⟩ := o_bind hf
  refine wr_Vi (kc1 := 0) (ks1 := 0) 2 [] C dX0_blur_2 (tX0_isPost l N   a1 μ (v3, μ2) h1) okX0_isPost q706 (b := 0) spX_0 rfl ⟨rfl, rfl, Nat.le_of_ble_eq_true rfl, Nat.le_of_ble_eq_true rfl, Nat.zero_le _, Nat.zero_le _⟩ (Nat.le_of_ble_eq_true rfl) rfl ?_
  refine wr_if_ne 5 11 C dX0_blur_5 (by decide) (fun c4 => ?_) (fun c4 => ?_)
  · replace hf := o_neg c4 hf
    refine wr_aload_n 11 C dX0_blur_11 0 rfl rfl ?_
    refine gespX_0_0_X0 12 C dX0_blur_12 ?_
    refine gespX_1_11_X0 15 C dX0_blur_15 ?_
    refine wr_iload_n 18 C dX0_blur_18 1 rfl rfl ?_
    obtain ⟨g5, hf⟩ := o_g hf
    refine wr_iald 19 C dX0_blur_19 spX_5 g5 ?_
    obtain ⟨x6, ex6, hf⟩ := o_let hf
    refine wr_istore_n 20 [(2, .int x6), (0, .ref (q 0)), (1, .int a1)] C dX0_blur_20 ex6 rfl (Nat.le_of_ble_eq_true rfl) rfl ?_
    refine wr_iconst 21 C dX0_blur_21 (v := (-1)) rfl ?_
    refine wr_istore_n 22 [(3, .int ((-1))), (2, .int x6), (0, .ref (q 0)), (1, .int a1)] C dX0_blur_22 rfl rfl (Nat.le_of_ble_eq_true rfl) rfl ?_
    refine wr_iconst 23 C dX0_blur_23 (v := 0) rfl ?_
    refine wr_istore 24 [(4, .int 0), (3, .int ((-1))), (2, .int x6), (0, .ref (q 0)), (1, .int a1)] C dX0_blur_24 rfl (Nat.le_of_ble_eq_true rfl) rfl ?_
    refine wr_sub [(0, .ref (q 0)), (1, .int a1), (2, .int x6), (3, .int ((-1))), (4, .int 0)] [3, 4, 2, 1, 0] rfl ?_
    refine tX0_blur_26 C N   a1 x6 _ r0 (fun x19 μ18 hf => ?_) N (-1) 0 μ2 hf
    · replace hf := hf
      refine wr_aload_n 76 C dX0_blur_76 0 rfl rfl ?_
      refine gespX_0_0_X0 77 C dX0_blur_77 ?_
      refine gespX_1_11_X0 80 C dX0_blur_80 ?_
      refine wr_iload_n 83 C dX0_blur_83 1 rfl rfl ?_
      refine wr_iload_n 84 C dX0_blur_84 2 rfl rfl ?_
      obtain ⟨g20, hf⟩ := o_g hf
      obtain ⟨μ21, eμ21, hf⟩ := o_let hf
      refine wr_iast 85 C dX0_blur_85 spX_5 g20 eμ21 ?_
      refine wr_iload_n 86 C dX0_blur_86 3 rfl rfl ?_
      exact wr_iret 87 C dX0_blur_87 ⟨Nat.zero_le _, Nat.zero_le _⟩ (Option.some.inj hf)
  · replace hf := o_pos c4 hf
    refine wr_bipush 8 C dX0_blur_8 (v := (-2)) rfl ?_
    exact wr_iret 10 C dX0_blur_10 ⟨Nat.zero_le _, Nat.zero_le _⟩ (Option.some.inj hf)
abbrev cX0_looks : ByteArray := prog_1_method_110_code
def yX0_looks : MethodName := ⟨RX0, "looks", "(I)I"⟩
def dkwX0_looks_3 : List UInt8 := [167, 255, 211, 42, 180, 0, 12, 180, 0, 188, 27, 28, 79, 29, 172]
abbrev dktX0_looks_3 : List UInt8 := dkwX0_looks_3 ++ []
def dkwX0_looks_2 : List UInt8 := [42, 180, 0, 33, 182, 1, 67, 19, 1, 35, 162, 0, 8, 21, 4, 167, 0, 4, 2, 62, 132, 4, 255]
abbrev dktX0_looks_2 : List UInt8 := dkwX0_looks_2 ++ dktX0_looks_3
def dkwX0_looks_1 : List UInt8 := [54, 4, 21, 4, 155, 0, 46, 29, 2, 160, 0, 41, 42, 180, 0, 12, 180, 0, 188, 27, 21, 4, 79, 42]
abbrev dktX0_looks_1 : List UInt8 := dkwX0_looks_1 ++ dktX0_looks_2
def dkwX0_looks_0 : List UInt8 := [42, 27, 182, 0, 146, 154, 0, 6, 16, 254, 172, 42, 180, 0, 12, 180, 0, 188, 27, 46, 61, 2, 62, 6]
abbrev dktX0_looks_0 : List UInt8 := dkwX0_looks_0 ++ dktX0_looks_1
theorem dksX0_looks_0 : cX0_looks.data.toList.drop 0 = dktX0_looks_0 := by decide +kernel
theorem dksX0_looks_1 : cX0_looks.data.toList.drop 24 = dktX0_looks_1 := dk_seg dksX0_looks_0 24 rfl rfl
theorem dksX0_looks_2 : cX0_looks.data.toList.drop 48 = dktX0_looks_2 := dk_seg dksX0_looks_1 24 rfl rfl
theorem dksX0_looks_3 : cX0_looks.data.toList.drop 71 = dktX0_looks_3 := dk_seg dksX0_looks_2 23 rfl rfl
theorem dX0_looks_0 : decode cX0_looks 0 = .ok (.aload_n 0, 1) := dk_42 (dk_at dksX0_looks_0 0 rfl rfl)
theorem dX0_looks_1 : decode cX0_looks 1 = .ok (.iload_n 1, 1) := dk_27 (dk_at dksX0_looks_0 1 rfl rfl)
theorem dX0_looks_2 : decode cX0_looks 2 = .ok (.invokevirtual 146, 3) := dk_182 0 146 (dk_at dksX0_looks_0 2 rfl rfl)
theorem dX0_looks_5 : decode cX0_looks 5 = .ok (.ifCond .ne 6, 3) := dk_154 0 6 (dk_at dksX0_looks_0 5 rfl rfl)
theorem dX0_looks_8 : decode cX0_looks 8 = .ok (.bipush (-2), 2) := dk_16 254 (dk_at dksX0_looks_0 8 rfl rfl)
theorem dX0_looks_10 : decode cX0_looks 10 = .ok (.ireturn, 1) := dk_172 (dk_at dksX0_looks_0 10 rfl rfl)
theorem dX0_looks_11 : decode cX0_looks 11 = .ok (.aload_n 0, 1) := dk_42 (dk_at dksX0_looks_0 11 rfl rfl)
theorem dX0_looks_12 : decode cX0_looks 12 = .ok (.getfield 12, 3) := dk_180 0 12 (dk_at dksX0_looks_0 12 rfl rfl)
theorem dX0_looks_15 : decode cX0_looks 15 = .ok (.getfield 188, 3) := dk_180 0 188 (dk_at dksX0_looks_0 15 rfl rfl)
theorem dX0_looks_18 : decode cX0_looks 18 = .ok (.iload_n 1, 1) := dk_27 (dk_at dksX0_looks_0 18 rfl rfl)
theorem dX0_looks_19 : decode cX0_looks 19 = .ok (.iaload, 1) := dk_46 (dk_at dksX0_looks_0 19 rfl rfl)
theorem dX0_looks_20 : decode cX0_looks 20 = .ok (.istore_n 2, 1) := dk_61 (dk_at dksX0_looks_0 20 rfl rfl)
theorem dX0_looks_21 : decode cX0_looks 21 = .ok (.iconst (-1), 1) := dk_2 (dk_at dksX0_looks_0 21 rfl rfl)
theorem dX0_looks_22 : decode cX0_looks 22 = .ok (.istore_n 3, 1) := dk_62 (dk_at dksX0_looks_0 22 rfl rfl)
theorem dX0_looks_23 : decode cX0_looks 23 = .ok (.iconst 3, 1) := dk_6 (dk_at dksX0_looks_0 23 rfl rfl)
theorem dX0_looks_24 : decode cX0_looks 24 = .ok (.istore 4, 2) := dk_54 4 (dk_at dksX0_looks_1 0 rfl rfl)
theorem dX0_looks_26 : decode cX0_looks 26 = .ok (.iload 4, 2) := dk_21 4 (dk_at dksX0_looks_1 2 rfl rfl)
theorem dX0_looks_28 : decode cX0_looks 28 = .ok (.ifCond .lt 46, 3) := dk_155 0 46 (dk_at dksX0_looks_1 4 rfl rfl)
theorem dX0_looks_31 : decode cX0_looks 31 = .ok (.iload_n 3, 1) := dk_29 (dk_at dksX0_looks_1 7 rfl rfl)
theorem dX0_looks_32 : decode cX0_looks 32 = .ok (.iconst (-1), 1) := dk_2 (dk_at dksX0_looks_1 8 rfl rfl)
theorem dX0_looks_33 : decode cX0_looks 33 = .ok (.if_icmp .ne 41, 3) := dk_160 0 41 (dk_at dksX0_looks_1 9 rfl rfl)
theorem dX0_looks_36 : decode cX0_looks 36 = .ok (.aload_n 0, 1) := dk_42 (dk_at dksX0_looks_1 12 rfl rfl)
theorem dX0_looks_37 : decode cX0_looks 37 = .ok (.getfield 12, 3) := dk_180 0 12 (dk_at dksX0_looks_1 13 rfl rfl)
theorem dX0_looks_40 : decode cX0_looks 40 = .ok (.getfield 188, 3) := dk_180 0 188 (dk_at dksX0_looks_1 16 rfl rfl)
theorem dX0_looks_43 : decode cX0_looks 43 = .ok (.iload_n 1, 1) := dk_27 (dk_at dksX0_looks_1 19 rfl rfl)
theorem dX0_looks_44 : decode cX0_looks 44 = .ok (.iload 4, 2) := dk_21 4 (dk_at dksX0_looks_1 20 rfl rfl)
theorem dX0_looks_46 : decode cX0_looks 46 = .ok (.iastore, 1) := dk_79 (dk_at dksX0_looks_1 22 rfl rfl)
theorem dX0_looks_47 : decode cX0_looks 47 = .ok (.aload_n 0, 1) := dk_42 (dk_at dksX0_looks_1 23 rfl rfl)
theorem dX0_looks_48 : decode cX0_looks 48 = .ok (.aload_n 0, 1) := dk_42 (dk_at dksX0_looks_2 0 rfl rfl)
theorem dX0_looks_49 : decode cX0_looks 49 = .ok (.getfield 33, 3) := dk_180 0 33 (dk_at dksX0_looks_2 1 rfl rfl)
theorem dX0_looks_52 : decode cX0_looks 52 = .ok (.invokevirtual 323, 3) := dk_182 1 67 (dk_at dksX0_looks_2 4 rfl rfl)
theorem dX0_looks_55 : decode cX0_looks 55 = .ok (.ldc_w 291, 3) := dk_19 1 35 (dk_at dksX0_looks_2 7 rfl rfl)
theorem dX0_looks_58 : decode cX0_looks 58 = .ok (.if_icmp .ge 8, 3) := dk_162 0 8 (dk_at dksX0_looks_2 10 rfl rfl)
theorem dX0_looks_61 : decode cX0_looks 61 = .ok (.iload 4, 2) := dk_21 4 (dk_at dksX0_looks_2 13 rfl rfl)
theorem dX0_looks_63 : decode cX0_looks 63 = .ok (.goto 4, 3) := dk_167 0 4 (dk_at dksX0_looks_2 15 rfl rfl)
theorem dX0_looks_66 : decode cX0_looks 66 = .ok (.iconst (-1), 1) := dk_2 (dk_at dksX0_looks_2 18 rfl rfl)
theorem dX0_looks_67 : decode cX0_looks 67 = .ok (.istore_n 3, 1) := dk_62 (dk_at dksX0_looks_2 19 rfl rfl)
theorem dX0_looks_68 : decode cX0_looks 68 = .ok (.iinc 4 (-1), 3) := dk_132 4 255 (dk_at dksX0_looks_2 20 rfl rfl)
theorem dX0_looks_71 : decode cX0_looks 71 = .ok (.goto (-45), 3) := dk_167 255 211 (dk_at dksX0_looks_3 0 rfl rfl)
theorem dX0_looks_74 : decode cX0_looks 74 = .ok (.aload_n 0, 1) := dk_42 (dk_at dksX0_looks_3 3 rfl rfl)
theorem dX0_looks_75 : decode cX0_looks 75 = .ok (.getfield 12, 3) := dk_180 0 12 (dk_at dksX0_looks_3 4 rfl rfl)
theorem dX0_looks_78 : decode cX0_looks 78 = .ok (.getfield 188, 3) := dk_180 0 188 (dk_at dksX0_looks_3 7 rfl rfl)
theorem dX0_looks_81 : decode cX0_looks 81 = .ok (.iload_n 1, 1) := dk_27 (dk_at dksX0_looks_3 10 rfl rfl)
theorem dX0_looks_82 : decode cX0_looks 82 = .ok (.iload_n 2, 1) := dk_28 (dk_at dksX0_looks_3 11 rfl rfl)
theorem dX0_looks_83 : decode cX0_looks 83 = .ok (.iastore, 1) := dk_79 (dk_at dksX0_looks_3 12 rfl rfl)
theorem dX0_looks_84 : decode cX0_looks 84 = .ok (.iload_n 3, 1) := dk_29 (dk_at dksX0_looks_3 13 rfl rfl)
theorem dX0_looks_85 : decode cX0_looks 85 = .ok (.ireturn, 1) := dk_172 (dk_at dksX0_looks_3 14 rfl rfl)

theorem okX0_looks : wOkV yX0_looks cX0_looks 5 (some .int) 1 := ⟨q1168, q1169, q136, q1170, by decide, by decide, by decide +kernel⟩
def gbX0_looks_26 (N : Nat)  (x1_ : Int32) (x2_ : Int32) (K : (Int32 → wMem → Option (Int32 × wMem))) (rec : (Int32 → Int32 → wMem → Option (Int32 × wMem))) (x3_ : Int32) (x4_ : Int32) (μ : wMem) : Option (Int32 × wMem) :=
  if x4_ < 0 then K x3_ μ else if x3_ = (-1 : Int32) then wG (ok_in x1_ 2) (wLet (wSI μ 6 (Int32.toNatClampNeg x1_) x4_) fun μ10 => wBind (fX0_costNow N 19  μ10) fun v13 μ12 => wLet (fun (v15 : Int32) (μ14 : wMem) => wLet (x4_ + (-1) : Int32) fun x16 => rec v15 x16 μ14) fun Jlooks67 => if (1000000000 : Int32) ≤ v13 then Jlooks67 (-1) μ12 else Jlooks67 x4_ μ12) else K x3_ μ
def gX0_looks_26 (N : Nat)  (x1_ : Int32) (x2_ : Int32) (K : (Int32 → wMem → Option (Int32 × wMem))) : Nat → (Int32 → Int32 → wMem → Option (Int32 × wMem))
  | 0 => fun _ _ _ => none
  | k + 1 => gbX0_looks_26 N  x1_ x2_ K (gX0_looks_26 N  x1_ x2_ K k)
set_option maxHeartbeats 4000000 in
set_option maxRecDepth 100000 in
theorem tX0_looks_26 {p : Program} {l : Launch} {e : Env} {s : State} {m : MethodId} {args : Array Value} {below : List Frame} {meth : Method} {c : Code} {D : va_G} {E : List wCell} {q : Nat → Nat} {ca : wCA} {A : Nat → Prop} (C : wC p ({ frames := 7, cells := 0, slots := 0, locals := 155 } : Room) s m args meth c cX0_looks yX0_looks.cls 5 (some .int) D vwCl (spX ++ E) q ca A) (N : Nat)   (x1_ : Int32) (x2_ : Int32) (K : (Int32 → wMem → Option (Int32 × wMem))) (r0 : (Int32 × wMem)) (hK : ∀ (y3_ : Int32) (μ : wMem), K y3_ μ = some r0 → wJ p l e ({ frames := 7, cells := 0, slots := 0, locals := 155 } : Room) s m args below meth c 5 D vwCl (spX ++ E) q ca A (wQi ({ frames := 7, cells := 0, slots := 0, locals := 155 } : Room) D vwCl (spX ++ E) q ca below args s A r0) 0 0 μ 74 [(0, .ref (q 0)), (1, .int x1_), (2, .int x2_), (3, .int y3_)] []) : ∀ (k : Nat) (x3_ : Int32) (x4_ : Int32) (μ : wMem), gX0_looks_26 N  x1_ x2_ K k x3_ x4_ μ = some r0 → wJ p l e ({ frames := 7, cells := 0, slots := 0, locals := 155 } : Room) s m args below meth c 5 D vwCl (spX ++ E) q ca A (wQi ({ frames := 7, cells := 0, slots := 0, locals := 155 } : Room) D vwCl (spX ++ E) q ca below args s A r0) 0 0 μ 26 [(0, .ref (q 0)), (1, .int x1_), (2, .int x2_), (3, .int x3_), (4, .int x4_)] [] := by
  intro k
  induction k with
  | zero =>
    intro x3_ x4_ μ hf
    cases hf
  | succ k ih =>
    intro x3_ x4_ μ hf
    replace hf : gbX0_looks_26 N  x1_ x2_ K (gX0_looks_26 N  x1_ x2_ K k) x3_ x4_ μ = some r0 := hf
    unfold gbX0_looks_26 at hf
    refine wr_iload 26 C dX0_looks_26 4 rfl ?_
    refine wr_if_lt 28 74 C dX0_looks_28 (by decide) (fun c7 => ?_) (fun c7 => ?_)
    · replace hf := o_pos c7 hf
      refine wr_sub [(0, .ref (q 0)), (1, .int x1_), (2, .int x2_), (3, .int x3_)] [0, 1, 2, 3] rfl ?_
      exact hK x3_ μ hf
    · replace hf := o_neg c7 hf
      refine wr_iload_n 31 C dX0_looks_31 3 rfl rfl ?_
      refine wr_iconst 32 C dX0_looks_32 (v := (-1)) rfl ?_
      refine wr_icmp_ne 33 74 C dX0_looks_33 (by decide) (fun c8 => ?_) (fun c8 => ?_)
      · replace hf := o_neg c8 hf
        refine wr_sub [(0, .ref (q 0)), (1, .int x1_), (2, .int x2_), (3, .int x3_)] [0, 1, 2, 3] rfl ?_
        exact hK x3_ μ hf
      · replace hf := o_pos c8 hf
        refine wr_aload_n 36 C dX0_looks_36 0 rfl rfl ?_
        refine gespX_0_0_X0 37 C dX0_looks_37 ?_
        refine gespX_1_12_X0 40 C dX0_looks_40 ?_
        refine wr_iload_n 43 C dX0_looks_43 1 rfl rfl ?_
        refine wr_iload 44 C dX0_looks_44 4 rfl ?_
        obtain ⟨g9, hf⟩ := o_g hf
        obtain ⟨μ10, eμ10, hf⟩ := o_let hf
        refine wr_iast 46 C dX0_looks_46 spX_6 g9 eμ10 ?_
        refine wr_aload_n 47 C dX0_looks_47 0 rfl rfl ?_
        refine wr_aload_n 48 C dX0_looks_48 0 rfl rfl ?_
        refine gespX_0_13_X0 49 C dX0_looks_49 ?_
        obtain ⟨v13, μ12, h11, hf⟩ := o_bind hf
        refine wr_Vi (kc1 := 0) (ks1 := 0) 52 [] C dX0_looks_52 (tX0_costNow l N 19   μ10 (v13, μ12) h11) okX0_costNow q856 (b := 0) spX_0 rfl ⟨rfl, rfl, Nat.le_of_ble_eq_true rfl, Nat.le_of_ble_eq_true rfl, Nat.zero_le _, Nat.zero_le _⟩ (Nat.le_of_ble_eq_true rfl) rfl ?_
        refine wr_ldcw 55 C dX0_looks_55 q864 ?_
        obtain ⟨Jlooks67, eJlooks67, hf⟩ := o_let hf
        have hJlooks67 : ∀ (v15 : Int32) (μ14 : wMem), Jlooks67 v15 μ14 = some r0 → wJ p l e ({ frames := 7, cells := 0, slots := 0, locals := 155 } : Room) s m args below meth c 5 D vwCl (spX ++ E) q ca A (wQi ({ frames := 7, cells := 0, slots := 0, locals := 155 } : Room) D vwCl (spX ++ E) q ca below args s A r0) 0 0 μ14 67 [(0, .ref (q 0)), (1, .int x1_), (2, .int x2_), (4, .int x4_)] [.int v15] := by
          intro v15 μ14 hf
          rw [eJlooks67] at hf
          refine wr_istore_n 67 [(3, .int v15), (0, .ref (q 0)), (1, .int x1_), (2, .int x2_), (4, .int x4_)] C dX0_looks_67 rfl rfl (Nat.le_of_ble_eq_true rfl) rfl ?_
          obtain ⟨x16, ex16, hf⟩ := o_let hf
          refine wr_iinc 68 [(4, .int x16), (3, .int v15), (0, .ref (q 0)), (1, .int x1_), (2, .int x2_)] C dX0_looks_68 4 rfl (ex16.trans rfl) (Nat.le_of_ble_eq_true rfl) rfl ?_
          refine wr_goto 71 C dX0_looks_71 (tgt := 26) (by decide) ?_
          refine wr_sub [(0, .ref (q 0)), (1, .int x1_), (2, .int x2_), (3, .int v15), (4, .int x16)] [2, 3, 4, 1, 0] rfl ?_
          exact ih v15 x16 μ14 hf
        refine wr_icmp_ge 58 66 C dX0_looks_58 (by decide) (fun c17 => ?_) (fun c17 => ?_)
        · replace hf := o_pos c17 hf
          refine wr_iconst 66 C dX0_looks_66 (v := (-1)) rfl ?_
          refine wr_sub [(0, .ref (q 0)), (1, .int x1_), (2, .int x2_), (4, .int x4_)] [0, 1, 2, 4] rfl ?_
          exact hJlooks67 (-1) μ12 hf
        · replace hf := o_neg c17 hf
          refine wr_iload 61 C dX0_looks_61 4 rfl ?_
          refine wr_goto 63 C dX0_looks_63 (tgt := 67) (by decide) ?_
          refine wr_sub [(0, .ref (q 0)), (1, .int x1_), (2, .int x2_), (4, .int x4_)] [0, 1, 2, 4] rfl ?_
          exact hJlooks67 x4_ μ12 hf
def fX0_looks (N : Nat)  (a1 : Int32) (μ : wMem) : Option (Int32 × wMem) :=
  wBind (fX0_isPost N  a1 μ) fun v3 μ2 => if v3 = 0 then some ((-2), μ2) else wG (ok_in a1 2) (wLet (μ2.1 6 (Int32.toNatClampNeg a1) : Int32) fun x6 => gX0_looks_26 N  a1 x6 (fun (x19 : Int32) (μ18 : wMem) => wG (ok_in a1 2) (wLet (wSI μ18 6 (Int32.toNatClampNeg a1) x6) fun μ21 => some (x19, μ21))) N (-1) 3 μ2)
set_option maxHeartbeats 4000000 in
set_option maxRecDepth 100000 in
theorem tX0_looks (l : Launch) {D : va_G} {E : List wCell} {q : Nat → Nat} {ca : wCA} (N : Nat)   (a1 : Int32) (μ : wMem) (r0 : (Int32 × wMem)) (hf : fX0_looks N  a1 μ = some r0) : wMi l yX0_looks cX0_looks 5 (some .int) ({ frames := 7, cells := 0, slots := 0, locals := 155 } : Room) D vwCl (spX ++ E) q ca [.ref (q 0), .int a1] μ r0 := by
  refine wMi_intro (by decide) (Nat.le_of_ble_eq_true rfl) ?_
  intro p e s m args below meth c A C
  unfold fX0_looks at hf
  refine wr_sub [(0, .ref (q 0)), (1, .int a1)] [0, 1] rfl ?_
  refine wr_aload_n 0 C dX0_looks_0 0 rfl rfl ?_
  refine wr_iload_n 1 C dX0_looks_1 1 rfl rfl ?_
  obtain ⟨v3, μ2, h1, hf⟩ := o_bind hf
  refine wr_Vi (kc1 := 0) (ks1 := 0) 2 [] C dX0_looks_2 (tX0_isPost l N   a1 μ (v3, μ2) h1) okX0_isPost q706 (b := 0) spX_0 rfl ⟨rfl, rfl, Nat.le_of_ble_eq_true rfl, Nat.le_of_ble_eq_true rfl, Nat.zero_le _, Nat.zero_le _⟩ (Nat.le_of_ble_eq_true rfl) rfl ?_
  refine wr_if_ne 5 11 C dX0_looks_5 (by decide) (fun c4 => ?_) (fun c4 => ?_)
  · replace hf := o_neg c4 hf
    refine wr_aload_n 11 C dX0_looks_11 0 rfl rfl ?_
    refine gespX_0_0_X0 12 C dX0_looks_12 ?_
    refine gespX_1_12_X0 15 C dX0_looks_15 ?_
    refine wr_iload_n 18 C dX0_looks_18 1 rfl rfl ?_
    obtain ⟨g5, hf⟩ := o_g hf
    refine wr_iald 19 C dX0_looks_19 spX_6 g5 ?_
    obtain ⟨x6, ex6, hf⟩ := o_let hf
    refine wr_istore_n 20 [(2, .int x6), (0, .ref (q 0)), (1, .int a1)] C dX0_looks_20 ex6 rfl (Nat.le_of_ble_eq_true rfl) rfl ?_
    refine wr_iconst 21 C dX0_looks_21 (v := (-1)) rfl ?_
    refine wr_istore_n 22 [(3, .int ((-1))), (2, .int x6), (0, .ref (q 0)), (1, .int a1)] C dX0_looks_22 rfl rfl (Nat.le_of_ble_eq_true rfl) rfl ?_
    refine wr_iconst 23 C dX0_looks_23 (v := 3) rfl ?_
    refine wr_istore 24 [(4, .int 3), (3, .int ((-1))), (2, .int x6), (0, .ref (q 0)), (1, .int a1)] C dX0_looks_24 rfl (Nat.le_of_ble_eq_true rfl) rfl ?_
    refine wr_sub [(0, .ref (q 0)), (1, .int a1), (2, .int x6), (3, .int ((-1))), (4, .int 3)] [3, 4, 2, 1, 0] rfl ?_
    refine tX0_looks_26 C N   a1 x6 _ r0 (fun x19 μ18 hf => ?_) N (-1) 3 μ2 hf
    · replace hf := hf
      refine wr_aload_n 74 C dX0_looks_74 0 rfl rfl ?_
      refine gespX_0_0_X0 75 C dX0_looks_75 ?_
      refine gespX_1_12_X0 78 C dX0_looks_78 ?_
      refine wr_iload_n 81 C dX0_looks_81 1 rfl rfl ?_
      refine wr_iload_n 82 C dX0_looks_82 2 rfl rfl ?_
      obtain ⟨g20, hf⟩ := o_g hf
      obtain ⟨μ21, eμ21, hf⟩ := o_let hf
      refine wr_iast 83 C dX0_looks_83 spX_6 g20 eμ21 ?_
      refine wr_iload_n 84 C dX0_looks_84 3 rfl rfl ?_
      exact wr_iret 85 C dX0_looks_85 ⟨Nat.zero_le _, Nat.zero_le _⟩ (Option.some.inj hf)
  · replace hf := o_pos c4 hf
    refine wr_bipush 8 C dX0_looks_8 (v := (-2)) rfl ?_
    exact wr_iret 10 C dX0_looks_10 ⟨Nat.zero_le _, Nat.zero_le _⟩ (Option.some.inj hf)
abbrev cX0_isSeed : ByteArray := prog_1_method_14_code
def yX0_isSeed : MethodName := ⟨RX0, "isSeed", "(I)Z"⟩
def dkwX0_isSeed_0 : List UInt8 := [26, 133, 9, 20, 0, 138, 184, 0, 103, 172]
abbrev dktX0_isSeed_0 : List UInt8 := dkwX0_isSeed_0 ++ []
theorem dksX0_isSeed_0 : cX0_isSeed.data.toList.drop 0 = dktX0_isSeed_0 := by decide +kernel
theorem dX0_isSeed_0 : decode cX0_isSeed 0 = .ok (.iload_n 0, 1) := dk_26 (dk_at dksX0_isSeed_0 0 rfl rfl)
theorem dX0_isSeed_1 : decode cX0_isSeed 1 = .ok (.i2l, 1) := dk_133 (dk_at dksX0_isSeed_0 1 rfl rfl)
theorem dX0_isSeed_2 : decode cX0_isSeed 2 = .ok (.lconst 0, 1) := dk_9 (dk_at dksX0_isSeed_0 2 rfl rfl)
theorem dX0_isSeed_3 : decode cX0_isSeed 3 = .ok (.ldc2_w 138, 3) := dk_20 0 138 (dk_at dksX0_isSeed_0 3 rfl rfl)
theorem dX0_isSeed_6 : decode cX0_isSeed 6 = .ok (.invokestatic 103, 3) := dk_184 0 103 (dk_at dksX0_isSeed_0 6 rfl rfl)
theorem dX0_isSeed_9 : decode cX0_isSeed 9 = .ok (.ireturn, 1) := dk_172 (dk_at dksX0_isSeed_0 9 rfl rfl)

theorem okX0_isSeed : wOkS yX0_isSeed cX0_isSeed 1 (some .boolean) 1 := ⟨q1176, q136, q1177, by decide, by decide, by decide +kernel⟩
def fX0_isSeed (N : Nat)  (a0 : Int32) (μ : wMem) : Option (Int32 × wMem) :=
  wBind (fX0_isIn N  (Int32.toInt64 a0) 0 2000000000 μ) fun v3 μ2 => wG (ok_b v3) (some (v3, μ2))
set_option maxHeartbeats 4000000 in
set_option maxRecDepth 100000 in
theorem tX0_isSeed (l : Launch) {D : va_G} {E : List wCell} {q : Nat → Nat} {ca : wCA} (N : Nat)   (a0 : Int32) (μ : wMem) (r0 : (Int32 × wMem)) (hf : fX0_isSeed N  a0 μ = some r0) : wMi l yX0_isSeed cX0_isSeed 1 (some .boolean) ({ frames := 1, cells := 0, slots := 0, locals := 25 } : Room) D vwCl (spX ++ E) q ca [.int a0] μ r0 := by
  refine wMi_intro (by decide) (Nat.le_of_ble_eq_true rfl) ?_
  intro p e s m args below meth c A C
  unfold fX0_isSeed at hf
  refine wr_sub [(0, .int a0)] [0] rfl ?_
  refine wr_iload_n 0 C dX0_isSeed_0 0 rfl rfl ?_
  refine wr_i2l 1 C dX0_isSeed_1 ?_
  refine wr_lconst 2 C dX0_isSeed_2 (v := 0) rfl ?_
  refine wr_ldc2 3 C dX0_isSeed_3 q1178 ?_
  obtain ⟨v3, μ2, h1, hf⟩ := o_bind hf
  refine wr_Si (kc1 := 0) (ks1 := 0) 6 [] C dX0_isSeed_6 (tX0_isIn l N   (Int32.toInt64 a0) 0 2000000000 μ (v3, μ2) h1) okX0_isIn q446 ⟨rfl, rfl, Nat.le_of_ble_eq_true rfl, Nat.le_of_ble_eq_true rfl, Nat.zero_le _, Nat.zero_le _⟩ (Nat.le_of_ble_eq_true rfl) rfl ?_
  obtain ⟨g4, hf⟩ := o_g hf
  exact wr_zret 9 C dX0_isSeed_9 g4 ⟨Nat.zero_le _, Nat.zero_le _⟩ (Option.some.inj hf)
abbrev cX0_goesTrip : ByteArray := prog_1_method_111_code
def yX0_goesTrip : MethodName := ⟨RX0, "goesTrip", "(J)V"⟩
def dkwX0_goesTrip_4 : List UInt8 := [132, 5, 1, 42, 42, 180, 0, 40, 182, 1, 80, 54, 6, 167, 255, 174, 177]
abbrev dktX0_goesTrip_4 : List UInt8 := dkwX0_goesTrip_4 ++ []
def dkwX0_goesTrip_3 : List UInt8 := [184, 0, 198, 182, 0, 149, 133, 148, 156, 0, 10, 42, 21, 5, 181, 1, 183, 177, 42, 21, 6, 182, 0, 243]
abbrev dktX0_goesTrip_3 : List UInt8 := dkwX0_goesTrip_3 ++ dktX0_goesTrip_4
def dkwX0_goesTrip_2 : List UInt8 := [20, 1, 190, 113, 66, 33, 20, 1, 192, 109, 20, 1, 97, 113, 42, 21, 6, 184, 0, 204, 21, 6]
abbrev dktX0_goesTrip_2 : List UInt8 := dkwX0_goesTrip_2 ++ dktX0_goesTrip_3
def dkwX0_goesTrip_1 : List UInt8 := [21, 6, 2, 159, 0, 82, 21, 6, 17, 0, 200, 159, 0, 52, 20, 1, 186, 33, 105, 20, 1, 188, 97]
abbrev dktX0_goesTrip_1 : List UInt8 := dkwX0_goesTrip_1 ++ dktX0_goesTrip_2
def dkwX0_goesTrip_0 : List UInt8 := [31, 66, 42, 2, 181, 1, 183, 42, 182, 0, 249, 3, 54, 5, 42, 42, 180, 0, 40, 182, 1, 80, 54, 6]
abbrev dktX0_goesTrip_0 : List UInt8 := dkwX0_goesTrip_0 ++ dktX0_goesTrip_1
theorem dksX0_goesTrip_0 : cX0_goesTrip.data.toList.drop 0 = dktX0_goesTrip_0 := by decide +kernel
theorem dksX0_goesTrip_1 : cX0_goesTrip.data.toList.drop 24 = dktX0_goesTrip_1 := dk_seg dksX0_goesTrip_0 24 rfl rfl
theorem dksX0_goesTrip_2 : cX0_goesTrip.data.toList.drop 47 = dktX0_goesTrip_2 := dk_seg dksX0_goesTrip_1 23 rfl rfl
theorem dksX0_goesTrip_3 : cX0_goesTrip.data.toList.drop 69 = dktX0_goesTrip_3 := dk_seg dksX0_goesTrip_2 22 rfl rfl
theorem dksX0_goesTrip_4 : cX0_goesTrip.data.toList.drop 93 = dktX0_goesTrip_4 := dk_seg dksX0_goesTrip_3 24 rfl rfl
theorem dX0_goesTrip_0 : decode cX0_goesTrip 0 = .ok (.lload_n 1, 1) := dk_31 (dk_at dksX0_goesTrip_0 0 rfl rfl)
theorem dX0_goesTrip_1 : decode cX0_goesTrip 1 = .ok (.lstore_n 3, 1) := dk_66 (dk_at dksX0_goesTrip_0 1 rfl rfl)
theorem dX0_goesTrip_2 : decode cX0_goesTrip 2 = .ok (.aload_n 0, 1) := dk_42 (dk_at dksX0_goesTrip_0 2 rfl rfl)
theorem dX0_goesTrip_3 : decode cX0_goesTrip 3 = .ok (.iconst (-1), 1) := dk_2 (dk_at dksX0_goesTrip_0 3 rfl rfl)
theorem dX0_goesTrip_4 : decode cX0_goesTrip 4 = .ok (.putfield 439, 3) := dk_181 1 183 (dk_at dksX0_goesTrip_0 4 rfl rfl)
theorem dX0_goesTrip_7 : decode cX0_goesTrip 7 = .ok (.aload_n 0, 1) := dk_42 (dk_at dksX0_goesTrip_0 7 rfl rfl)
theorem dX0_goesTrip_8 : decode cX0_goesTrip 8 = .ok (.invokevirtual 249, 3) := dk_182 0 249 (dk_at dksX0_goesTrip_0 8 rfl rfl)
theorem dX0_goesTrip_11 : decode cX0_goesTrip 11 = .ok (.iconst 0, 1) := dk_3 (dk_at dksX0_goesTrip_0 11 rfl rfl)
theorem dX0_goesTrip_12 : decode cX0_goesTrip 12 = .ok (.istore 5, 2) := dk_54 5 (dk_at dksX0_goesTrip_0 12 rfl rfl)
theorem dX0_goesTrip_14 : decode cX0_goesTrip 14 = .ok (.aload_n 0, 1) := dk_42 (dk_at dksX0_goesTrip_0 14 rfl rfl)
theorem dX0_goesTrip_15 : decode cX0_goesTrip 15 = .ok (.aload_n 0, 1) := dk_42 (dk_at dksX0_goesTrip_0 15 rfl rfl)
theorem dX0_goesTrip_16 : decode cX0_goesTrip 16 = .ok (.getfield 40, 3) := dk_180 0 40 (dk_at dksX0_goesTrip_0 16 rfl rfl)
theorem dX0_goesTrip_19 : decode cX0_goesTrip 19 = .ok (.invokevirtual 336, 3) := dk_182 1 80 (dk_at dksX0_goesTrip_0 19 rfl rfl)
theorem dX0_goesTrip_22 : decode cX0_goesTrip 22 = .ok (.istore 6, 2) := dk_54 6 (dk_at dksX0_goesTrip_0 22 rfl rfl)
theorem dX0_goesTrip_24 : decode cX0_goesTrip 24 = .ok (.iload 6, 2) := dk_21 6 (dk_at dksX0_goesTrip_1 0 rfl rfl)
theorem dX0_goesTrip_26 : decode cX0_goesTrip 26 = .ok (.iconst (-1), 1) := dk_2 (dk_at dksX0_goesTrip_1 2 rfl rfl)
theorem dX0_goesTrip_27 : decode cX0_goesTrip 27 = .ok (.if_icmp .eq 82, 3) := dk_159 0 82 (dk_at dksX0_goesTrip_1 3 rfl rfl)
theorem dX0_goesTrip_30 : decode cX0_goesTrip 30 = .ok (.iload 6, 2) := dk_21 6 (dk_at dksX0_goesTrip_1 6 rfl rfl)
theorem dX0_goesTrip_32 : decode cX0_goesTrip 32 = .ok (.sipush 200, 3) := dk_17 0 200 (dk_at dksX0_goesTrip_1 8 rfl rfl)
theorem dX0_goesTrip_35 : decode cX0_goesTrip 35 = .ok (.if_icmp .eq 52, 3) := dk_159 0 52 (dk_at dksX0_goesTrip_1 11 rfl rfl)
theorem dX0_goesTrip_38 : decode cX0_goesTrip 38 = .ok (.ldc2_w 442, 3) := dk_20 1 186 (dk_at dksX0_goesTrip_1 14 rfl rfl)
theorem dX0_goesTrip_41 : decode cX0_goesTrip 41 = .ok (.lload_n 3, 1) := dk_33 (dk_at dksX0_goesTrip_1 17 rfl rfl)
theorem dX0_goesTrip_42 : decode cX0_goesTrip 42 = .ok (.lmul, 1) := dk_105 (dk_at dksX0_goesTrip_1 18 rfl rfl)
theorem dX0_goesTrip_43 : decode cX0_goesTrip 43 = .ok (.ldc2_w 444, 3) := dk_20 1 188 (dk_at dksX0_goesTrip_1 19 rfl rfl)
theorem dX0_goesTrip_46 : decode cX0_goesTrip 46 = .ok (.ladd, 1) := dk_97 (dk_at dksX0_goesTrip_1 22 rfl rfl)
theorem dX0_goesTrip_47 : decode cX0_goesTrip 47 = .ok (.ldc2_w 446, 3) := dk_20 1 190 (dk_at dksX0_goesTrip_2 0 rfl rfl)
theorem dX0_goesTrip_50 : decode cX0_goesTrip 50 = .ok (.lrem, 1) := dk_113 (dk_at dksX0_goesTrip_2 3 rfl rfl)
theorem dX0_goesTrip_51 : decode cX0_goesTrip 51 = .ok (.lstore_n 3, 1) := dk_66 (dk_at dksX0_goesTrip_2 4 rfl rfl)
theorem dX0_goesTrip_52 : decode cX0_goesTrip 52 = .ok (.lload_n 3, 1) := dk_33 (dk_at dksX0_goesTrip_2 5 rfl rfl)
theorem dX0_goesTrip_53 : decode cX0_goesTrip 53 = .ok (.ldc2_w 448, 3) := dk_20 1 192 (dk_at dksX0_goesTrip_2 6 rfl rfl)
theorem dX0_goesTrip_56 : decode cX0_goesTrip 56 = .ok (.ldiv, 1) := dk_109 (dk_at dksX0_goesTrip_2 9 rfl rfl)
theorem dX0_goesTrip_57 : decode cX0_goesTrip 57 = .ok (.ldc2_w 353, 3) := dk_20 1 97 (dk_at dksX0_goesTrip_2 10 rfl rfl)
theorem dX0_goesTrip_60 : decode cX0_goesTrip 60 = .ok (.lrem, 1) := dk_113 (dk_at dksX0_goesTrip_2 13 rfl rfl)
theorem dX0_goesTrip_61 : decode cX0_goesTrip 61 = .ok (.aload_n 0, 1) := dk_42 (dk_at dksX0_goesTrip_2 14 rfl rfl)
theorem dX0_goesTrip_62 : decode cX0_goesTrip 62 = .ok (.iload 6, 2) := dk_21 6 (dk_at dksX0_goesTrip_2 15 rfl rfl)
theorem dX0_goesTrip_64 : decode cX0_goesTrip 64 = .ok (.invokestatic 204, 3) := dk_184 0 204 (dk_at dksX0_goesTrip_2 17 rfl rfl)
theorem dX0_goesTrip_67 : decode cX0_goesTrip 67 = .ok (.iload 6, 2) := dk_21 6 (dk_at dksX0_goesTrip_2 20 rfl rfl)
theorem dX0_goesTrip_69 : decode cX0_goesTrip 69 = .ok (.invokestatic 198, 3) := dk_184 0 198 (dk_at dksX0_goesTrip_3 0 rfl rfl)
theorem dX0_goesTrip_72 : decode cX0_goesTrip 72 = .ok (.invokevirtual 149, 3) := dk_182 0 149 (dk_at dksX0_goesTrip_3 3 rfl rfl)
theorem dX0_goesTrip_75 : decode cX0_goesTrip 75 = .ok (.i2l, 1) := dk_133 (dk_at dksX0_goesTrip_3 6 rfl rfl)
theorem dX0_goesTrip_76 : decode cX0_goesTrip 76 = .ok (.lcmp, 1) := dk_148 (dk_at dksX0_goesTrip_3 7 rfl rfl)
theorem dX0_goesTrip_77 : decode cX0_goesTrip 77 = .ok (.ifCond .ge 10, 3) := dk_156 0 10 (dk_at dksX0_goesTrip_3 8 rfl rfl)
theorem dX0_goesTrip_80 : decode cX0_goesTrip 80 = .ok (.aload_n 0, 1) := dk_42 (dk_at dksX0_goesTrip_3 11 rfl rfl)
theorem dX0_goesTrip_81 : decode cX0_goesTrip 81 = .ok (.iload 5, 2) := dk_21 5 (dk_at dksX0_goesTrip_3 12 rfl rfl)
theorem dX0_goesTrip_83 : decode cX0_goesTrip 83 = .ok (.putfield 439, 3) := dk_181 1 183 (dk_at dksX0_goesTrip_3 14 rfl rfl)
theorem dX0_goesTrip_86 : decode cX0_goesTrip 86 = .ok (.return_, 1) := dk_177 (dk_at dksX0_goesTrip_3 17 rfl rfl)
theorem dX0_goesTrip_87 : decode cX0_goesTrip 87 = .ok (.aload_n 0, 1) := dk_42 (dk_at dksX0_goesTrip_3 18 rfl rfl)
theorem dX0_goesTrip_88 : decode cX0_goesTrip 88 = .ok (.iload 6, 2) := dk_21 6 (dk_at dksX0_goesTrip_3 19 rfl rfl)
theorem dX0_goesTrip_90 : decode cX0_goesTrip 90 = .ok (.invokevirtual 243, 3) := dk_182 0 243 (dk_at dksX0_goesTrip_3 21 rfl rfl)
theorem dX0_goesTrip_93 : decode cX0_goesTrip 93 = .ok (.iinc 5 1, 3) := dk_132 5 1 (dk_at dksX0_goesTrip_4 0 rfl rfl)
theorem dX0_goesTrip_96 : decode cX0_goesTrip 96 = .ok (.aload_n 0, 1) := dk_42 (dk_at dksX0_goesTrip_4 3 rfl rfl)
theorem dX0_goesTrip_97 : decode cX0_goesTrip 97 = .ok (.aload_n 0, 1) := dk_42 (dk_at dksX0_goesTrip_4 4 rfl rfl)
theorem dX0_goesTrip_98 : decode cX0_goesTrip 98 = .ok (.getfield 40, 3) := dk_180 0 40 (dk_at dksX0_goesTrip_4 5 rfl rfl)
theorem dX0_goesTrip_101 : decode cX0_goesTrip 101 = .ok (.invokevirtual 336, 3) := dk_182 1 80 (dk_at dksX0_goesTrip_4 8 rfl rfl)
theorem dX0_goesTrip_104 : decode cX0_goesTrip 104 = .ok (.istore 6, 2) := dk_54 6 (dk_at dksX0_goesTrip_4 11 rfl rfl)
theorem dX0_goesTrip_106 : decode cX0_goesTrip 106 = .ok (.goto (-82), 3) := dk_167 255 174 (dk_at dksX0_goesTrip_4 13 rfl rfl)
theorem dX0_goesTrip_109 : decode cX0_goesTrip 109 = .ok (.return_, 1) := dk_177 (dk_at dksX0_goesTrip_4 16 rfl rfl)
theorem puspX_0_31_X0 {p : Program} {l : Launch} {e : Env} {R : Room} {s : State} {m : MethodId} {args : Array Value} {below : List Frame} {meth : Method} {c : Code} {cc : ByteArray} {nL : Nat} {ret : Option FieldType} {D : va_G} {E : List wCell} {q : Nat → Nat} {ca : wCA} {A : Nat → Prop} {Q : State → Prop} {kc ks : Nat} {μ : wMem} {lv : List (Nat × Value)} {st : List Value} {v : Int32} {μ1 : wMem} (pc : Nat) (C : wC p R s m args meth c cc "OnePassport" nL ret D vwCl (spX ++ E) q ca A) (hd : decode cc pc = .ok (.putfield 439, 3)) (hμ : μ1 = wSI μ 0 31 v) (k : wJ p l e R s m args below meth c nL D vwCl (spX ++ E) q ca A Q kc ks μ1 (pc + 3) lv st) : wJ p l e R s m args below meth c nL D vwCl (spX ++ E) q ca A Q kc ks μ pc lv (.int v :: .ref (q 0) :: st) := wr_putI pc 31 C hd spX_0 rfl in_X0 tyX0 tyX0_ok nmX0 (by decide) rfl q362 rfl rfl hμ k
theorem okX0_goesTrip : wOkV yX0_goesTrip cX0_goesTrip 7 none 1 := ⟨q1181, qs64, q136, q1182, by decide, by decide, by decide +kernel⟩
def gbX0_goesTrip_24 (N : Nat)   (K : (wMem → Option wMem)) (rec : (Int64 → Int32 → Int32 → wMem → Option wMem)) (x3_ : Int64) (x5_ : Int32) (x6_ : Int32) (μ : wMem) : Option wMem :=
  if x6_ = (-1 : Int32) then K  μ else wLet (fun (x9 : Int64) (μ8 : wMem) => wBindV (fX0_does N  x6_ μ8) fun μ11 => wLet (x5_ + 1 : Int32) fun x12 => wBind (fX0_step N 20  μ11) fun v15 μ14 => rec x9 x12 v15 μ14) fun JgoesTrip87 => if x6_ = (200 : Int32) then JgoesTrip87 x3_ μ else wLet ((((1103515245 : Int64) * x3_) + (12345 : Int64)) - (((1103515245 : Int64) * x3_) + (12345 : Int64)) / (2147483648 : Int64) * (2147483648 : Int64) : Int64) fun x17 => wBind (fX0_personIn N  x6_ μ) fun v20 μ19 => wBind (fX0_postIn N  x6_ μ19) fun v23 μ22 => wBind (fX0_riskOf N  v20 v23 μ22) fun v26 μ25 => if (Int32.toInt64 v26) ≤ ((x17 / (65536 : Int64)) - (x17 / (65536 : Int64)) / (100 : Int64) * (100 : Int64)) then JgoesTrip87 x17 μ25 else wLet (wSI μ25 0 31 x5_) fun μ28 => some μ28
def gX0_goesTrip_24 (N : Nat)   (K : (wMem → Option wMem)) : Nat → (Int64 → Int32 → Int32 → wMem → Option wMem)
  | 0 => fun _ _ _ _ => none
  | k + 1 => gbX0_goesTrip_24 N   K (gX0_goesTrip_24 N   K k)
set_option maxHeartbeats 4000000 in
set_option maxRecDepth 100000 in
theorem tX0_goesTrip_24 {p : Program} {l : Launch} {e : Env} {s : State} {m : MethodId} {args : Array Value} {below : List Frame} {meth : Method} {c : Code} {D : va_G} {E : List wCell} {q : Nat → Nat} {ca : wCA} {A : Nat → Prop} (C : wC p ({ frames := 6, cells := 0, slots := 0, locals := 135 } : Room) s m args meth c cX0_goesTrip yX0_goesTrip.cls 7 none D vwCl (spX ++ E) q ca A) (N : Nat)    (K : (wMem → Option wMem)) (r0 : wMem) (hK : ∀  (μ : wMem), K  μ = some r0 → wJ p l e ({ frames := 6, cells := 0, slots := 0, locals := 135 } : Room) s m args below meth c 7 D vwCl (spX ++ E) q ca A (wQv ({ frames := 6, cells := 0, slots := 0, locals := 135 } : Room) D vwCl (spX ++ E) q ca below args s A r0) 0 0 μ 109 [] []) : ∀ (k : Nat) (x3_ : Int64) (x5_ : Int32) (x6_ : Int32) (μ : wMem), gX0_goesTrip_24 N   K k x3_ x5_ x6_ μ = some r0 → wJ p l e ({ frames := 6, cells := 0, slots := 0, locals := 135 } : Room) s m args below meth c 7 D vwCl (spX ++ E) q ca A (wQv ({ frames := 6, cells := 0, slots := 0, locals := 135 } : Room) D vwCl (spX ++ E) q ca below args s A r0) 0 0 μ 24 [(0, .ref (q 0)), (3, .long x3_), (5, .int x5_), (6, .int x6_)] [] := by
  intro k
  induction k with
  | zero =>
    intro x3_ x5_ x6_ μ hf
    cases hf
  | succ k ih =>
    intro x3_ x5_ x6_ μ hf
    replace hf : gbX0_goesTrip_24 N   K (gX0_goesTrip_24 N   K k) x3_ x5_ x6_ μ = some r0 := hf
    unfold gbX0_goesTrip_24 at hf
    refine wr_iload 24 C dX0_goesTrip_24 3 rfl ?_
    refine wr_iconst 26 C dX0_goesTrip_26 (v := (-1)) rfl ?_
    refine wr_icmp_eq 27 109 C dX0_goesTrip_27 (by decide) (fun c7 => ?_) (fun c7 => ?_)
    · replace hf := o_pos c7 hf
      refine wr_sub [] [] rfl ?_
      exact hK  μ hf
    · replace hf := o_neg c7 hf
      refine wr_iload 30 C dX0_goesTrip_30 3 rfl ?_
      refine wr_sipush 32 C dX0_goesTrip_32 (v := 200) rfl ?_
      obtain ⟨JgoesTrip87, eJgoesTrip87, hf⟩ := o_let hf
      have hJgoesTrip87 : ∀ (x9 : Int64) (μ8 : wMem), JgoesTrip87 x9 μ8 = some r0 → wJ p l e ({ frames := 6, cells := 0, slots := 0, locals := 135 } : Room) s m args below meth c 7 D vwCl (spX ++ E) q ca A (wQv ({ frames := 6, cells := 0, slots := 0, locals := 135 } : Room) D vwCl (spX ++ E) q ca below args s A r0) 0 0 μ8 87 [(0, .ref (q 0)), (3, .long x9), (5, .int x5_), (6, .int x6_)] [] := by
        intro x9 μ8 hf
        rw [eJgoesTrip87] at hf
        refine wr_aload_n 87 C dX0_goesTrip_87 0 rfl rfl ?_
        refine wr_iload 88 C dX0_goesTrip_88 3 rfl ?_
        obtain ⟨μ11, h10, hf⟩ := o_bindV hf
        refine wr_Vv (kc1 := 0) (ks1 := 0) 90 [] C dX0_goesTrip_90 (tX0_does l N   x6_ μ8 μ11 h10) okX0_does q755 (b := 0) spX_0 rfl ⟨rfl, rfl, Nat.le_of_ble_eq_true rfl, Nat.le_of_ble_eq_true rfl, Nat.zero_le _, Nat.zero_le _⟩ (Nat.le_of_ble_eq_true rfl) rfl ?_
        obtain ⟨x12, ex12, hf⟩ := o_let hf
        refine wr_iinc 93 [(5, .int x12), (0, .ref (q 0)), (3, .long x9), (6, .int x6_)] C dX0_goesTrip_93 2 rfl (ex12.trans rfl) (Nat.le_of_ble_eq_true rfl) rfl ?_
        refine wr_aload_n 96 C dX0_goesTrip_96 1 rfl rfl ?_
        refine wr_aload_n 97 C dX0_goesTrip_97 1 rfl rfl ?_
        refine gespX_0_14_X0 98 C dX0_goesTrip_98 ?_
        obtain ⟨v15, μ14, h13, hf⟩ := o_bind hf
        refine wr_Vi (kc1 := 0) (ks1 := 0) 101 [] C dX0_goesTrip_101 (tX0_step l N 20   μ11 (v15, μ14) h13) okX0_step q935 (b := 0) spX_0 rfl ⟨rfl, rfl, Nat.le_of_ble_eq_true rfl, Nat.le_of_ble_eq_true rfl, Nat.zero_le _, Nat.zero_le _⟩ (Nat.le_of_ble_eq_true rfl) rfl ?_
        refine wr_istore 104 [(6, .int v15), (5, .int x12), (0, .ref (q 0)), (3, .long x9)] C dX0_goesTrip_104 rfl (Nat.le_of_ble_eq_true rfl) rfl ?_
        refine wr_goto 106 C dX0_goesTrip_106 (tgt := 24) (by decide) ?_
        refine wr_sub [(0, .ref (q 0)), (3, .long x9), (5, .int x12), (6, .int v15)] [2, 3, 1, 0] rfl ?_
        exact ih x9 x12 v15 μ14 hf
      refine wr_icmp_eq 35 87 C dX0_goesTrip_35 (by decide) (fun c16 => ?_) (fun c16 => ?_)
      · replace hf := o_pos c16 hf
        exact hJgoesTrip87 x3_ μ hf
      · replace hf := o_neg c16 hf
        refine wr_ldc2 38 C dX0_goesTrip_38 q1183 ?_
        refine wr_lload_n 41 C dX0_goesTrip_41 1 rfl rfl ?_
        refine wr_lmul 42 C dX0_goesTrip_42 ?_
        refine wr_ldc2 43 C dX0_goesTrip_43 q1184 ?_
        refine wr_ladd 46 C dX0_goesTrip_46 ?_
        refine wr_ldc2 47 C dX0_goesTrip_47 q1185 ?_
        refine wr_lrem 50 C dX0_goesTrip_50 (by decide) ?_
        obtain ⟨x17, ex17, hf⟩ := o_let hf
        refine wr_lstore_n 51 [(3, .long x17), (0, .ref (q 0)), (5, .int x5_), (6, .int x6_)] C dX0_goesTrip_51 ex17 rfl (Nat.le_of_ble_eq_true rfl) rfl ?_
        refine wr_lload_n 52 C dX0_goesTrip_52 0 rfl rfl ?_
        refine wr_ldc2 53 C dX0_goesTrip_53 q1186 ?_
        refine wr_ldiv 56 C dX0_goesTrip_56 (by decide) ?_
        refine wr_ldc2 57 C dX0_goesTrip_57 q969 ?_
        refine wr_lrem 60 C dX0_goesTrip_60 (by decide) ?_
        refine wr_aload_n 61 C dX0_goesTrip_61 1 rfl rfl ?_
        refine wr_iload 62 C dX0_goesTrip_62 3 rfl ?_
        obtain ⟨v20, μ19, h18, hf⟩ := o_bind hf
        refine wr_Si (kc1 := 0) (ks1 := 0) 64 [.ref (q 0), .long ((x17 / (65536 : Int64)) - (x17 / (65536 : Int64)) / (100 : Int64) * (100 : Int64))] C dX0_goesTrip_64 (tX0_personIn l N   x6_ μ (v20, μ19) h18) okX0_personIn q749 ⟨rfl, rfl, Nat.le_of_ble_eq_true rfl, Nat.le_of_ble_eq_true rfl, Nat.zero_le _, Nat.zero_le _⟩ (Nat.le_of_ble_eq_true rfl) rfl ?_
        refine wr_iload 67 C dX0_goesTrip_67 3 rfl ?_
        obtain ⟨v23, μ22, h21, hf⟩ := o_bind hf
        refine wr_Si (kc1 := 0) (ks1 := 0) 69 [.int v20, .ref (q 0), .long ((x17 / (65536 : Int64)) - (x17 / (65536 : Int64)) / (100 : Int64) * (100 : Int64))] C dX0_goesTrip_69 (tX0_postIn l N   x6_ μ19 (v23, μ22) h21) okX0_postIn q752 ⟨rfl, rfl, Nat.le_of_ble_eq_true rfl, Nat.le_of_ble_eq_true rfl, Nat.zero_le _, Nat.zero_le _⟩ (Nat.le_of_ble_eq_true rfl) rfl ?_
        obtain ⟨v26, μ25, h24, hf⟩ := o_bind hf
        refine wr_Vi (kc1 := 0) (ks1 := 0) 72 [.long ((x17 / (65536 : Int64)) - (x17 / (65536 : Int64)) / (100 : Int64) * (100 : Int64))] C dX0_goesTrip_72 (tX0_riskOf l N   v20 v23 μ22 (v26, μ25) h24) okX0_riskOf q710 (b := 0) spX_0 rfl ⟨rfl, rfl, Nat.le_of_ble_eq_true rfl, Nat.le_of_ble_eq_true rfl, Nat.zero_le _, Nat.zero_le _⟩ (Nat.le_of_ble_eq_true rfl) rfl ?_
        refine wr_i2l 75 C dX0_goesTrip_75 ?_
        refine wr_lcmp_ge 76 87 C dX0_goesTrip_76 dX0_goesTrip_77 (by decide) (fun c27 => ?_) (fun c27 => ?_)
        · replace hf := o_pos c27 hf
          refine wr_sub [(0, .ref (q 0)), (3, .long x17), (5, .int x5_), (6, .int x6_)] [1, 0, 2, 3] rfl ?_
          exact hJgoesTrip87 x17 μ25 hf
        · replace hf := o_neg c27 hf
          refine wr_aload_n 80 C dX0_goesTrip_80 1 rfl rfl ?_
          refine wr_iload 81 C dX0_goesTrip_81 2 rfl ?_
          obtain ⟨μ28, eμ28, hf⟩ := o_let hf
          refine puspX_0_31_X0 83 C dX0_goesTrip_83 eμ28 ?_
          exact wr_vret 86 C dX0_goesTrip_86 ⟨Nat.zero_le _, Nat.zero_le _⟩ (Option.some.inj hf)
def fX0_goesTrip (N : Nat)  (a1 : Int64) (μ : wMem) : Option wMem :=
  wLet (wSI μ 0 31 (-1 : Int32)) fun μ1 => wBindV (fX0_asItIs N   μ1) fun μ3 => wBind (fX0_step N 20  μ3) fun v6 μ5 => gX0_goesTrip_24 N   (fun  (μ29 : wMem) => some μ29) N a1 0 v6 μ5
set_option maxHeartbeats 4000000 in
set_option maxRecDepth 100000 in
theorem tX0_goesTrip (l : Launch) {D : va_G} {E : List wCell} {q : Nat → Nat} {ca : wCA} (N : Nat)   (a1 : Int64) (μ : wMem) (r0 : wMem) (hf : fX0_goesTrip N  a1 μ = some r0) : wMv l yX0_goesTrip cX0_goesTrip 7 none ({ frames := 6, cells := 0, slots := 0, locals := 135 } : Room) D vwCl (spX ++ E) q ca [.ref (q 0), .long a1] μ r0 := by
  refine wMv_intro (by decide) (Nat.le_of_ble_eq_true rfl) ?_
  intro p e s m args below meth c A C
  unfold fX0_goesTrip at hf
  refine wr_sub [(0, .ref (q 0)), (1, .long a1)] [0, 1] rfl ?_
  refine wr_lload_n 0 C dX0_goesTrip_0 1 rfl rfl ?_
  refine wr_lstore_n 1 [(3, .long a1), (0, .ref (q 0)), (1, .long a1)] C dX0_goesTrip_1 rfl rfl (Nat.le_of_ble_eq_true rfl) rfl ?_
  refine wr_aload_n 2 C dX0_goesTrip_2 1 rfl rfl ?_
  refine wr_iconst 3 C dX0_goesTrip_3 (v := (-1)) rfl ?_
  obtain ⟨μ1, eμ1, hf⟩ := o_let hf
  refine puspX_0_31_X0 4 C dX0_goesTrip_4 eμ1 ?_
  refine wr_aload_n 7 C dX0_goesTrip_7 1 rfl rfl ?_
  obtain ⟨μ3, h2, hf⟩ := o_bindV hf
  refine wr_Vv (kc1 := 0) (ks1 := 0) 8 [] C dX0_goesTrip_8 (tX0_asItIs l N    μ1 μ3 h2) okX0_asItIs q737 (b := 0) spX_0 rfl ⟨rfl, rfl, Nat.le_of_ble_eq_true rfl, Nat.le_of_ble_eq_true rfl, Nat.zero_le _, Nat.zero_le _⟩ (Nat.le_of_ble_eq_true rfl) rfl ?_
  refine wr_iconst 11 C dX0_goesTrip_11 (v := 0) rfl ?_
  refine wr_istore 12 [(5, .int 0), (3, .long a1), (0, .ref (q 0)), (1, .long a1)] C dX0_goesTrip_12 rfl (Nat.le_of_ble_eq_true rfl) rfl ?_
  refine wr_aload_n 14 C dX0_goesTrip_14 2 rfl rfl ?_
  refine wr_aload_n 15 C dX0_goesTrip_15 2 rfl rfl ?_
  refine gespX_0_14_X0 16 C dX0_goesTrip_16 ?_
  obtain ⟨v6, μ5, h4, hf⟩ := o_bind hf
  refine wr_Vi (kc1 := 0) (ks1 := 0) 19 [] C dX0_goesTrip_19 (tX0_step l N 20   μ3 (v6, μ5) h4) okX0_step q935 (b := 0) spX_0 rfl ⟨rfl, rfl, Nat.le_of_ble_eq_true rfl, Nat.le_of_ble_eq_true rfl, Nat.zero_le _, Nat.zero_le _⟩ (Nat.le_of_ble_eq_true rfl) rfl ?_
  refine wr_istore 22 [(6, .int v6), (5, .int 0), (3, .long a1), (0, .ref (q 0)), (1, .long a1)] C dX0_goesTrip_22 rfl (Nat.le_of_ble_eq_true rfl) rfl ?_
  refine wr_sub [(0, .ref (q 0)), (3, .long a1), (5, .int 0), (6, .int v6)] [3, 2, 1, 0] rfl ?_
  refine tX0_goesTrip_24 C N    _ r0 (fun  μ29 hf => ?_) N a1 0 v6 μ5 hf
  · replace hf := hf
    exact wr_vret 109 C dX0_goesTrip_109 ⟨Nat.zero_le _, Nat.zero_le _⟩ (Option.some.inj hf)
abbrev cX0_drawn : ByteArray := prog_1_method_112_code
def yX0_drawn : MethodName := ⟨RX0, "drawn", "(II)I"⟩
def dkwX0_drawn_2 : List UInt8 := [180, 1, 183, 167, 0, 7, 42, 180, 0, 179, 172]
abbrev dktX0_drawn_2 : List UInt8 := dkwX0_drawn_2 ++ []
def dkwX0_drawn_1 : List UInt8 := [180, 0, 40, 182, 1, 77, 154, 0, 6, 16, 254, 172, 42, 27, 133, 182, 1, 197, 28, 154, 0, 10, 42]
abbrev dktX0_drawn_1 : List UInt8 := dkwX0_drawn_1 ++ dktX0_drawn_2
def dkwX0_drawn_0 : List UInt8 := [42, 182, 0, 252, 153, 0, 29, 27, 184, 1, 194, 153, 0, 22, 28, 5, 184, 0, 246, 153, 0, 14, 42, 42]
abbrev dktX0_drawn_0 : List UInt8 := dkwX0_drawn_0 ++ dktX0_drawn_1
theorem dksX0_drawn_0 : cX0_drawn.data.toList.drop 0 = dktX0_drawn_0 := by decide +kernel
theorem dksX0_drawn_1 : cX0_drawn.data.toList.drop 24 = dktX0_drawn_1 := dk_seg dksX0_drawn_0 24 rfl rfl
theorem dksX0_drawn_2 : cX0_drawn.data.toList.drop 47 = dktX0_drawn_2 := dk_seg dksX0_drawn_1 23 rfl rfl
theorem dX0_drawn_0 : decode cX0_drawn 0 = .ok (.aload_n 0, 1) := dk_42 (dk_at dksX0_drawn_0 0 rfl rfl)
theorem dX0_drawn_1 : decode cX0_drawn 1 = .ok (.invokevirtual 252, 3) := dk_182 0 252 (dk_at dksX0_drawn_0 1 rfl rfl)
theorem dX0_drawn_4 : decode cX0_drawn 4 = .ok (.ifCond .eq 29, 3) := dk_153 0 29 (dk_at dksX0_drawn_0 4 rfl rfl)
theorem dX0_drawn_7 : decode cX0_drawn 7 = .ok (.iload_n 1, 1) := dk_27 (dk_at dksX0_drawn_0 7 rfl rfl)
theorem dX0_drawn_8 : decode cX0_drawn 8 = .ok (.invokestatic 450, 3) := dk_184 1 194 (dk_at dksX0_drawn_0 8 rfl rfl)
theorem dX0_drawn_11 : decode cX0_drawn 11 = .ok (.ifCond .eq 22, 3) := dk_153 0 22 (dk_at dksX0_drawn_0 11 rfl rfl)
theorem dX0_drawn_14 : decode cX0_drawn 14 = .ok (.iload_n 2, 1) := dk_28 (dk_at dksX0_drawn_0 14 rfl rfl)
theorem dX0_drawn_15 : decode cX0_drawn 15 = .ok (.iconst 2, 1) := dk_5 (dk_at dksX0_drawn_0 15 rfl rfl)
theorem dX0_drawn_16 : decode cX0_drawn 16 = .ok (.invokestatic 246, 3) := dk_184 0 246 (dk_at dksX0_drawn_0 16 rfl rfl)
theorem dX0_drawn_19 : decode cX0_drawn 19 = .ok (.ifCond .eq 14, 3) := dk_153 0 14 (dk_at dksX0_drawn_0 19 rfl rfl)
theorem dX0_drawn_22 : decode cX0_drawn 22 = .ok (.aload_n 0, 1) := dk_42 (dk_at dksX0_drawn_0 22 rfl rfl)
theorem dX0_drawn_23 : decode cX0_drawn 23 = .ok (.aload_n 0, 1) := dk_42 (dk_at dksX0_drawn_0 23 rfl rfl)
theorem dX0_drawn_24 : decode cX0_drawn 24 = .ok (.getfield 40, 3) := dk_180 0 40 (dk_at dksX0_drawn_1 0 rfl rfl)
theorem dX0_drawn_27 : decode cX0_drawn 27 = .ok (.invokevirtual 333, 3) := dk_182 1 77 (dk_at dksX0_drawn_1 3 rfl rfl)
theorem dX0_drawn_30 : decode cX0_drawn 30 = .ok (.ifCond .ne 6, 3) := dk_154 0 6 (dk_at dksX0_drawn_1 6 rfl rfl)
theorem dX0_drawn_33 : decode cX0_drawn 33 = .ok (.bipush (-2), 2) := dk_16 254 (dk_at dksX0_drawn_1 9 rfl rfl)
theorem dX0_drawn_35 : decode cX0_drawn 35 = .ok (.ireturn, 1) := dk_172 (dk_at dksX0_drawn_1 11 rfl rfl)
theorem dX0_drawn_36 : decode cX0_drawn 36 = .ok (.aload_n 0, 1) := dk_42 (dk_at dksX0_drawn_1 12 rfl rfl)
theorem dX0_drawn_37 : decode cX0_drawn 37 = .ok (.iload_n 1, 1) := dk_27 (dk_at dksX0_drawn_1 13 rfl rfl)
theorem dX0_drawn_38 : decode cX0_drawn 38 = .ok (.i2l, 1) := dk_133 (dk_at dksX0_drawn_1 14 rfl rfl)
theorem dX0_drawn_39 : decode cX0_drawn 39 = .ok (.invokevirtual 453, 3) := dk_182 1 197 (dk_at dksX0_drawn_1 15 rfl rfl)
theorem dX0_drawn_42 : decode cX0_drawn 42 = .ok (.iload_n 2, 1) := dk_28 (dk_at dksX0_drawn_1 18 rfl rfl)
theorem dX0_drawn_43 : decode cX0_drawn 43 = .ok (.ifCond .ne 10, 3) := dk_154 0 10 (dk_at dksX0_drawn_1 19 rfl rfl)
theorem dX0_drawn_46 : decode cX0_drawn 46 = .ok (.aload_n 0, 1) := dk_42 (dk_at dksX0_drawn_1 22 rfl rfl)
theorem dX0_drawn_47 : decode cX0_drawn 47 = .ok (.getfield 439, 3) := dk_180 1 183 (dk_at dksX0_drawn_2 0 rfl rfl)
theorem dX0_drawn_50 : decode cX0_drawn 50 = .ok (.goto 7, 3) := dk_167 0 7 (dk_at dksX0_drawn_2 3 rfl rfl)
theorem dX0_drawn_53 : decode cX0_drawn 53 = .ok (.aload_n 0, 1) := dk_42 (dk_at dksX0_drawn_2 6 rfl rfl)
theorem dX0_drawn_54 : decode cX0_drawn 54 = .ok (.getfield 179, 3) := dk_180 0 179 (dk_at dksX0_drawn_2 7 rfl rfl)
theorem dX0_drawn_57 : decode cX0_drawn 57 = .ok (.ireturn, 1) := dk_172 (dk_at dksX0_drawn_2 10 rfl rfl)
theorem gespX_0_31_X0 {p : Program} {l : Launch} {e : Env} {R : Room} {s : State} {m : MethodId} {args : Array Value} {below : List Frame} {meth : Method} {c : Code} {cc : ByteArray} {nL : Nat} {ret : Option FieldType} {D : va_G} {E : List wCell} {q : Nat → Nat} {ca : wCA} {A : Nat → Prop} {Q : State → Prop} {kc ks : Nat} {μ : wMem} {lv : List (Nat × Value)} {st : List Value} (pc : Nat) (C : wC p R s m args meth c cc "OnePassport" nL ret D vwCl (spX ++ E) q ca A) (hd : decode cc pc = .ok (.getfield 439, 3)) (k : wJ p l e R s m args below meth c nL D vwCl (spX ++ E) q ca A Q kc ks μ (pc + 3) lv (.int (μ.1 0 31) :: st)) : wJ p l e R s m args below meth c nL D vwCl (spX ++ E) q ca A Q kc ks μ pc lv (.ref (q 0) :: st) := wr_getI pc 31 C hd spX_0 rfl in_X0 (by decide) rfl q362 k
theorem okX0_drawn : wOkV yX0_drawn cX0_drawn 3 (some .int) 2 := ⟨q1172, q1173, q136, q1174, by decide, by decide, by decide +kernel⟩
def fX0_drawn (N : Nat)  (a1 : Int32) (a2 : Int32) (μ : wMem) : Option (Int32 × wMem) :=
  wBind (fX0_isFamily N   μ) fun v3 μ2 => wLet (fun  (μ4 : wMem) => some ((-2), μ4)) fun Jdrawn33 => if v3 = 0 then Jdrawn33  μ2 else wBind (fX0_isSeed N  a1 μ2) fun v8 μ7 => if v8 = 0 then Jdrawn33  μ7 else wBind (fX0_isOneOf N  a2 2 μ7) fun v12 μ11 => if v12 = 0 then Jdrawn33  μ11 else wBind (fX0_marks N 20  μ11) fun v16 μ15 => if v16 = 0 then Jdrawn33  μ15 else wBindV (fX0_goesTrip N  (Int32.toInt64 a1) μ15) fun μ19 => if a2 = 0 then some (μ19.1 0 31, μ19) else some (μ19.1 0 5, μ19)
set_option maxHeartbeats 4000000 in
set_option maxRecDepth 100000 in
theorem tX0_drawn (l : Launch) {D : va_G} {E : List wCell} {q : Nat → Nat} {ca : wCA} (N : Nat)   (a1 : Int32) (a2 : Int32) (μ : wMem) (r0 : (Int32 × wMem)) (hf : fX0_drawn N  a1 a2 μ = some r0) : wMi l yX0_drawn cX0_drawn 3 (some .int) ({ frames := 8, cells := 0, slots := 0, locals := 181 } : Room) D vwCl (spX ++ E) q ca [.ref (q 0), .int a1, .int a2] μ r0 := by
  refine wMi_intro (by decide) (Nat.le_of_ble_eq_true rfl) ?_
  intro p e s m args below meth c A C
  unfold fX0_drawn at hf
  refine wr_sub [(0, .ref (q 0)), (1, .int a1), (2, .int a2)] [0, 1, 2] rfl ?_
  refine wr_aload_n 0 C dX0_drawn_0 0 rfl rfl ?_
  obtain ⟨v3, μ2, h1, hf⟩ := o_bind hf
  refine wr_Vi (kc1 := 0) (ks1 := 0) 1 [] C dX0_drawn_1 (tX0_isFamily l N    μ (v3, μ2) h1) okX0_isFamily q770 (b := 0) spX_0 rfl ⟨rfl, rfl, Nat.le_of_ble_eq_true rfl, Nat.le_of_ble_eq_true rfl, Nat.zero_le _, Nat.zero_le _⟩ (Nat.le_of_ble_eq_true rfl) rfl ?_
  obtain ⟨Jdrawn33, eJdrawn33, hf⟩ := o_let hf
  have hJdrawn33 : ∀  (μ4 : wMem), Jdrawn33  μ4 = some r0 → wJ p l e ({ frames := 8, cells := 0, slots := 0, locals := 181 } : Room) s m args below meth c 3 D vwCl (spX ++ E) q ca A (wQi ({ frames := 8, cells := 0, slots := 0, locals := 181 } : Room) D vwCl (spX ++ E) q ca below args s A r0) 0 0 μ4 33 [] [] := by
    intro  μ4 hf
    rw [eJdrawn33] at hf
    refine wr_bipush 33 C dX0_drawn_33 (v := (-2)) rfl ?_
    exact wr_iret 35 C dX0_drawn_35 ⟨Nat.zero_le _, Nat.zero_le _⟩ (Option.some.inj hf)
  refine wr_if_eq 4 33 C dX0_drawn_4 (by decide) (fun c5 => ?_) (fun c5 => ?_)
  · replace hf := o_pos c5 hf
    refine wr_sub [] [] rfl ?_
    exact hJdrawn33  μ2 hf
  · replace hf := o_neg c5 hf
    refine wr_iload_n 7 C dX0_drawn_7 1 rfl rfl ?_
    obtain ⟨v8, μ7, h6, hf⟩ := o_bind hf
    refine wr_Si (kc1 := 0) (ks1 := 0) 8 [] C dX0_drawn_8 (tX0_isSeed l N   a1 μ2 (v8, μ7) h6) okX0_isSeed q1175 ⟨rfl, rfl, Nat.le_of_ble_eq_true rfl, Nat.le_of_ble_eq_true rfl, Nat.zero_le _, Nat.zero_le _⟩ (Nat.le_of_ble_eq_true rfl) rfl ?_
    refine wr_if_eq 11 33 C dX0_drawn_11 (by decide) (fun c9 => ?_) (fun c9 => ?_)
    · replace hf := o_pos c9 hf
      refine wr_sub [] [] rfl ?_
      exact hJdrawn33  μ7 hf
    · replace hf := o_neg c9 hf
      refine wr_iload_n 14 C dX0_drawn_14 2 rfl rfl ?_
      refine wr_iconst 15 C dX0_drawn_15 (v := 2) rfl ?_
      obtain ⟨v12, μ11, h10, hf⟩ := o_bind hf
      refine wr_Si (kc1 := 0) (ks1 := 0) 16 [] C dX0_drawn_16 (tX0_isOneOf l N   a2 2 μ7 (v12, μ11) h10) okX0_isOneOf q734 ⟨rfl, rfl, Nat.le_of_ble_eq_true rfl, Nat.le_of_ble_eq_true rfl, Nat.zero_le _, Nat.zero_le _⟩ (Nat.le_of_ble_eq_true rfl) rfl ?_
      refine wr_if_eq 19 33 C dX0_drawn_19 (by decide) (fun c13 => ?_) (fun c13 => ?_)
      · replace hf := o_pos c13 hf
        refine wr_sub [] [] rfl ?_
        exact hJdrawn33  μ11 hf
      · replace hf := o_neg c13 hf
        refine wr_aload_n 22 C dX0_drawn_22 0 rfl rfl ?_
        refine wr_aload_n 23 C dX0_drawn_23 0 rfl rfl ?_
        refine gespX_0_14_X0 24 C dX0_drawn_24 ?_
        obtain ⟨v16, μ15, h14, hf⟩ := o_bind hf
        refine wr_Vi (kc1 := 0) (ks1 := 0) 27 [] C dX0_drawn_27 (tX0_marks l N 20   μ11 (v16, μ15) h14) okX0_marks q927 (b := 0) spX_0 rfl ⟨rfl, rfl, Nat.le_of_ble_eq_true rfl, Nat.le_of_ble_eq_true rfl, Nat.zero_le _, Nat.zero_le _⟩ (Nat.le_of_ble_eq_true rfl) rfl ?_
        refine wr_if_ne 30 36 C dX0_drawn_30 (by decide) (fun c17 => ?_) (fun c17 => ?_)
        · replace hf := o_neg c17 hf
          refine wr_aload_n 36 C dX0_drawn_36 0 rfl rfl ?_
          refine wr_iload_n 37 C dX0_drawn_37 1 rfl rfl ?_
          refine wr_i2l 38 C dX0_drawn_38 ?_
          obtain ⟨μ19, h18, hf⟩ := o_bindV hf
          refine wr_Vv (kc1 := 0) (ks1 := 0) 39 [] C dX0_drawn_39 (tX0_goesTrip l N   (Int32.toInt64 a1) μ15 μ19 h18) okX0_goesTrip q1179 (b := 0) spX_0 rfl ⟨rfl, rfl, Nat.le_of_ble_eq_true rfl, Nat.le_of_ble_eq_true rfl, Nat.zero_le _, Nat.zero_le _⟩ (Nat.le_of_ble_eq_true rfl) rfl ?_
          refine wr_iload_n 42 C dX0_drawn_42 2 rfl rfl ?_
          refine wr_if_ne 43 53 C dX0_drawn_43 (by decide) (fun c20 => ?_) (fun c20 => ?_)
          · replace hf := o_neg c20 hf
            refine wr_aload_n 53 C dX0_drawn_53 0 rfl rfl ?_
            refine gespX_0_5_X0 54 C dX0_drawn_54 ?_
            exact wr_iret 57 C dX0_drawn_57 ⟨Nat.zero_le _, Nat.zero_le _⟩ (Option.some.inj hf)
          · replace hf := o_pos c20 hf
            refine wr_aload_n 46 C dX0_drawn_46 0 rfl rfl ?_
            refine gespX_0_31_X0 47 C dX0_drawn_47 ?_
            refine wr_goto 50 C dX0_drawn_50 (tgt := 57) (by decide) ?_
            exact wr_iret 57 C dX0_drawn_57 ⟨Nat.zero_le _, Nat.zero_le _⟩ (Option.some.inj hf)
        · replace hf := o_pos c17 hf
          refine wr_sub [] [] rfl ?_
          exact hJdrawn33  μ15 hf
abbrev cX0_luck : ByteArray := prog_1_method_113_code
def yX0_luck : MethodName := ⟨RX0, "luck", "(II)I"⟩
def dkwX0_luck_3 : List UInt8 := [167, 0, 4, 3, 96, 62, 132, 4, 1, 167, 255, 221, 29, 172]
abbrev dktX0_luck_3 : List UInt8 := dkwX0_luck_3 ++ []
def dkwX0_luck_2 : List UInt8 := [28, 162, 0, 35, 42, 27, 133, 21, 4, 133, 97, 182, 1, 197, 29, 42, 180, 1, 183, 2, 160, 0, 7, 4]
abbrev dktX0_luck_2 : List UInt8 := dkwX0_luck_2 ++ dktX0_luck_3
def dkwX0_luck_1 : List UInt8 := [153, 0, 14, 42, 42, 180, 0, 40, 182, 1, 77, 154, 0, 6, 16, 254, 172, 3, 62, 3, 54, 4, 21, 4]
abbrev dktX0_luck_1 : List UInt8 := dkwX0_luck_1 ++ dktX0_luck_2
def dkwX0_luck_0 : List UInt8 := [42, 182, 0, 252, 153, 0, 33, 27, 184, 1, 194, 153, 0, 26, 28, 133, 10, 20, 1, 201, 184, 0, 103]
abbrev dktX0_luck_0 : List UInt8 := dkwX0_luck_0 ++ dktX0_luck_1
theorem dksX0_luck_0 : cX0_luck.data.toList.drop 0 = dktX0_luck_0 := by decide +kernel
theorem dksX0_luck_1 : cX0_luck.data.toList.drop 23 = dktX0_luck_1 := dk_seg dksX0_luck_0 23 rfl rfl
theorem dksX0_luck_2 : cX0_luck.data.toList.drop 47 = dktX0_luck_2 := dk_seg dksX0_luck_1 24 rfl rfl
theorem dksX0_luck_3 : cX0_luck.data.toList.drop 71 = dktX0_luck_3 := dk_seg dksX0_luck_2 24 rfl rfl
theorem dX0_luck_0 : decode cX0_luck 0 = .ok (.aload_n 0, 1) := dk_42 (dk_at dksX0_luck_0 0 rfl rfl)
theorem dX0_luck_1 : decode cX0_luck 1 = .ok (.invokevirtual 252, 3) := dk_182 0 252 (dk_at dksX0_luck_0 1 rfl rfl)
theorem dX0_luck_4 : decode cX0_luck 4 = .ok (.ifCond .eq 33, 3) := dk_153 0 33 (dk_at dksX0_luck_0 4 rfl rfl)
theorem dX0_luck_7 : decode cX0_luck 7 = .ok (.iload_n 1, 1) := dk_27 (dk_at dksX0_luck_0 7 rfl rfl)
theorem dX0_luck_8 : decode cX0_luck 8 = .ok (.invokestatic 450, 3) := dk_184 1 194 (dk_at dksX0_luck_0 8 rfl rfl)
theorem dX0_luck_11 : decode cX0_luck 11 = .ok (.ifCond .eq 26, 3) := dk_153 0 26 (dk_at dksX0_luck_0 11 rfl rfl)
theorem dX0_luck_14 : decode cX0_luck 14 = .ok (.iload_n 2, 1) := dk_28 (dk_at dksX0_luck_0 14 rfl rfl)
theorem dX0_luck_15 : decode cX0_luck 15 = .ok (.i2l, 1) := dk_133 (dk_at dksX0_luck_0 15 rfl rfl)
theorem dX0_luck_16 : decode cX0_luck 16 = .ok (.lconst 1, 1) := dk_10 (dk_at dksX0_luck_0 16 rfl rfl)
theorem dX0_luck_17 : decode cX0_luck 17 = .ok (.ldc2_w 457, 3) := dk_20 1 201 (dk_at dksX0_luck_0 17 rfl rfl)
theorem dX0_luck_20 : decode cX0_luck 20 = .ok (.invokestatic 103, 3) := dk_184 0 103 (dk_at dksX0_luck_0 20 rfl rfl)
theorem dX0_luck_23 : decode cX0_luck 23 = .ok (.ifCond .eq 14, 3) := dk_153 0 14 (dk_at dksX0_luck_1 0 rfl rfl)
theorem dX0_luck_26 : decode cX0_luck 26 = .ok (.aload_n 0, 1) := dk_42 (dk_at dksX0_luck_1 3 rfl rfl)
theorem dX0_luck_27 : decode cX0_luck 27 = .ok (.aload_n 0, 1) := dk_42 (dk_at dksX0_luck_1 4 rfl rfl)
theorem dX0_luck_28 : decode cX0_luck 28 = .ok (.getfield 40, 3) := dk_180 0 40 (dk_at dksX0_luck_1 5 rfl rfl)
theorem dX0_luck_31 : decode cX0_luck 31 = .ok (.invokevirtual 333, 3) := dk_182 1 77 (dk_at dksX0_luck_1 8 rfl rfl)
theorem dX0_luck_34 : decode cX0_luck 34 = .ok (.ifCond .ne 6, 3) := dk_154 0 6 (dk_at dksX0_luck_1 11 rfl rfl)
theorem dX0_luck_37 : decode cX0_luck 37 = .ok (.bipush (-2), 2) := dk_16 254 (dk_at dksX0_luck_1 14 rfl rfl)
theorem dX0_luck_39 : decode cX0_luck 39 = .ok (.ireturn, 1) := dk_172 (dk_at dksX0_luck_1 16 rfl rfl)
theorem dX0_luck_40 : decode cX0_luck 40 = .ok (.iconst 0, 1) := dk_3 (dk_at dksX0_luck_1 17 rfl rfl)
theorem dX0_luck_41 : decode cX0_luck 41 = .ok (.istore_n 3, 1) := dk_62 (dk_at dksX0_luck_1 18 rfl rfl)
theorem dX0_luck_42 : decode cX0_luck 42 = .ok (.iconst 0, 1) := dk_3 (dk_at dksX0_luck_1 19 rfl rfl)
theorem dX0_luck_43 : decode cX0_luck 43 = .ok (.istore 4, 2) := dk_54 4 (dk_at dksX0_luck_1 20 rfl rfl)
theorem dX0_luck_45 : decode cX0_luck 45 = .ok (.iload 4, 2) := dk_21 4 (dk_at dksX0_luck_1 22 rfl rfl)
theorem dX0_luck_47 : decode cX0_luck 47 = .ok (.iload_n 2, 1) := dk_28 (dk_at dksX0_luck_2 0 rfl rfl)
theorem dX0_luck_48 : decode cX0_luck 48 = .ok (.if_icmp .ge 35, 3) := dk_162 0 35 (dk_at dksX0_luck_2 1 rfl rfl)
theorem dX0_luck_51 : decode cX0_luck 51 = .ok (.aload_n 0, 1) := dk_42 (dk_at dksX0_luck_2 4 rfl rfl)
theorem dX0_luck_52 : decode cX0_luck 52 = .ok (.iload_n 1, 1) := dk_27 (dk_at dksX0_luck_2 5 rfl rfl)
theorem dX0_luck_53 : decode cX0_luck 53 = .ok (.i2l, 1) := dk_133 (dk_at dksX0_luck_2 6 rfl rfl)
theorem dX0_luck_54 : decode cX0_luck 54 = .ok (.iload 4, 2) := dk_21 4 (dk_at dksX0_luck_2 7 rfl rfl)
theorem dX0_luck_56 : decode cX0_luck 56 = .ok (.i2l, 1) := dk_133 (dk_at dksX0_luck_2 9 rfl rfl)
theorem dX0_luck_57 : decode cX0_luck 57 = .ok (.ladd, 1) := dk_97 (dk_at dksX0_luck_2 10 rfl rfl)
theorem dX0_luck_58 : decode cX0_luck 58 = .ok (.invokevirtual 453, 3) := dk_182 1 197 (dk_at dksX0_luck_2 11 rfl rfl)
theorem dX0_luck_61 : decode cX0_luck 61 = .ok (.iload_n 3, 1) := dk_29 (dk_at dksX0_luck_2 14 rfl rfl)
theorem dX0_luck_62 : decode cX0_luck 62 = .ok (.aload_n 0, 1) := dk_42 (dk_at dksX0_luck_2 15 rfl rfl)
theorem dX0_luck_63 : decode cX0_luck 63 = .ok (.getfield 439, 3) := dk_180 1 183 (dk_at dksX0_luck_2 16 rfl rfl)
theorem dX0_luck_66 : decode cX0_luck 66 = .ok (.iconst (-1), 1) := dk_2 (dk_at dksX0_luck_2 19 rfl rfl)
theorem dX0_luck_67 : decode cX0_luck 67 = .ok (.if_icmp .ne 7, 3) := dk_160 0 7 (dk_at dksX0_luck_2 20 rfl rfl)
theorem dX0_luck_70 : decode cX0_luck 70 = .ok (.iconst 1, 1) := dk_4 (dk_at dksX0_luck_2 23 rfl rfl)
theorem dX0_luck_71 : decode cX0_luck 71 = .ok (.goto 4, 3) := dk_167 0 4 (dk_at dksX0_luck_3 0 rfl rfl)
theorem dX0_luck_74 : decode cX0_luck 74 = .ok (.iconst 0, 1) := dk_3 (dk_at dksX0_luck_3 3 rfl rfl)
theorem dX0_luck_75 : decode cX0_luck 75 = .ok (.iadd, 1) := dk_96 (dk_at dksX0_luck_3 4 rfl rfl)
theorem dX0_luck_76 : decode cX0_luck 76 = .ok (.istore_n 3, 1) := dk_62 (dk_at dksX0_luck_3 5 rfl rfl)
theorem dX0_luck_77 : decode cX0_luck 77 = .ok (.iinc 4 1, 3) := dk_132 4 1 (dk_at dksX0_luck_3 6 rfl rfl)
theorem dX0_luck_80 : decode cX0_luck 80 = .ok (.goto (-35), 3) := dk_167 255 221 (dk_at dksX0_luck_3 9 rfl rfl)
theorem dX0_luck_83 : decode cX0_luck 83 = .ok (.iload_n 3, 1) := dk_29 (dk_at dksX0_luck_3 12 rfl rfl)
theorem dX0_luck_84 : decode cX0_luck 84 = .ok (.ireturn, 1) := dk_172 (dk_at dksX0_luck_3 13 rfl rfl)

theorem okX0_luck : wOkV yX0_luck cX0_luck 5 (some .int) 2 := ⟨q1188, q1189, q136, q1190, by decide, by decide, by decide +kernel⟩
def gbX0_luck_45 (N : Nat)  (x1_ : Int32) (x2_ : Int32) (K : (Int32 → wMem → Option (Int32 × wMem))) (rec : (Int32 → Int32 → wMem → Option (Int32 × wMem))) (x3_ : Int32) (x4_ : Int32) (μ : wMem) : Option (Int32 × wMem) :=
  if x2_ ≤ x4_ then K x3_ μ else wBindV (fX0_goesTrip N  ((Int32.toInt64 x1_) + (Int32.toInt64 x4_)) μ) fun μ20 => wLet (fun (v22 : Int32) (v23 : Int32) (μ21 : wMem) => wLet (v23 + v22 : Int32) fun x24 => wLet (x4_ + 1 : Int32) fun x25 => rec x24 x25 μ21) fun Jluck75 => if (μ20.1 0 31) = (-1 : Int32) then Jluck75 1 x3_ μ20 else Jluck75 0 x3_ μ20
def gX0_luck_45 (N : Nat)  (x1_ : Int32) (x2_ : Int32) (K : (Int32 → wMem → Option (Int32 × wMem))) : Nat → (Int32 → Int32 → wMem → Option (Int32 × wMem))
  | 0 => fun _ _ _ => none
  | k + 1 => gbX0_luck_45 N  x1_ x2_ K (gX0_luck_45 N  x1_ x2_ K k)
set_option maxHeartbeats 4000000 in
set_option maxRecDepth 100000 in
theorem tX0_luck_45 {p : Program} {l : Launch} {e : Env} {s : State} {m : MethodId} {args : Array Value} {below : List Frame} {meth : Method} {c : Code} {D : va_G} {E : List wCell} {q : Nat → Nat} {ca : wCA} {A : Nat → Prop} (C : wC p ({ frames := 8, cells := 0, slots := 0, locals := 181 } : Room) s m args meth c cX0_luck yX0_luck.cls 5 (some .int) D vwCl (spX ++ E) q ca A) (N : Nat)   (x1_ : Int32) (x2_ : Int32) (K : (Int32 → wMem → Option (Int32 × wMem))) (r0 : (Int32 × wMem)) (hK : ∀ (y3_ : Int32) (μ : wMem), K y3_ μ = some r0 → wJ p l e ({ frames := 8, cells := 0, slots := 0, locals := 181 } : Room) s m args below meth c 5 D vwCl (spX ++ E) q ca A (wQi ({ frames := 8, cells := 0, slots := 0, locals := 181 } : Room) D vwCl (spX ++ E) q ca below args s A r0) 0 0 μ 83 [(3, .int y3_)] []) : ∀ (k : Nat) (x3_ : Int32) (x4_ : Int32) (μ : wMem), gX0_luck_45 N  x1_ x2_ K k x3_ x4_ μ = some r0 → wJ p l e ({ frames := 8, cells := 0, slots := 0, locals := 181 } : Room) s m args below meth c 5 D vwCl (spX ++ E) q ca A (wQi ({ frames := 8, cells := 0, slots := 0, locals := 181 } : Room) D vwCl (spX ++ E) q ca below args s A r0) 0 0 μ 45 [(0, .ref (q 0)), (1, .int x1_), (2, .int x2_), (3, .int x3_), (4, .int x4_)] [] := by
  intro k
  induction k with
  | zero =>
    intro x3_ x4_ μ hf
    cases hf
  | succ k ih =>
    intro x3_ x4_ μ hf
    replace hf : gbX0_luck_45 N  x1_ x2_ K (gX0_luck_45 N  x1_ x2_ K k) x3_ x4_ μ = some r0 := hf
    unfold gbX0_luck_45 at hf
    refine wr_iload 45 C dX0_luck_45 4 rfl ?_
    refine wr_iload_n 47 C dX0_luck_47 2 rfl rfl ?_
    refine wr_icmp_ge 48 83 C dX0_luck_48 (by decide) (fun c18 => ?_) (fun c18 => ?_)
    · replace hf := o_pos c18 hf
      refine wr_sub [(3, .int x3_)] [3] rfl ?_
      exact hK x3_ μ hf
    · replace hf := o_neg c18 hf
      refine wr_aload_n 51 C dX0_luck_51 0 rfl rfl ?_
      refine wr_iload_n 52 C dX0_luck_52 1 rfl rfl ?_
      refine wr_i2l 53 C dX0_luck_53 ?_
      refine wr_iload 54 C dX0_luck_54 4 rfl ?_
      refine wr_i2l 56 C dX0_luck_56 ?_
      refine wr_ladd 57 C dX0_luck_57 ?_
      obtain ⟨μ20, h19, hf⟩ := o_bindV hf
      refine wr_Vv (kc1 := 0) (ks1 := 0) 58 [] C dX0_luck_58 (tX0_goesTrip l N   ((Int32.toInt64 x1_) + (Int32.toInt64 x4_)) μ μ20 h19) okX0_goesTrip q1179 (b := 0) spX_0 rfl ⟨rfl, rfl, Nat.le_of_ble_eq_true rfl, Nat.le_of_ble_eq_true rfl, Nat.zero_le _, Nat.zero_le _⟩ (Nat.le_of_ble_eq_true rfl) rfl ?_
      refine wr_iload_n 61 C dX0_luck_61 3 rfl rfl ?_
      refine wr_aload_n 62 C dX0_luck_62 0 rfl rfl ?_
      refine gespX_0_31_X0 63 C dX0_luck_63 ?_
      refine wr_iconst 66 C dX0_luck_66 (v := (-1)) rfl ?_
      obtain ⟨Jluck75, eJluck75, hf⟩ := o_let hf
      have hJluck75 : ∀ (v22 : Int32) (v23 : Int32) (μ21 : wMem), Jluck75 v22 v23 μ21 = some r0 → wJ p l e ({ frames := 8, cells := 0, slots := 0, locals := 181 } : Room) s m args below meth c 5 D vwCl (spX ++ E) q ca A (wQi ({ frames := 8, cells := 0, slots := 0, locals := 181 } : Room) D vwCl (spX ++ E) q ca below args s A r0) 0 0 μ21 75 [(0, .ref (q 0)), (1, .int x1_), (2, .int x2_), (4, .int x4_)] [.int v22, .int v23] := by
        intro v22 v23 μ21 hf
        rw [eJluck75] at hf
        refine wr_iadd 75 C dX0_luck_75 ?_
        obtain ⟨x24, ex24, hf⟩ := o_let hf
        refine wr_istore_n 76 [(3, .int x24), (0, .ref (q 0)), (1, .int x1_), (2, .int x2_), (4, .int x4_)] C dX0_luck_76 ex24 rfl (Nat.le_of_ble_eq_true rfl) rfl ?_
        obtain ⟨x25, ex25, hf⟩ := o_let hf
        refine wr_iinc 77 [(4, .int x25), (3, .int x24), (0, .ref (q 0)), (1, .int x1_), (2, .int x2_)] C dX0_luck_77 4 rfl (ex25.trans rfl) (Nat.le_of_ble_eq_true rfl) rfl ?_
        refine wr_goto 80 C dX0_luck_80 (tgt := 45) (by decide) ?_
        refine wr_sub [(0, .ref (q 0)), (1, .int x1_), (2, .int x2_), (3, .int x24), (4, .int x25)] [2, 3, 4, 1, 0] rfl ?_
        exact ih x24 x25 μ21 hf
      refine wr_icmp_ne 67 74 C dX0_luck_67 (by decide) (fun c26 => ?_) (fun c26 => ?_)
      · replace hf := o_neg c26 hf
        refine wr_iconst 74 C dX0_luck_74 (v := 0) rfl ?_
        refine wr_sub [(0, .ref (q 0)), (1, .int x1_), (2, .int x2_), (4, .int x4_)] [0, 1, 2, 4] rfl ?_
        exact hJluck75 0 x3_ μ20 hf
      · replace hf := o_pos c26 hf
        refine wr_iconst 70 C dX0_luck_70 (v := 1) rfl ?_
        refine wr_goto 71 C dX0_luck_71 (tgt := 75) (by decide) ?_
        refine wr_sub [(0, .ref (q 0)), (1, .int x1_), (2, .int x2_), (4, .int x4_)] [0, 1, 2, 4] rfl ?_
        exact hJluck75 1 x3_ μ20 hf
def fX0_luck (N : Nat)  (a1 : Int32) (a2 : Int32) (μ : wMem) : Option (Int32 × wMem) :=
  wBind (fX0_isFamily N   μ) fun v3 μ2 => wLet (fun  (μ4 : wMem) => some ((-2), μ4)) fun Jluck37 => if v3 = 0 then Jluck37  μ2 else wBind (fX0_isSeed N  a1 μ2) fun v8 μ7 => if v8 = 0 then Jluck37  μ7 else wBind (fX0_isIn N  (Int32.toInt64 a2) 1 20 μ7) fun v12 μ11 => if v12 = 0 then Jluck37  μ11 else wBind (fX0_marks N 20  μ11) fun v16 μ15 => if v16 = 0 then Jluck37  μ15 else gX0_luck_45 N  a1 a2 (fun (x28 : Int32) (μ27 : wMem) => some (x28, μ27)) N 0 0 μ15
set_option maxHeartbeats 4000000 in
set_option maxRecDepth 100000 in
theorem tX0_luck (l : Launch) {D : va_G} {E : List wCell} {q : Nat → Nat} {ca : wCA} (N : Nat)   (a1 : Int32) (a2 : Int32) (μ : wMem) (r0 : (Int32 × wMem)) (hf : fX0_luck N  a1 a2 μ = some r0) : wMi l yX0_luck cX0_luck 5 (some .int) ({ frames := 8, cells := 0, slots := 0, locals := 181 } : Room) D vwCl (spX ++ E) q ca [.ref (q 0), .int a1, .int a2] μ r0 := by
  refine wMi_intro (by decide) (Nat.le_of_ble_eq_true rfl) ?_
  intro p e s m args below meth c A C
  unfold fX0_luck at hf
  refine wr_sub [(0, .ref (q 0)), (1, .int a1), (2, .int a2)] [0, 1, 2] rfl ?_
  refine wr_aload_n 0 C dX0_luck_0 0 rfl rfl ?_
  obtain ⟨v3, μ2, h1, hf⟩ := o_bind hf
  refine wr_Vi (kc1 := 0) (ks1 := 0) 1 [] C dX0_luck_1 (tX0_isFamily l N    μ (v3, μ2) h1) okX0_isFamily q770 (b := 0) spX_0 rfl ⟨rfl, rfl, Nat.le_of_ble_eq_true rfl, Nat.le_of_ble_eq_true rfl, Nat.zero_le _, Nat.zero_le _⟩ (Nat.le_of_ble_eq_true rfl) rfl ?_
  obtain ⟨Jluck37, eJluck37, hf⟩ := o_let hf
  have hJluck37 : ∀  (μ4 : wMem), Jluck37  μ4 = some r0 → wJ p l e ({ frames := 8, cells := 0, slots := 0, locals := 181 } : Room) s m args below meth c 5 D vwCl (spX ++ E) q ca A (wQi ({ frames := 8, cells := 0, slots := 0, locals := 181 } : Room) D vwCl (spX ++ E) q ca below args s A r0) 0 0 μ4 37 [] [] := by
    intro  μ4 hf
    rw [eJluck37] at hf
    refine wr_bipush 37 C dX0_luck_37 (v := (-2)) rfl ?_
    exact wr_iret 39 C dX0_luck_39 ⟨Nat.zero_le _, Nat.zero_le _⟩ (Option.some.inj hf)
  refine wr_if_eq 4 37 C dX0_luck_4 (by decide) (fun c5 => ?_) (fun c5 => ?_)
  · replace hf := o_pos c5 hf
    refine wr_sub [] [] rfl ?_
    exact hJluck37  μ2 hf
  · replace hf := o_neg c5 hf
    refine wr_iload_n 7 C dX0_luck_7 1 rfl rfl ?_
    obtain ⟨v8, μ7, h6, hf⟩ := o_bind hf
    refine wr_Si (kc1 := 0) (ks1 := 0) 8 [] C dX0_luck_8 (tX0_isSeed l N   a1 μ2 (v8, μ7) h6) okX0_isSeed q1175 ⟨rfl, rfl, Nat.le_of_ble_eq_true rfl, Nat.le_of_ble_eq_true rfl, Nat.zero_le _, Nat.zero_le _⟩ (Nat.le_of_ble_eq_true rfl) rfl ?_
    refine wr_if_eq 11 37 C dX0_luck_11 (by decide) (fun c9 => ?_) (fun c9 => ?_)
    · replace hf := o_pos c9 hf
      refine wr_sub [] [] rfl ?_
      exact hJluck37  μ7 hf
    · replace hf := o_neg c9 hf
      refine wr_iload_n 14 C dX0_luck_14 2 rfl rfl ?_
      refine wr_i2l 15 C dX0_luck_15 ?_
      refine wr_lconst 16 C dX0_luck_16 (v := 1) rfl ?_
      refine wr_ldc2 17 C dX0_luck_17 q1191 ?_
      obtain ⟨v12, μ11, h10, hf⟩ := o_bind hf
      refine wr_Si (kc1 := 0) (ks1 := 0) 20 [] C dX0_luck_20 (tX0_isIn l N   (Int32.toInt64 a2) 1 20 μ7 (v12, μ11) h10) okX0_isIn q446 ⟨rfl, rfl, Nat.le_of_ble_eq_true rfl, Nat.le_of_ble_eq_true rfl, Nat.zero_le _, Nat.zero_le _⟩ (Nat.le_of_ble_eq_true rfl) rfl ?_
      refine wr_if_eq 23 37 C dX0_luck_23 (by decide) (fun c13 => ?_) (fun c13 => ?_)
      · replace hf := o_pos c13 hf
        refine wr_sub [] [] rfl ?_
        exact hJluck37  μ11 hf
      · replace hf := o_neg c13 hf
        refine wr_aload_n 26 C dX0_luck_26 0 rfl rfl ?_
        refine wr_aload_n 27 C dX0_luck_27 0 rfl rfl ?_
        refine gespX_0_14_X0 28 C dX0_luck_28 ?_
        obtain ⟨v16, μ15, h14, hf⟩ := o_bind hf
        refine wr_Vi (kc1 := 0) (ks1 := 0) 31 [] C dX0_luck_31 (tX0_marks l N 20   μ11 (v16, μ15) h14) okX0_marks q927 (b := 0) spX_0 rfl ⟨rfl, rfl, Nat.le_of_ble_eq_true rfl, Nat.le_of_ble_eq_true rfl, Nat.zero_le _, Nat.zero_le _⟩ (Nat.le_of_ble_eq_true rfl) rfl ?_
        refine wr_if_ne 34 40 C dX0_luck_34 (by decide) (fun c17 => ?_) (fun c17 => ?_)
        · replace hf := o_neg c17 hf
          refine wr_iconst 40 C dX0_luck_40 (v := 0) rfl ?_
          refine wr_istore_n 41 [(3, .int 0), (0, .ref (q 0)), (1, .int a1), (2, .int a2)] C dX0_luck_41 rfl rfl (Nat.le_of_ble_eq_true rfl) rfl ?_
          refine wr_iconst 42 C dX0_luck_42 (v := 0) rfl ?_
          refine wr_istore 43 [(4, .int 0), (3, .int 0), (0, .ref (q 0)), (1, .int a1), (2, .int a2)] C dX0_luck_43 rfl (Nat.le_of_ble_eq_true rfl) rfl ?_
          refine wr_sub [(0, .ref (q 0)), (1, .int a1), (2, .int a2), (3, .int 0), (4, .int 0)] [2, 3, 4, 1, 0] rfl ?_
          refine tX0_luck_45 C N   a1 a2 _ r0 (fun x28 μ27 hf => ?_) N 0 0 μ15 hf
          · replace hf := hf
            refine wr_iload_n 83 C dX0_luck_83 0 rfl rfl ?_
            exact wr_iret 84 C dX0_luck_84 ⟨Nat.zero_le _, Nat.zero_le _⟩ (Option.some.inj hf)
        · replace hf := o_pos c17 hf
          refine wr_sub [] [] rfl ?_
          exact hJluck37  μ15 hf
abbrev cX0_grow : ByteArray := prog_1_method_114_code
def yX0_grow : MethodName := ⟨RX0, "grow", "(II)I"⟩
def dkwX0_grow_1 : List UInt8 := [180, 0, 12, 180, 0, 140, 27, 46, 62, 42, 180, 0, 12, 180, 0, 140, 27, 28, 79, 29, 172]
abbrev dktX0_grow_1 : List UInt8 := dkwX0_grow_1 ++ []
def dkwX0_grow_0 : List UInt8 := [42, 27, 182, 0, 134, 153, 0, 15, 28, 133, 9, 20, 1, 97, 184, 0, 103, 154, 0, 6, 16, 254, 172, 42]
abbrev dktX0_grow_0 : List UInt8 := dkwX0_grow_0 ++ dktX0_grow_1
theorem dksX0_grow_0 : cX0_grow.data.toList.drop 0 = dktX0_grow_0 := by decide +kernel
theorem dksX0_grow_1 : cX0_grow.data.toList.drop 24 = dktX0_grow_1 := dk_seg dksX0_grow_0 24 rfl rfl
theorem dX0_grow_0 : decode cX0_grow 0 = .ok (.aload_n 0, 1) := dk_42 (dk_at dksX0_grow_0 0 rfl rfl)
theorem dX0_grow_1 : decode cX0_grow 1 = .ok (.iload_n 1, 1) := dk_27 (dk_at dksX0_grow_0 1 rfl rfl)
theorem dX0_grow_2 : decode cX0_grow 2 = .ok (.invokevirtual 134, 3) := dk_182 0 134 (dk_at dksX0_grow_0 2 rfl rfl)
theorem dX0_grow_5 : decode cX0_grow 5 = .ok (.ifCond .eq 15, 3) := dk_153 0 15 (dk_at dksX0_grow_0 5 rfl rfl)
theorem dX0_grow_8 : decode cX0_grow 8 = .ok (.iload_n 2, 1) := dk_28 (dk_at dksX0_grow_0 8 rfl rfl)
theorem dX0_grow_9 : decode cX0_grow 9 = .ok (.i2l, 1) := dk_133 (dk_at dksX0_grow_0 9 rfl rfl)
theorem dX0_grow_10 : decode cX0_grow 10 = .ok (.lconst 0, 1) := dk_9 (dk_at dksX0_grow_0 10 rfl rfl)
theorem dX0_grow_11 : decode cX0_grow 11 = .ok (.ldc2_w 353, 3) := dk_20 1 97 (dk_at dksX0_grow_0 11 rfl rfl)
theorem dX0_grow_14 : decode cX0_grow 14 = .ok (.invokestatic 103, 3) := dk_184 0 103 (dk_at dksX0_grow_0 14 rfl rfl)
theorem dX0_grow_17 : decode cX0_grow 17 = .ok (.ifCond .ne 6, 3) := dk_154 0 6 (dk_at dksX0_grow_0 17 rfl rfl)
theorem dX0_grow_20 : decode cX0_grow 20 = .ok (.bipush (-2), 2) := dk_16 254 (dk_at dksX0_grow_0 20 rfl rfl)
theorem dX0_grow_22 : decode cX0_grow 22 = .ok (.ireturn, 1) := dk_172 (dk_at dksX0_grow_0 22 rfl rfl)
theorem dX0_grow_23 : decode cX0_grow 23 = .ok (.aload_n 0, 1) := dk_42 (dk_at dksX0_grow_0 23 rfl rfl)
theorem dX0_grow_24 : decode cX0_grow 24 = .ok (.getfield 12, 3) := dk_180 0 12 (dk_at dksX0_grow_1 0 rfl rfl)
theorem dX0_grow_27 : decode cX0_grow 27 = .ok (.getfield 140, 3) := dk_180 0 140 (dk_at dksX0_grow_1 3 rfl rfl)
theorem dX0_grow_30 : decode cX0_grow 30 = .ok (.iload_n 1, 1) := dk_27 (dk_at dksX0_grow_1 6 rfl rfl)
theorem dX0_grow_31 : decode cX0_grow 31 = .ok (.iaload, 1) := dk_46 (dk_at dksX0_grow_1 7 rfl rfl)
theorem dX0_grow_32 : decode cX0_grow 32 = .ok (.istore_n 3, 1) := dk_62 (dk_at dksX0_grow_1 8 rfl rfl)
theorem dX0_grow_33 : decode cX0_grow 33 = .ok (.aload_n 0, 1) := dk_42 (dk_at dksX0_grow_1 9 rfl rfl)
theorem dX0_grow_34 : decode cX0_grow 34 = .ok (.getfield 12, 3) := dk_180 0 12 (dk_at dksX0_grow_1 10 rfl rfl)
theorem dX0_grow_37 : decode cX0_grow 37 = .ok (.getfield 140, 3) := dk_180 0 140 (dk_at dksX0_grow_1 13 rfl rfl)
theorem dX0_grow_40 : decode cX0_grow 40 = .ok (.iload_n 1, 1) := dk_27 (dk_at dksX0_grow_1 16 rfl rfl)
theorem dX0_grow_41 : decode cX0_grow 41 = .ok (.iload_n 2, 1) := dk_28 (dk_at dksX0_grow_1 17 rfl rfl)
theorem dX0_grow_42 : decode cX0_grow 42 = .ok (.iastore, 1) := dk_79 (dk_at dksX0_grow_1 18 rfl rfl)
theorem dX0_grow_43 : decode cX0_grow 43 = .ok (.iload_n 3, 1) := dk_29 (dk_at dksX0_grow_1 19 rfl rfl)
theorem dX0_grow_44 : decode cX0_grow 44 = .ok (.ireturn, 1) := dk_172 (dk_at dksX0_grow_1 20 rfl rfl)

theorem okX0_grow : wOkV yX0_grow cX0_grow 4 (some .int) 2 := ⟨q1193, q1194, q136, q1195, by decide, by decide, by decide +kernel⟩
def fX0_grow (N : Nat)  (a1 : Int32) (a2 : Int32) (μ : wMem) : Option (Int32 × wMem) :=
  wBind (fX0_isPerson N  a1 μ) fun v3 μ2 => wLet (fun  (μ4 : wMem) => some ((-2), μ4)) fun Jgrow20 => if v3 = 0 then Jgrow20  μ2 else wBind (fX0_isIn N  (Int32.toInt64 a2) 0 100 μ2) fun v8 μ7 => if v8 = 0 then Jgrow20  μ7 else wG (ok_in a1 6) (wLet (μ7.1 2 (Int32.toNatClampNeg a1) : Int32) fun x11 => wG (ok_in a1 6) (wLet (wSI μ7 2 (Int32.toNatClampNeg a1) a2) fun μ13 => some (x11, μ13)))
set_option maxHeartbeats 4000000 in
set_option maxRecDepth 100000 in
theorem tX0_grow (l : Launch) {D : va_G} {E : List wCell} {q : Nat → Nat} {ca : wCA} (N : Nat)   (a1 : Int32) (a2 : Int32) (μ : wMem) (r0 : (Int32 × wMem)) (hf : fX0_grow N  a1 a2 μ = some r0) : wMi l yX0_grow cX0_grow 4 (some .int) ({ frames := 2, cells := 0, slots := 0, locals := 46 } : Room) D vwCl (spX ++ E) q ca [.ref (q 0), .int a1, .int a2] μ r0 := by
  refine wMi_intro (by decide) (Nat.le_of_ble_eq_true rfl) ?_
  intro p e s m args below meth c A C
  unfold fX0_grow at hf
  refine wr_sub [(0, .ref (q 0)), (1, .int a1), (2, .int a2)] [0, 1, 2] rfl ?_
  refine wr_aload_n 0 C dX0_grow_0 0 rfl rfl ?_
  refine wr_iload_n 1 C dX0_grow_1 1 rfl rfl ?_
  obtain ⟨v3, μ2, h1, hf⟩ := o_bind hf
  refine wr_Vi (kc1 := 0) (ks1 := 0) 2 [] C dX0_grow_2 (tX0_isPerson l N   a1 μ (v3, μ2) h1) okX0_isPerson q702 (b := 0) spX_0 rfl ⟨rfl, rfl, Nat.le_of_ble_eq_true rfl, Nat.le_of_ble_eq_true rfl, Nat.zero_le _, Nat.zero_le _⟩ (Nat.le_of_ble_eq_true rfl) rfl ?_
  obtain ⟨Jgrow20, eJgrow20, hf⟩ := o_let hf
  have hJgrow20 : ∀  (μ4 : wMem), Jgrow20  μ4 = some r0 → wJ p l e ({ frames := 2, cells := 0, slots := 0, locals := 46 } : Room) s m args below meth c 4 D vwCl (spX ++ E) q ca A (wQi ({ frames := 2, cells := 0, slots := 0, locals := 46 } : Room) D vwCl (spX ++ E) q ca below args s A r0) 0 0 μ4 20 [] [] := by
    intro  μ4 hf
    rw [eJgrow20] at hf
    refine wr_bipush 20 C dX0_grow_20 (v := (-2)) rfl ?_
    exact wr_iret 22 C dX0_grow_22 ⟨Nat.zero_le _, Nat.zero_le _⟩ (Option.some.inj hf)
  refine wr_if_eq 5 20 C dX0_grow_5 (by decide) (fun c5 => ?_) (fun c5 => ?_)
  · replace hf := o_pos c5 hf
    refine wr_sub [] [] rfl ?_
    exact hJgrow20  μ2 hf
  · replace hf := o_neg c5 hf
    refine wr_iload_n 8 C dX0_grow_8 2 rfl rfl ?_
    refine wr_i2l 9 C dX0_grow_9 ?_
    refine wr_lconst 10 C dX0_grow_10 (v := 0) rfl ?_
    refine wr_ldc2 11 C dX0_grow_11 q969 ?_
    obtain ⟨v8, μ7, h6, hf⟩ := o_bind hf
    refine wr_Si (kc1 := 0) (ks1 := 0) 14 [] C dX0_grow_14 (tX0_isIn l N   (Int32.toInt64 a2) 0 100 μ2 (v8, μ7) h6) okX0_isIn q446 ⟨rfl, rfl, Nat.le_of_ble_eq_true rfl, Nat.le_of_ble_eq_true rfl, Nat.zero_le _, Nat.zero_le _⟩ (Nat.le_of_ble_eq_true rfl) rfl ?_
    refine wr_if_ne 17 23 C dX0_grow_17 (by decide) (fun c9 => ?_) (fun c9 => ?_)
    · replace hf := o_neg c9 hf
      refine wr_aload_n 23 C dX0_grow_23 0 rfl rfl ?_
      refine gespX_0_0_X0 24 C dX0_grow_24 ?_
      refine gespX_1_8_X0 27 C dX0_grow_27 ?_
      refine wr_iload_n 30 C dX0_grow_30 1 rfl rfl ?_
      obtain ⟨g10, hf⟩ := o_g hf
      refine wr_iald 31 C dX0_grow_31 spX_2 g10 ?_
      obtain ⟨x11, ex11, hf⟩ := o_let hf
      refine wr_istore_n 32 [(3, .int x11), (0, .ref (q 0)), (1, .int a1), (2, .int a2)] C dX0_grow_32 ex11 rfl (Nat.le_of_ble_eq_true rfl) rfl ?_
      refine wr_aload_n 33 C dX0_grow_33 1 rfl rfl ?_
      refine gespX_0_0_X0 34 C dX0_grow_34 ?_
      refine gespX_1_8_X0 37 C dX0_grow_37 ?_
      refine wr_iload_n 40 C dX0_grow_40 2 rfl rfl ?_
      refine wr_iload_n 41 C dX0_grow_41 3 rfl rfl ?_
      obtain ⟨g12, hf⟩ := o_g hf
      obtain ⟨μ13, eμ13, hf⟩ := o_let hf
      refine wr_iast 42 C dX0_grow_42 spX_2 g12 eμ13 ?_
      refine wr_iload_n 43 C dX0_grow_43 0 rfl rfl ?_
      exact wr_iret 44 C dX0_grow_44 ⟨Nat.zero_le _, Nat.zero_le _⟩ (Option.some.inj hf)
    · replace hf := o_pos c9 hf
      refine wr_sub [] [] rfl ?_
      exact hJgrow20  μ7 hf
abbrev cX0_guard : ByteArray := prog_1_method_115_code
def yX0_guard : MethodName := ⟨RX0, "guard", "(II)I"⟩
def dkwX0_guard_1 : List UInt8 := [180, 0, 12, 180, 0, 143, 27, 46, 62, 42, 180, 0, 12, 180, 0, 143, 27, 28, 79, 29, 172]
abbrev dktX0_guard_1 : List UInt8 := dkwX0_guard_1 ++ []
def dkwX0_guard_0 : List UInt8 := [42, 27, 182, 0, 146, 153, 0, 15, 28, 133, 9, 20, 1, 97, 184, 0, 103, 154, 0, 6, 16, 254, 172, 42]
abbrev dktX0_guard_0 : List UInt8 := dkwX0_guard_0 ++ dktX0_guard_1
theorem dksX0_guard_0 : cX0_guard.data.toList.drop 0 = dktX0_guard_0 := by decide +kernel
theorem dksX0_guard_1 : cX0_guard.data.toList.drop 24 = dktX0_guard_1 := dk_seg dksX0_guard_0 24 rfl rfl
theorem dX0_guard_0 : decode cX0_guard 0 = .ok (.aload_n 0, 1) := dk_42 (dk_at dksX0_guard_0 0 rfl rfl)
theorem dX0_guard_1 : decode cX0_guard 1 = .ok (.iload_n 1, 1) := dk_27 (dk_at dksX0_guard_0 1 rfl rfl)
theorem dX0_guard_2 : decode cX0_guard 2 = .ok (.invokevirtual 146, 3) := dk_182 0 146 (dk_at dksX0_guard_0 2 rfl rfl)
theorem dX0_guard_5 : decode cX0_guard 5 = .ok (.ifCond .eq 15, 3) := dk_153 0 15 (dk_at dksX0_guard_0 5 rfl rfl)
theorem dX0_guard_8 : decode cX0_guard 8 = .ok (.iload_n 2, 1) := dk_28 (dk_at dksX0_guard_0 8 rfl rfl)
theorem dX0_guard_9 : decode cX0_guard 9 = .ok (.i2l, 1) := dk_133 (dk_at dksX0_guard_0 9 rfl rfl)
theorem dX0_guard_10 : decode cX0_guard 10 = .ok (.lconst 0, 1) := dk_9 (dk_at dksX0_guard_0 10 rfl rfl)
theorem dX0_guard_11 : decode cX0_guard 11 = .ok (.ldc2_w 353, 3) := dk_20 1 97 (dk_at dksX0_guard_0 11 rfl rfl)
theorem dX0_guard_14 : decode cX0_guard 14 = .ok (.invokestatic 103, 3) := dk_184 0 103 (dk_at dksX0_guard_0 14 rfl rfl)
theorem dX0_guard_17 : decode cX0_guard 17 = .ok (.ifCond .ne 6, 3) := dk_154 0 6 (dk_at dksX0_guard_0 17 rfl rfl)
theorem dX0_guard_20 : decode cX0_guard 20 = .ok (.bipush (-2), 2) := dk_16 254 (dk_at dksX0_guard_0 20 rfl rfl)
theorem dX0_guard_22 : decode cX0_guard 22 = .ok (.ireturn, 1) := dk_172 (dk_at dksX0_guard_0 22 rfl rfl)
theorem dX0_guard_23 : decode cX0_guard 23 = .ok (.aload_n 0, 1) := dk_42 (dk_at dksX0_guard_0 23 rfl rfl)
theorem dX0_guard_24 : decode cX0_guard 24 = .ok (.getfield 12, 3) := dk_180 0 12 (dk_at dksX0_guard_1 0 rfl rfl)
theorem dX0_guard_27 : decode cX0_guard 27 = .ok (.getfield 143, 3) := dk_180 0 143 (dk_at dksX0_guard_1 3 rfl rfl)
theorem dX0_guard_30 : decode cX0_guard 30 = .ok (.iload_n 1, 1) := dk_27 (dk_at dksX0_guard_1 6 rfl rfl)
theorem dX0_guard_31 : decode cX0_guard 31 = .ok (.iaload, 1) := dk_46 (dk_at dksX0_guard_1 7 rfl rfl)
theorem dX0_guard_32 : decode cX0_guard 32 = .ok (.istore_n 3, 1) := dk_62 (dk_at dksX0_guard_1 8 rfl rfl)
theorem dX0_guard_33 : decode cX0_guard 33 = .ok (.aload_n 0, 1) := dk_42 (dk_at dksX0_guard_1 9 rfl rfl)
theorem dX0_guard_34 : decode cX0_guard 34 = .ok (.getfield 12, 3) := dk_180 0 12 (dk_at dksX0_guard_1 10 rfl rfl)
theorem dX0_guard_37 : decode cX0_guard 37 = .ok (.getfield 143, 3) := dk_180 0 143 (dk_at dksX0_guard_1 13 rfl rfl)
theorem dX0_guard_40 : decode cX0_guard 40 = .ok (.iload_n 1, 1) := dk_27 (dk_at dksX0_guard_1 16 rfl rfl)
theorem dX0_guard_41 : decode cX0_guard 41 = .ok (.iload_n 2, 1) := dk_28 (dk_at dksX0_guard_1 17 rfl rfl)
theorem dX0_guard_42 : decode cX0_guard 42 = .ok (.iastore, 1) := dk_79 (dk_at dksX0_guard_1 18 rfl rfl)
theorem dX0_guard_43 : decode cX0_guard 43 = .ok (.iload_n 3, 1) := dk_29 (dk_at dksX0_guard_1 19 rfl rfl)
theorem dX0_guard_44 : decode cX0_guard 44 = .ok (.ireturn, 1) := dk_172 (dk_at dksX0_guard_1 20 rfl rfl)

theorem okX0_guard : wOkV yX0_guard cX0_guard 4 (some .int) 2 := ⟨q1197, q1198, q136, q1199, by decide, by decide, by decide +kernel⟩
def fX0_guard (N : Nat)  (a1 : Int32) (a2 : Int32) (μ : wMem) : Option (Int32 × wMem) :=
  wBind (fX0_isPost N  a1 μ) fun v3 μ2 => wLet (fun  (μ4 : wMem) => some ((-2), μ4)) fun Jguard20 => if v3 = 0 then Jguard20  μ2 else wBind (fX0_isIn N  (Int32.toInt64 a2) 0 100 μ2) fun v8 μ7 => if v8 = 0 then Jguard20  μ7 else wG (ok_in a1 2) (wLet (μ7.1 4 (Int32.toNatClampNeg a1) : Int32) fun x11 => wG (ok_in a1 2) (wLet (wSI μ7 4 (Int32.toNatClampNeg a1) a2) fun μ13 => some (x11, μ13)))
set_option maxHeartbeats 4000000 in
set_option maxRecDepth 100000 in
theorem tX0_guard (l : Launch) {D : va_G} {E : List wCell} {q : Nat → Nat} {ca : wCA} (N : Nat)   (a1 : Int32) (a2 : Int32) (μ : wMem) (r0 : (Int32 × wMem)) (hf : fX0_guard N  a1 a2 μ = some r0) : wMi l yX0_guard cX0_guard 4 (some .int) ({ frames := 2, cells := 0, slots := 0, locals := 46 } : Room) D vwCl (spX ++ E) q ca [.ref (q 0), .int a1, .int a2] μ r0 := by
  refine wMi_intro (by decide) (Nat.le_of_ble_eq_true rfl) ?_
  intro p e s m args below meth c A C
  unfold fX0_guard at hf
  refine wr_sub [(0, .ref (q 0)), (1, .int a1), (2, .int a2)] [0, 1, 2] rfl ?_
  refine wr_aload_n 0 C dX0_guard_0 0 rfl rfl ?_
  refine wr_iload_n 1 C dX0_guard_1 1 rfl rfl ?_
  obtain ⟨v3, μ2, h1, hf⟩ := o_bind hf
  refine wr_Vi (kc1 := 0) (ks1 := 0) 2 [] C dX0_guard_2 (tX0_isPost l N   a1 μ (v3, μ2) h1) okX0_isPost q706 (b := 0) spX_0 rfl ⟨rfl, rfl, Nat.le_of_ble_eq_true rfl, Nat.le_of_ble_eq_true rfl, Nat.zero_le _, Nat.zero_le _⟩ (Nat.le_of_ble_eq_true rfl) rfl ?_
  obtain ⟨Jguard20, eJguard20, hf⟩ := o_let hf
  have hJguard20 : ∀  (μ4 : wMem), Jguard20  μ4 = some r0 → wJ p l e ({ frames := 2, cells := 0, slots := 0, locals := 46 } : Room) s m args below meth c 4 D vwCl (spX ++ E) q ca A (wQi ({ frames := 2, cells := 0, slots := 0, locals := 46 } : Room) D vwCl (spX ++ E) q ca below args s A r0) 0 0 μ4 20 [] [] := by
    intro  μ4 hf
    rw [eJguard20] at hf
    refine wr_bipush 20 C dX0_guard_20 (v := (-2)) rfl ?_
    exact wr_iret 22 C dX0_guard_22 ⟨Nat.zero_le _, Nat.zero_le _⟩ (Option.some.inj hf)
  refine wr_if_eq 5 20 C dX0_guard_5 (by decide) (fun c5 => ?_) (fun c5 => ?_)
  · replace hf := o_pos c5 hf
    refine wr_sub [] [] rfl ?_
    exact hJguard20  μ2 hf
  · replace hf := o_neg c5 hf
    refine wr_iload_n 8 C dX0_guard_8 2 rfl rfl ?_
    refine wr_i2l 9 C dX0_guard_9 ?_
    refine wr_lconst 10 C dX0_guard_10 (v := 0) rfl ?_
    refine wr_ldc2 11 C dX0_guard_11 q969 ?_
    obtain ⟨v8, μ7, h6, hf⟩ := o_bind hf
    refine wr_Si (kc1 := 0) (ks1 := 0) 14 [] C dX0_guard_14 (tX0_isIn l N   (Int32.toInt64 a2) 0 100 μ2 (v8, μ7) h6) okX0_isIn q446 ⟨rfl, rfl, Nat.le_of_ble_eq_true rfl, Nat.le_of_ble_eq_true rfl, Nat.zero_le _, Nat.zero_le _⟩ (Nat.le_of_ble_eq_true rfl) rfl ?_
    refine wr_if_ne 17 23 C dX0_guard_17 (by decide) (fun c9 => ?_) (fun c9 => ?_)
    · replace hf := o_neg c9 hf
      refine wr_aload_n 23 C dX0_guard_23 0 rfl rfl ?_
      refine gespX_0_0_X0 24 C dX0_guard_24 ?_
      refine gespX_1_10_X0 27 C dX0_guard_27 ?_
      refine wr_iload_n 30 C dX0_guard_30 1 rfl rfl ?_
      obtain ⟨g10, hf⟩ := o_g hf
      refine wr_iald 31 C dX0_guard_31 spX_4 g10 ?_
      obtain ⟨x11, ex11, hf⟩ := o_let hf
      refine wr_istore_n 32 [(3, .int x11), (0, .ref (q 0)), (1, .int a1), (2, .int a2)] C dX0_guard_32 ex11 rfl (Nat.le_of_ble_eq_true rfl) rfl ?_
      refine wr_aload_n 33 C dX0_guard_33 1 rfl rfl ?_
      refine gespX_0_0_X0 34 C dX0_guard_34 ?_
      refine gespX_1_10_X0 37 C dX0_guard_37 ?_
      refine wr_iload_n 40 C dX0_guard_40 2 rfl rfl ?_
      refine wr_iload_n 41 C dX0_guard_41 3 rfl rfl ?_
      obtain ⟨g12, hf⟩ := o_g hf
      obtain ⟨μ13, eμ13, hf⟩ := o_let hf
      refine wr_iast 42 C dX0_guard_42 spX_4 g12 eμ13 ?_
      refine wr_iload_n 43 C dX0_guard_43 0 rfl rfl ?_
      exact wr_iret 44 C dX0_guard_44 ⟨Nat.zero_le _, Nat.zero_le _⟩ (Option.some.inj hf)
    · replace hf := o_pos c9 hf
      refine wr_sub [] [] rfl ?_
      exact hJguard20  μ7 hf
abbrev cX0_stay : ByteArray := prog_1_method_116_code
def yX0_stay : MethodName := ⟨RX0, "stay", "(II)I"⟩
def dkwX0_stay_2 : List UInt8 := [126, 28, 27, 120, 128, 181, 0, 219, 29, 172]
abbrev dktX0_stay_2 : List UInt8 := dkwX0_stay_2 ++ []
def dkwX0_stay_1 : List UInt8 := [180, 0, 219, 27, 122, 4, 126, 62, 42, 180, 0, 12, 42, 180, 0, 12, 180, 0, 219, 4, 27, 120, 2, 130]
abbrev dktX0_stay_1 : List UInt8 := dkwX0_stay_1 ++ dktX0_stay_2
def dkwX0_stay_0 : List UInt8 := [42, 27, 182, 0, 134, 153, 0, 11, 28, 5, 184, 0, 246, 154, 0, 6, 16, 254, 172, 42, 180, 0, 12]
abbrev dktX0_stay_0 : List UInt8 := dkwX0_stay_0 ++ dktX0_stay_1
theorem dksX0_stay_0 : cX0_stay.data.toList.drop 0 = dktX0_stay_0 := by decide +kernel
theorem dksX0_stay_1 : cX0_stay.data.toList.drop 23 = dktX0_stay_1 := dk_seg dksX0_stay_0 23 rfl rfl
theorem dksX0_stay_2 : cX0_stay.data.toList.drop 47 = dktX0_stay_2 := dk_seg dksX0_stay_1 24 rfl rfl
theorem dX0_stay_0 : decode cX0_stay 0 = .ok (.aload_n 0, 1) := dk_42 (dk_at dksX0_stay_0 0 rfl rfl)
theorem dX0_stay_1 : decode cX0_stay 1 = .ok (.iload_n 1, 1) := dk_27 (dk_at dksX0_stay_0 1 rfl rfl)
theorem dX0_stay_2 : decode cX0_stay 2 = .ok (.invokevirtual 134, 3) := dk_182 0 134 (dk_at dksX0_stay_0 2 rfl rfl)
theorem dX0_stay_5 : decode cX0_stay 5 = .ok (.ifCond .eq 11, 3) := dk_153 0 11 (dk_at dksX0_stay_0 5 rfl rfl)
theorem dX0_stay_8 : decode cX0_stay 8 = .ok (.iload_n 2, 1) := dk_28 (dk_at dksX0_stay_0 8 rfl rfl)
theorem dX0_stay_9 : decode cX0_stay 9 = .ok (.iconst 2, 1) := dk_5 (dk_at dksX0_stay_0 9 rfl rfl)
theorem dX0_stay_10 : decode cX0_stay 10 = .ok (.invokestatic 246, 3) := dk_184 0 246 (dk_at dksX0_stay_0 10 rfl rfl)
theorem dX0_stay_13 : decode cX0_stay 13 = .ok (.ifCond .ne 6, 3) := dk_154 0 6 (dk_at dksX0_stay_0 13 rfl rfl)
theorem dX0_stay_16 : decode cX0_stay 16 = .ok (.bipush (-2), 2) := dk_16 254 (dk_at dksX0_stay_0 16 rfl rfl)
theorem dX0_stay_18 : decode cX0_stay 18 = .ok (.ireturn, 1) := dk_172 (dk_at dksX0_stay_0 18 rfl rfl)
theorem dX0_stay_19 : decode cX0_stay 19 = .ok (.aload_n 0, 1) := dk_42 (dk_at dksX0_stay_0 19 rfl rfl)
theorem dX0_stay_20 : decode cX0_stay 20 = .ok (.getfield 12, 3) := dk_180 0 12 (dk_at dksX0_stay_0 20 rfl rfl)
theorem dX0_stay_23 : decode cX0_stay 23 = .ok (.getfield 219, 3) := dk_180 0 219 (dk_at dksX0_stay_1 0 rfl rfl)
theorem dX0_stay_26 : decode cX0_stay 26 = .ok (.iload_n 1, 1) := dk_27 (dk_at dksX0_stay_1 3 rfl rfl)
theorem dX0_stay_27 : decode cX0_stay 27 = .ok (.ishr, 1) := dk_122 (dk_at dksX0_stay_1 4 rfl rfl)
theorem dX0_stay_28 : decode cX0_stay 28 = .ok (.iconst 1, 1) := dk_4 (dk_at dksX0_stay_1 5 rfl rfl)
theorem dX0_stay_29 : decode cX0_stay 29 = .ok (.iand, 1) := dk_126 (dk_at dksX0_stay_1 6 rfl rfl)
theorem dX0_stay_30 : decode cX0_stay 30 = .ok (.istore_n 3, 1) := dk_62 (dk_at dksX0_stay_1 7 rfl rfl)
theorem dX0_stay_31 : decode cX0_stay 31 = .ok (.aload_n 0, 1) := dk_42 (dk_at dksX0_stay_1 8 rfl rfl)
theorem dX0_stay_32 : decode cX0_stay 32 = .ok (.getfield 12, 3) := dk_180 0 12 (dk_at dksX0_stay_1 9 rfl rfl)
theorem dX0_stay_35 : decode cX0_stay 35 = .ok (.aload_n 0, 1) := dk_42 (dk_at dksX0_stay_1 12 rfl rfl)
theorem dX0_stay_36 : decode cX0_stay 36 = .ok (.getfield 12, 3) := dk_180 0 12 (dk_at dksX0_stay_1 13 rfl rfl)
theorem dX0_stay_39 : decode cX0_stay 39 = .ok (.getfield 219, 3) := dk_180 0 219 (dk_at dksX0_stay_1 16 rfl rfl)
theorem dX0_stay_42 : decode cX0_stay 42 = .ok (.iconst 1, 1) := dk_4 (dk_at dksX0_stay_1 19 rfl rfl)
theorem dX0_stay_43 : decode cX0_stay 43 = .ok (.iload_n 1, 1) := dk_27 (dk_at dksX0_stay_1 20 rfl rfl)
theorem dX0_stay_44 : decode cX0_stay 44 = .ok (.ishl, 1) := dk_120 (dk_at dksX0_stay_1 21 rfl rfl)
theorem dX0_stay_45 : decode cX0_stay 45 = .ok (.iconst (-1), 1) := dk_2 (dk_at dksX0_stay_1 22 rfl rfl)
theorem dX0_stay_46 : decode cX0_stay 46 = .ok (.ixor, 1) := dk_130 (dk_at dksX0_stay_1 23 rfl rfl)
theorem dX0_stay_47 : decode cX0_stay 47 = .ok (.iand, 1) := dk_126 (dk_at dksX0_stay_2 0 rfl rfl)
theorem dX0_stay_48 : decode cX0_stay 48 = .ok (.iload_n 2, 1) := dk_28 (dk_at dksX0_stay_2 1 rfl rfl)
theorem dX0_stay_49 : decode cX0_stay 49 = .ok (.iload_n 1, 1) := dk_27 (dk_at dksX0_stay_2 2 rfl rfl)
theorem dX0_stay_50 : decode cX0_stay 50 = .ok (.ishl, 1) := dk_120 (dk_at dksX0_stay_2 3 rfl rfl)
theorem dX0_stay_51 : decode cX0_stay 51 = .ok (.ior, 1) := dk_128 (dk_at dksX0_stay_2 4 rfl rfl)
theorem dX0_stay_52 : decode cX0_stay 52 = .ok (.putfield 219, 3) := dk_181 0 219 (dk_at dksX0_stay_2 5 rfl rfl)
theorem dX0_stay_55 : decode cX0_stay 55 = .ok (.iload_n 3, 1) := dk_29 (dk_at dksX0_stay_2 8 rfl rfl)
theorem dX0_stay_56 : decode cX0_stay 56 = .ok (.ireturn, 1) := dk_172 (dk_at dksX0_stay_2 9 rfl rfl)
theorem puspX_1_5_X0 {p : Program} {l : Launch} {e : Env} {R : Room} {s : State} {m : MethodId} {args : Array Value} {below : List Frame} {meth : Method} {c : Code} {cc : ByteArray} {nL : Nat} {ret : Option FieldType} {D : va_G} {E : List wCell} {q : Nat → Nat} {ca : wCA} {A : Nat → Prop} {Q : State → Prop} {kc ks : Nat} {μ : wMem} {lv : List (Nat × Value)} {st : List Value} {v : Int32} {μ1 : wMem} (pc : Nat) (C : wC p R s m args meth c cc "OnePassport" nL ret D vwCl (spX ++ E) q ca A) (hd : decode cc pc = .ok (.putfield 219, 3)) (hμ : μ1 = wSI μ 1 5 v) (k : wJ p l e R s m args below meth c nL D vwCl (spX ++ E) q ca A Q kc ks μ1 (pc + 3) lv st) : wJ p l e R s m args below meth c nL D vwCl (spX ++ E) q ca A Q kc ks μ pc lv (.int v :: .ref (q 1) :: st) := wr_putNI pc 5 C hd spX_1 rfl in_X1 tyX1 tyX1_ok nmX1 (by decide) rfl q200 rfl rfl hμ k
theorem okX0_stay : wOkV yX0_stay cX0_stay 4 (some .int) 2 := ⟨q1201, q1202, q136, q1203, by decide, by decide, by decide +kernel⟩
def fX0_stay (N : Nat)  (a1 : Int32) (a2 : Int32) (μ : wMem) : Option (Int32 × wMem) :=
  wBind (fX0_isPerson N  a1 μ) fun v3 μ2 => wLet (fun  (μ4 : wMem) => some ((-2), μ4)) fun Jstay16 => if v3 = 0 then Jstay16  μ2 else wBind (fX0_isOneOf N  a2 2 μ2) fun v8 μ7 => if v8 = 0 then Jstay16  μ7 else wLet (((μ7.1 1 5) >>> (a1 &&& 31)) &&& (1 : Int32) : Int32) fun x10 => wLet (wSI μ7 1 5 (((μ7.1 1 5) &&& (((1 : Int32) <<< (a1 &&& 31)) ^^^ (-1 : Int32))) ||| (a2 <<< (a1 &&& 31)))) fun μ11 => some (x10, μ11)
set_option maxHeartbeats 4000000 in
set_option maxRecDepth 100000 in
theorem tX0_stay (l : Launch) {D : va_G} {E : List wCell} {q : Nat → Nat} {ca : wCA} (N : Nat)   (a1 : Int32) (a2 : Int32) (μ : wMem) (r0 : (Int32 × wMem)) (hf : fX0_stay N  a1 a2 μ = some r0) : wMi l yX0_stay cX0_stay 4 (some .int) ({ frames := 2, cells := 0, slots := 0, locals := 46 } : Room) D vwCl (spX ++ E) q ca [.ref (q 0), .int a1, .int a2] μ r0 := by
  refine wMi_intro (by decide) (Nat.le_of_ble_eq_true rfl) ?_
  intro p e s m args below meth c A C
  unfold fX0_stay at hf
  refine wr_sub [(0, .ref (q 0)), (1, .int a1), (2, .int a2)] [0, 1, 2] rfl ?_
  refine wr_aload_n 0 C dX0_stay_0 0 rfl rfl ?_
  refine wr_iload_n 1 C dX0_stay_1 1 rfl rfl ?_
  obtain ⟨v3, μ2, h1, hf⟩ := o_bind hf
  refine wr_Vi (kc1 := 0) (ks1 := 0) 2 [] C dX0_stay_2 (tX0_isPerson l N   a1 μ (v3, μ2) h1) okX0_isPerson q702 (b := 0) spX_0 rfl ⟨rfl, rfl, Nat.le_of_ble_eq_true rfl, Nat.le_of_ble_eq_true rfl, Nat.zero_le _, Nat.zero_le _⟩ (Nat.le_of_ble_eq_true rfl) rfl ?_
  obtain ⟨Jstay16, eJstay16, hf⟩ := o_let hf
  have hJstay16 : ∀  (μ4 : wMem), Jstay16  μ4 = some r0 → wJ p l e ({ frames := 2, cells := 0, slots := 0, locals := 46 } : Room) s m args below meth c 4 D vwCl (spX ++ E) q ca A (wQi ({ frames := 2, cells := 0, slots := 0, locals := 46 } : Room) D vwCl (spX ++ E) q ca below args s A r0) 0 0 μ4 16 [] [] := by
    intro  μ4 hf
    rw [eJstay16] at hf
    refine wr_bipush 16 C dX0_stay_16 (v := (-2)) rfl ?_
    exact wr_iret 18 C dX0_stay_18 ⟨Nat.zero_le _, Nat.zero_le _⟩ (Option.some.inj hf)
  refine wr_if_eq 5 16 C dX0_stay_5 (by decide) (fun c5 => ?_) (fun c5 => ?_)
  · replace hf := o_pos c5 hf
    refine wr_sub [] [] rfl ?_
    exact hJstay16  μ2 hf
  · replace hf := o_neg c5 hf
    refine wr_iload_n 8 C dX0_stay_8 2 rfl rfl ?_
    refine wr_iconst 9 C dX0_stay_9 (v := 2) rfl ?_
    obtain ⟨v8, μ7, h6, hf⟩ := o_bind hf
    refine wr_Si (kc1 := 0) (ks1 := 0) 10 [] C dX0_stay_10 (tX0_isOneOf l N   a2 2 μ2 (v8, μ7) h6) okX0_isOneOf q734 ⟨rfl, rfl, Nat.le_of_ble_eq_true rfl, Nat.le_of_ble_eq_true rfl, Nat.zero_le _, Nat.zero_le _⟩ (Nat.le_of_ble_eq_true rfl) rfl ?_
    refine wr_if_ne 13 19 C dX0_stay_13 (by decide) (fun c9 => ?_) (fun c9 => ?_)
    · replace hf := o_neg c9 hf
      refine wr_aload_n 19 C dX0_stay_19 0 rfl rfl ?_
      refine gespX_0_0_X0 20 C dX0_stay_20 ?_
      refine gespX_1_5_X0 23 C dX0_stay_23 ?_
      refine wr_iload_n 26 C dX0_stay_26 1 rfl rfl ?_
      refine wr_ishr 27 C dX0_stay_27 ?_
      refine wr_iconst 28 C dX0_stay_28 (v := 1) rfl ?_
      refine wr_iand 29 C dX0_stay_29 ?_
      obtain ⟨x10, ex10, hf⟩ := o_let hf
      refine wr_istore_n 30 [(3, .int x10), (0, .ref (q 0)), (1, .int a1), (2, .int a2)] C dX0_stay_30 ex10 rfl (Nat.le_of_ble_eq_true rfl) rfl ?_
      refine wr_aload_n 31 C dX0_stay_31 1 rfl rfl ?_
      refine gespX_0_0_X0 32 C dX0_stay_32 ?_
      refine wr_aload_n 35 C dX0_stay_35 1 rfl rfl ?_
      refine gespX_0_0_X0 36 C dX0_stay_36 ?_
      refine gespX_1_5_X0 39 C dX0_stay_39 ?_
      refine wr_iconst 42 C dX0_stay_42 (v := 1) rfl ?_
      refine wr_iload_n 43 C dX0_stay_43 2 rfl rfl ?_
      refine wr_ishl 44 C dX0_stay_44 ?_
      refine wr_iconst 45 C dX0_stay_45 (v := (-1)) rfl ?_
      refine wr_ixor 46 C dX0_stay_46 ?_
      refine wr_iand 47 C dX0_stay_47 ?_
      refine wr_iload_n 48 C dX0_stay_48 3 rfl rfl ?_
      refine wr_iload_n 49 C dX0_stay_49 2 rfl rfl ?_
      refine wr_ishl 50 C dX0_stay_50 ?_
      refine wr_ior 51 C dX0_stay_51 ?_
      obtain ⟨μ11, eμ11, hf⟩ := o_let hf
      refine puspX_1_5_X0 52 C dX0_stay_52 eμ11 ?_
      refine wr_iload_n 55 C dX0_stay_55 0 rfl rfl ?_
      exact wr_iret 56 C dX0_stay_56 ⟨Nat.zero_le _, Nat.zero_le _⟩ (Option.some.inj hf)
    · replace hf := o_pos c9 hf
      refine wr_sub [] [] rfl ?_
      exact hJstay16  μ7 hf
