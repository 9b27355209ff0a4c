set_option maxRecDepth 100000
abbrev cX6_till : ByteArray := prog_11_method_94_code
def yX6_till : MethodName := ⟨RX6, "till", "(I)I"⟩
def dkwX6_till_1 : List UInt8 := [28, 19, 1, 101, 160, 0, 7, 2, 167, 0, 4, 28, 172]
abbrev dktX6_till_1 : List UInt8 := dkwX6_till_1 ++ []
def dkwX6_till_0 : List UInt8 := [42, 3, 181, 0, 88, 42, 27, 182, 1, 135, 154, 0, 6, 16, 254, 172, 42, 4, 27, 3, 182, 1, 120, 61]
abbrev dktX6_till_0 : List UInt8 := dkwX6_till_0 ++ dktX6_till_1
theorem dksX6_till_0 : cX6_till.data.toList.drop 0 = dktX6_till_0 := by decide +kernel
theorem dksX6_till_1 : cX6_till.data.toList.drop 24 = dktX6_till_1 := dk_seg dksX6_till_0 24 rfl rfl
theorem dX6_till_0 : decode cX6_till 0 = .ok (.aload_n 0, 1) := dk_42 (dk_at dksX6_till_0 0 rfl rfl)
theorem dX6_till_1 : decode cX6_till 1 = .ok (.iconst 0, 1) := dk_3 (dk_at dksX6_till_0 1 rfl rfl)
theorem dX6_till_2 : decode cX6_till 2 = .ok (.putfield 88, 3) := dk_181 0 88 (dk_at dksX6_till_0 2 rfl rfl)
theorem dX6_till_5 : decode cX6_till 5 = .ok (.aload_n 0, 1) := dk_42 (dk_at dksX6_till_0 5 rfl rfl)
theorem dX6_till_6 : decode cX6_till 6 = .ok (.iload_n 1, 1) := dk_27 (dk_at dksX6_till_0 6 rfl rfl)
theorem dX6_till_7 : decode cX6_till 7 = .ok (.invokevirtual 391, 3) := dk_182 1 135 (dk_at dksX6_till_0 7 rfl rfl)
theorem dX6_till_10 : decode cX6_till 10 = .ok (.ifCond .ne 6, 3) := dk_154 0 6 (dk_at dksX6_till_0 10 rfl rfl)
theorem dX6_till_13 : decode cX6_till 13 = .ok (.bipush (-2), 2) := dk_16 254 (dk_at dksX6_till_0 13 rfl rfl)
theorem dX6_till_15 : decode cX6_till 15 = .ok (.ireturn, 1) := dk_172 (dk_at dksX6_till_0 15 rfl rfl)
theorem dX6_till_16 : decode cX6_till 16 = .ok (.aload_n 0, 1) := dk_42 (dk_at dksX6_till_0 16 rfl rfl)
theorem dX6_till_17 : decode cX6_till 17 = .ok (.iconst 1, 1) := dk_4 (dk_at dksX6_till_0 17 rfl rfl)
theorem dX6_till_18 : decode cX6_till 18 = .ok (.iload_n 1, 1) := dk_27 (dk_at dksX6_till_0 18 rfl rfl)
theorem dX6_till_19 : decode cX6_till 19 = .ok (.iconst 0, 1) := dk_3 (dk_at dksX6_till_0 19 rfl rfl)
theorem dX6_till_20 : decode cX6_till 20 = .ok (.invokevirtual 376, 3) := dk_182 1 120 (dk_at dksX6_till_0 20 rfl rfl)
theorem dX6_till_23 : decode cX6_till 23 = .ok (.istore_n 2, 1) := dk_61 (dk_at dksX6_till_0 23 rfl rfl)
theorem dX6_till_24 : decode cX6_till 24 = .ok (.iload_n 2, 1) := dk_28 (dk_at dksX6_till_1 0 rfl rfl)
theorem dX6_till_25 : decode cX6_till 25 = .ok (.ldc_w 357, 3) := dk_19 1 101 (dk_at dksX6_till_1 1 rfl rfl)
theorem dX6_till_28 : decode cX6_till 28 = .ok (.if_icmp .ne 7, 3) := dk_160 0 7 (dk_at dksX6_till_1 4 rfl rfl)
theorem dX6_till_31 : decode cX6_till 31 = .ok (.iconst (-1), 1) := dk_2 (dk_at dksX6_till_1 7 rfl rfl)
theorem dX6_till_32 : decode cX6_till 32 = .ok (.goto 4, 3) := dk_167 0 4 (dk_at dksX6_till_1 8 rfl rfl)
theorem dX6_till_35 : decode cX6_till 35 = .ok (.iload_n 2, 1) := dk_28 (dk_at dksX6_till_1 11 rfl rfl)
theorem dX6_till_36 : decode cX6_till 36 = .ok (.ireturn, 1) := dk_172 (dk_at dksX6_till_1 12 rfl rfl)

theorem okX6_till : wOkV yX6_till cX6_till 3 (some .int) 1 := ⟨q1919, q1920, q145, q1921, by decide, by decide, by decide +kernel⟩
def fX6_till (N : Nat)  (a1 : Int32) (μ : wMem) : Option (Int32 × wMem) :=
  wLet (wSI μ 0 0 (0 : Int32)) fun μ1 => wBind (fX6_isSet N  a1 μ1) fun v4 μ3 => if v4 = 0 then some ((-2), μ3) else wBind (fX6_seeksNow N  1 a1 0 μ3) fun v8 μ7 => if v8 = (2000000000 : Int32) then some ((-1), μ7) else some (v8, μ7)
set_option maxHeartbeats 4000000 in
set_option maxRecDepth 100000 in
theorem tX6_till (l : Launch) {D : va_G} {E : List wCell} {q : Nat → Nat} {ca : wCA} (N : Nat)   (a1 : Int32) (μ : wMem) (r0 : (Int32 × wMem)) (hf : fX6_till N  a1 μ = some r0) : wMi l yX6_till cX6_till 3 (some .int) ({ frames := 8, cells := 0, slots := 0, locals := 189 } : Room) D vwCl (spM ++ E) q ca [.ref (q 0), .int a1] μ r0 := by
  refine wMi_intro (by decide) (Nat.le_of_ble_eq_true rfl) ?_
  intro p e s m args below meth c A C
  unfold fX6_till at hf
  refine wr_sub [(0, .ref (q 0)), (1, .int a1)] [0, 1] rfl ?_
  refine wr_aload_n 0 C dX6_till_0 0 rfl rfl ?_
  refine wr_iconst 1 C dX6_till_1 (v := 0) rfl ?_
  obtain ⟨μ1, eμ1, hf⟩ := o_let hf
  refine puspM_0_0_X6 2 C dX6_till_2 eμ1 ?_
  refine wr_aload_n 5 C dX6_till_5 0 rfl rfl ?_
  refine wr_iload_n 6 C dX6_till_6 1 rfl rfl ?_
  obtain ⟨v4, μ3, h2, hf⟩ := o_bind hf
  refine wr_Vi (kc1 := 0) (ks1 := 0) 7 [] C dX6_till_7 (tX6_isSet l N   a1 μ1 (v4, μ3) h2) okX6_isSet q1922 (b := 0) spM_0 rfl ⟨rfl, rfl, Nat.le_of_ble_eq_true rfl, Nat.le_of_ble_eq_true rfl, Nat.zero_le _, Nat.zero_le _⟩ (Nat.le_of_ble_eq_true rfl) rfl ?_
  refine wr_if_ne 10 16 C dX6_till_10 (by decide) (fun c5 => ?_) (fun c5 => ?_)
  · replace hf := o_neg c5 hf
    refine wr_aload_n 16 C dX6_till_16 0 rfl rfl ?_
    refine wr_iconst 17 C dX6_till_17 (v := 1) rfl ?_
    refine wr_iload_n 18 C dX6_till_18 1 rfl rfl ?_
    refine wr_iconst 19 C dX6_till_19 (v := 0) rfl ?_
    obtain ⟨v8, μ7, h6, hf⟩ := o_bind hf
    refine wr_Vi (kc1 := 0) (ks1 := 0) 20 [] C dX6_till_20 (tX6_seeksNow l N   1 a1 0 μ3 (v8, μ7) h6) okX6_seeksNow q1837 (b := 0) spM_0 rfl ⟨rfl, rfl, Nat.le_of_ble_eq_true rfl, Nat.le_of_ble_eq_true rfl, Nat.zero_le _, Nat.zero_le _⟩ (Nat.le_of_ble_eq_true rfl) rfl ?_
    refine wr_istore_n 23 [(2, .int v8), (0, .ref (q 0)), (1, .int a1)] C dX6_till_23 rfl rfl (Nat.le_of_ble_eq_true rfl) rfl ?_
    refine wr_iload_n 24 C dX6_till_24 0 rfl rfl ?_
    refine wr_ldcw 25 C dX6_till_25 q1857 ?_
    refine wr_icmp_ne 28 35 C dX6_till_28 (by decide) (fun c9 => ?_) (fun c9 => ?_)
    · replace hf := o_neg c9 hf
      refine wr_iload_n 35 C dX6_till_35 0 rfl rfl ?_
      exact wr_iret 36 C dX6_till_36 ⟨Nat.zero_le _, Nat.zero_le _⟩ (Option.some.inj hf)
    · replace hf := o_pos c9 hf
      refine wr_iconst 31 C dX6_till_31 (v := (-1)) rfl ?_
      refine wr_goto 32 C dX6_till_32 (tgt := 36) (by decide) ?_
      exact wr_iret 36 C dX6_till_36 ⟨Nat.zero_le _, Nat.zero_le _⟩ (Option.some.inj hf)
  · replace hf := o_pos c5 hf
    refine wr_bipush 13 C dX6_till_13 (v := (-2)) rfl ?_
    exact wr_iret 15 C dX6_till_15 ⟨Nat.zero_le _, Nat.zero_le _⟩ (Option.some.inj hf)
abbrev cX6_over : ByteArray := prog_11_method_95_code
def yX6_over : MethodName := ⟨RX6, "over", "(I)I"⟩
def dkwX6_over_1 : List UInt8 := [28, 19, 1, 101, 160, 0, 7, 2, 167, 0, 4, 28, 172]
abbrev dktX6_over_1 : List UInt8 := dkwX6_over_1 ++ []
def dkwX6_over_0 : List UInt8 := [42, 3, 181, 0, 88, 42, 27, 182, 1, 56, 154, 0, 6, 16, 254, 172, 42, 5, 27, 3, 182, 1, 120, 61]
abbrev dktX6_over_0 : List UInt8 := dkwX6_over_0 ++ dktX6_over_1
theorem dksX6_over_0 : cX6_over.data.toList.drop 0 = dktX6_over_0 := by decide +kernel
theorem dksX6_over_1 : cX6_over.data.toList.drop 24 = dktX6_over_1 := dk_seg dksX6_over_0 24 rfl rfl
theorem dX6_over_0 : decode cX6_over 0 = .ok (.aload_n 0, 1) := dk_42 (dk_at dksX6_over_0 0 rfl rfl)
theorem dX6_over_1 : decode cX6_over 1 = .ok (.iconst 0, 1) := dk_3 (dk_at dksX6_over_0 1 rfl rfl)
theorem dX6_over_2 : decode cX6_over 2 = .ok (.putfield 88, 3) := dk_181 0 88 (dk_at dksX6_over_0 2 rfl rfl)
theorem dX6_over_5 : decode cX6_over 5 = .ok (.aload_n 0, 1) := dk_42 (dk_at dksX6_over_0 5 rfl rfl)
theorem dX6_over_6 : decode cX6_over 6 = .ok (.iload_n 1, 1) := dk_27 (dk_at dksX6_over_0 6 rfl rfl)
theorem dX6_over_7 : decode cX6_over 7 = .ok (.invokevirtual 312, 3) := dk_182 1 56 (dk_at dksX6_over_0 7 rfl rfl)
theorem dX6_over_10 : decode cX6_over 10 = .ok (.ifCond .ne 6, 3) := dk_154 0 6 (dk_at dksX6_over_0 10 rfl rfl)
theorem dX6_over_13 : decode cX6_over 13 = .ok (.bipush (-2), 2) := dk_16 254 (dk_at dksX6_over_0 13 rfl rfl)
theorem dX6_over_15 : decode cX6_over 15 = .ok (.ireturn, 1) := dk_172 (dk_at dksX6_over_0 15 rfl rfl)
theorem dX6_over_16 : decode cX6_over 16 = .ok (.aload_n 0, 1) := dk_42 (dk_at dksX6_over_0 16 rfl rfl)
theorem dX6_over_17 : decode cX6_over 17 = .ok (.iconst 2, 1) := dk_5 (dk_at dksX6_over_0 17 rfl rfl)
theorem dX6_over_18 : decode cX6_over 18 = .ok (.iload_n 1, 1) := dk_27 (dk_at dksX6_over_0 18 rfl rfl)
theorem dX6_over_19 : decode cX6_over 19 = .ok (.iconst 0, 1) := dk_3 (dk_at dksX6_over_0 19 rfl rfl)
theorem dX6_over_20 : decode cX6_over 20 = .ok (.invokevirtual 376, 3) := dk_182 1 120 (dk_at dksX6_over_0 20 rfl rfl)
theorem dX6_over_23 : decode cX6_over 23 = .ok (.istore_n 2, 1) := dk_61 (dk_at dksX6_over_0 23 rfl rfl)
theorem dX6_over_24 : decode cX6_over 24 = .ok (.iload_n 2, 1) := dk_28 (dk_at dksX6_over_1 0 rfl rfl)
theorem dX6_over_25 : decode cX6_over 25 = .ok (.ldc_w 357, 3) := dk_19 1 101 (dk_at dksX6_over_1 1 rfl rfl)
theorem dX6_over_28 : decode cX6_over 28 = .ok (.if_icmp .ne 7, 3) := dk_160 0 7 (dk_at dksX6_over_1 4 rfl rfl)
theorem dX6_over_31 : decode cX6_over 31 = .ok (.iconst (-1), 1) := dk_2 (dk_at dksX6_over_1 7 rfl rfl)
theorem dX6_over_32 : decode cX6_over 32 = .ok (.goto 4, 3) := dk_167 0 4 (dk_at dksX6_over_1 8 rfl rfl)
theorem dX6_over_35 : decode cX6_over 35 = .ok (.iload_n 2, 1) := dk_28 (dk_at dksX6_over_1 11 rfl rfl)
theorem dX6_over_36 : decode cX6_over 36 = .ok (.ireturn, 1) := dk_172 (dk_at dksX6_over_1 12 rfl rfl)

theorem okX6_over : wOkV yX6_over cX6_over 3 (some .int) 1 := ⟨q1927, q1928, q145, q1929, by decide, by decide, by decide +kernel⟩
def fX6_over (N : Nat)  (a1 : Int32) (μ : wMem) : Option (Int32 × wMem) :=
  wLet (wSI μ 0 0 (0 : Int32)) fun μ1 => wBind (fX6_isPerson N  a1 μ1) fun v4 μ3 => if v4 = 0 then some ((-2), μ3) else wBind (fX6_seeksNow N  2 a1 0 μ3) fun v8 μ7 => if v8 = (2000000000 : Int32) then some ((-1), μ7) else some (v8, μ7)
set_option maxHeartbeats 4000000 in
set_option maxRecDepth 100000 in
theorem tX6_over (l : Launch) {D : va_G} {E : List wCell} {q : Nat → Nat} {ca : wCA} (N : Nat)   (a1 : Int32) (μ : wMem) (r0 : (Int32 × wMem)) (hf : fX6_over N  a1 μ = some r0) : wMi l yX6_over cX6_over 3 (some .int) ({ frames := 8, cells := 0, slots := 0, locals := 189 } : Room) D vwCl (spM ++ E) q ca [.ref (q 0), .int a1] μ r0 := by
  refine wMi_intro (by decide) (Nat.le_of_ble_eq_true rfl) ?_
  intro p e s m args below meth c A C
  unfold fX6_over at hf
  refine wr_sub [(0, .ref (q 0)), (1, .int a1)] [0, 1] rfl ?_
  refine wr_aload_n 0 C dX6_over_0 0 rfl rfl ?_
  refine wr_iconst 1 C dX6_over_1 (v := 0) rfl ?_
  obtain ⟨μ1, eμ1, hf⟩ := o_let hf
  refine puspM_0_0_X6 2 C dX6_over_2 eμ1 ?_
  refine wr_aload_n 5 C dX6_over_5 0 rfl rfl ?_
  refine wr_iload_n 6 C dX6_over_6 1 rfl rfl ?_
  obtain ⟨v4, μ3, h2, hf⟩ := o_bind hf
  refine wr_Vi (kc1 := 0) (ks1 := 0) 7 [] C dX6_over_7 (tX6_isPerson l N   a1 μ1 (v4, μ3) h2) okX6_isPerson q1685 (b := 0) spM_0 rfl ⟨rfl, rfl, Nat.le_of_ble_eq_true rfl, Nat.le_of_ble_eq_true rfl, Nat.zero_le _, Nat.zero_le _⟩ (Nat.le_of_ble_eq_true rfl) rfl ?_
  refine wr_if_ne 10 16 C dX6_over_10 (by decide) (fun c5 => ?_) (fun c5 => ?_)
  · replace hf := o_neg c5 hf
    refine wr_aload_n 16 C dX6_over_16 0 rfl rfl ?_
    refine wr_iconst 17 C dX6_over_17 (v := 2) rfl ?_
    refine wr_iload_n 18 C dX6_over_18 1 rfl rfl ?_
    refine wr_iconst 19 C dX6_over_19 (v := 0) rfl ?_
    obtain ⟨v8, μ7, h6, hf⟩ := o_bind hf
    refine wr_Vi (kc1 := 0) (ks1 := 0) 20 [] C dX6_over_20 (tX6_seeksNow l N   2 a1 0 μ3 (v8, μ7) h6) okX6_seeksNow q1837 (b := 0) spM_0 rfl ⟨rfl, rfl, Nat.le_of_ble_eq_true rfl, Nat.le_of_ble_eq_true rfl, Nat.zero_le _, Nat.zero_le _⟩ (Nat.le_of_ble_eq_true rfl) rfl ?_
    refine wr_istore_n 23 [(2, .int v8), (0, .ref (q 0)), (1, .int a1)] C dX6_over_23 rfl rfl (Nat.le_of_ble_eq_true rfl) rfl ?_
    refine wr_iload_n 24 C dX6_over_24 0 rfl rfl ?_
    refine wr_ldcw 25 C dX6_over_25 q1857 ?_
    refine wr_icmp_ne 28 35 C dX6_over_28 (by decide) (fun c9 => ?_) (fun c9 => ?_)
    · replace hf := o_neg c9 hf
      refine wr_iload_n 35 C dX6_over_35 0 rfl rfl ?_
      exact wr_iret 36 C dX6_over_36 ⟨Nat.zero_le _, Nat.zero_le _⟩ (Option.some.inj hf)
    · replace hf := o_pos c9 hf
      refine wr_iconst 31 C dX6_over_31 (v := (-1)) rfl ?_
      refine wr_goto 32 C dX6_over_32 (tgt := 36) (by decide) ?_
      exact wr_iret 36 C dX6_over_36 ⟨Nat.zero_le _, Nat.zero_le _⟩ (Option.some.inj hf)
  · replace hf := o_pos c5 hf
    refine wr_bipush 13 C dX6_over_13 (v := (-2)) rfl ?_
    exact wr_iret 15 C dX6_over_15 ⟨Nat.zero_le _, Nat.zero_le _⟩ (Option.some.inj hf)
abbrev cX6_never : ByteArray := prog_11_method_96_code
def yX6_never : MethodName := ⟨RX6, "never", "()I"⟩
def dkwX6_never_2 : List UInt8 := [27, 42, 180, 0, 60, 28, 46, 17, 5, 190, 108, 2, 130, 126, 60, 132, 2, 1, 167, 255, 230, 27, 172]
abbrev dktX6_never_2 : List UInt8 := dkwX6_never_2 ++ []
def dkwX6_never_1 : List UInt8 := [182, 1, 111, 4, 42, 180, 0, 34, 5, 46, 120, 4, 100, 60, 3, 61, 28, 42, 180, 1, 83, 162, 0, 24]
abbrev dktX6_never_1 : List UInt8 := dkwX6_never_1 ++ dktX6_never_2
def dkwX6_never_0 : List UInt8 := [42, 3, 181, 0, 88, 42, 182, 1, 67, 154, 0, 6, 16, 254, 172, 42, 182, 1, 61, 42, 42, 182, 1, 86]
abbrev dktX6_never_0 : List UInt8 := dkwX6_never_0 ++ dktX6_never_1
theorem dksX6_never_0 : cX6_never.data.toList.drop 0 = dktX6_never_0 := by decide +kernel
theorem dksX6_never_1 : cX6_never.data.toList.drop 24 = dktX6_never_1 := dk_seg dksX6_never_0 24 rfl rfl
theorem dksX6_never_2 : cX6_never.data.toList.drop 48 = dktX6_never_2 := dk_seg dksX6_never_1 24 rfl rfl
theorem dX6_never_0 : decode cX6_never 0 = .ok (.aload_n 0, 1) := dk_42 (dk_at dksX6_never_0 0 rfl rfl)
theorem dX6_never_1 : decode cX6_never 1 = .ok (.iconst 0, 1) := dk_3 (dk_at dksX6_never_0 1 rfl rfl)
theorem dX6_never_2 : decode cX6_never 2 = .ok (.putfield 88, 3) := dk_181 0 88 (dk_at dksX6_never_0 2 rfl rfl)
theorem dX6_never_5 : decode cX6_never 5 = .ok (.aload_n 0, 1) := dk_42 (dk_at dksX6_never_0 5 rfl rfl)
theorem dX6_never_6 : decode cX6_never 6 = .ok (.invokevirtual 323, 3) := dk_182 1 67 (dk_at dksX6_never_0 6 rfl rfl)
theorem dX6_never_9 : decode cX6_never 9 = .ok (.ifCond .ne 6, 3) := dk_154 0 6 (dk_at dksX6_never_0 9 rfl rfl)
theorem dX6_never_12 : decode cX6_never 12 = .ok (.bipush (-2), 2) := dk_16 254 (dk_at dksX6_never_0 12 rfl rfl)
theorem dX6_never_14 : decode cX6_never 14 = .ok (.ireturn, 1) := dk_172 (dk_at dksX6_never_0 14 rfl rfl)
theorem dX6_never_15 : decode cX6_never 15 = .ok (.aload_n 0, 1) := dk_42 (dk_at dksX6_never_0 15 rfl rfl)
theorem dX6_never_16 : decode cX6_never 16 = .ok (.invokevirtual 317, 3) := dk_182 1 61 (dk_at dksX6_never_0 16 rfl rfl)
theorem dX6_never_19 : decode cX6_never 19 = .ok (.aload_n 0, 1) := dk_42 (dk_at dksX6_never_0 19 rfl rfl)
theorem dX6_never_20 : decode cX6_never 20 = .ok (.aload_n 0, 1) := dk_42 (dk_at dksX6_never_0 20 rfl rfl)
theorem dX6_never_21 : decode cX6_never 21 = .ok (.invokevirtual 342, 3) := dk_182 1 86 (dk_at dksX6_never_0 21 rfl rfl)
theorem dX6_never_24 : decode cX6_never 24 = .ok (.invokevirtual 367, 3) := dk_182 1 111 (dk_at dksX6_never_1 0 rfl rfl)
theorem dX6_never_27 : decode cX6_never 27 = .ok (.iconst 1, 1) := dk_4 (dk_at dksX6_never_1 3 rfl rfl)
theorem dX6_never_28 : decode cX6_never 28 = .ok (.aload_n 0, 1) := dk_42 (dk_at dksX6_never_1 4 rfl rfl)
theorem dX6_never_29 : decode cX6_never 29 = .ok (.getfield 34, 3) := dk_180 0 34 (dk_at dksX6_never_1 5 rfl rfl)
theorem dX6_never_32 : decode cX6_never 32 = .ok (.iconst 2, 1) := dk_5 (dk_at dksX6_never_1 8 rfl rfl)
theorem dX6_never_33 : decode cX6_never 33 = .ok (.iaload, 1) := dk_46 (dk_at dksX6_never_1 9 rfl rfl)
theorem dX6_never_34 : decode cX6_never 34 = .ok (.ishl, 1) := dk_120 (dk_at dksX6_never_1 10 rfl rfl)
theorem dX6_never_35 : decode cX6_never 35 = .ok (.iconst 1, 1) := dk_4 (dk_at dksX6_never_1 11 rfl rfl)
theorem dX6_never_36 : decode cX6_never 36 = .ok (.isub, 1) := dk_100 (dk_at dksX6_never_1 12 rfl rfl)
theorem dX6_never_37 : decode cX6_never 37 = .ok (.istore_n 1, 1) := dk_60 (dk_at dksX6_never_1 13 rfl rfl)
theorem dX6_never_38 : decode cX6_never 38 = .ok (.iconst 0, 1) := dk_3 (dk_at dksX6_never_1 14 rfl rfl)
theorem dX6_never_39 : decode cX6_never 39 = .ok (.istore_n 2, 1) := dk_61 (dk_at dksX6_never_1 15 rfl rfl)
theorem dX6_never_40 : decode cX6_never 40 = .ok (.iload_n 2, 1) := dk_28 (dk_at dksX6_never_1 16 rfl rfl)
theorem dX6_never_41 : decode cX6_never 41 = .ok (.aload_n 0, 1) := dk_42 (dk_at dksX6_never_1 17 rfl rfl)
theorem dX6_never_42 : decode cX6_never 42 = .ok (.getfield 339, 3) := dk_180 1 83 (dk_at dksX6_never_1 18 rfl rfl)
theorem dX6_never_45 : decode cX6_never 45 = .ok (.if_icmp .ge 24, 3) := dk_162 0 24 (dk_at dksX6_never_1 21 rfl rfl)
theorem dX6_never_48 : decode cX6_never 48 = .ok (.iload_n 1, 1) := dk_27 (dk_at dksX6_never_2 0 rfl rfl)
theorem dX6_never_49 : decode cX6_never 49 = .ok (.aload_n 0, 1) := dk_42 (dk_at dksX6_never_2 1 rfl rfl)
theorem dX6_never_50 : decode cX6_never 50 = .ok (.getfield 60, 3) := dk_180 0 60 (dk_at dksX6_never_2 2 rfl rfl)
theorem dX6_never_53 : decode cX6_never 53 = .ok (.iload_n 2, 1) := dk_28 (dk_at dksX6_never_2 5 rfl rfl)
theorem dX6_never_54 : decode cX6_never 54 = .ok (.iaload, 1) := dk_46 (dk_at dksX6_never_2 6 rfl rfl)
theorem dX6_never_55 : decode cX6_never 55 = .ok (.sipush 1470, 3) := dk_17 5 190 (dk_at dksX6_never_2 7 rfl rfl)
theorem dX6_never_58 : decode cX6_never 58 = .ok (.idiv, 1) := dk_108 (dk_at dksX6_never_2 10 rfl rfl)
theorem dX6_never_59 : decode cX6_never 59 = .ok (.iconst (-1), 1) := dk_2 (dk_at dksX6_never_2 11 rfl rfl)
theorem dX6_never_60 : decode cX6_never 60 = .ok (.ixor, 1) := dk_130 (dk_at dksX6_never_2 12 rfl rfl)
theorem dX6_never_61 : decode cX6_never 61 = .ok (.iand, 1) := dk_126 (dk_at dksX6_never_2 13 rfl rfl)
theorem dX6_never_62 : decode cX6_never 62 = .ok (.istore_n 1, 1) := dk_60 (dk_at dksX6_never_2 14 rfl rfl)
theorem dX6_never_63 : decode cX6_never 63 = .ok (.iinc 2 1, 3) := dk_132 2 1 (dk_at dksX6_never_2 15 rfl rfl)
theorem dX6_never_66 : decode cX6_never 66 = .ok (.goto (-26), 3) := dk_167 255 230 (dk_at dksX6_never_2 18 rfl rfl)
theorem dX6_never_69 : decode cX6_never 69 = .ok (.iload_n 1, 1) := dk_27 (dk_at dksX6_never_2 21 rfl rfl)
theorem dX6_never_70 : decode cX6_never 70 = .ok (.ireturn, 1) := dk_172 (dk_at dksX6_never_2 22 rfl rfl)

theorem okX6_never : wOkV yX6_never cX6_never 3 (some .int) 0 := ⟨q1931, q1932, q145, q1933, by decide, by decide, by decide +kernel⟩
def gbX6_never_40 (N : Nat)   (K : (Int32 → wMem → Option (Int32 × wMem))) (rec : (Int32 → Int32 → wMem → Option (Int32 × wMem))) (x1_ : Int32) (x2_ : Int32) (μ : wMem) : Option (Int32 × wMem) :=
  if (μ.1 0 34) ≤ x2_ then K x1_ μ else wG (ok_in x2_ 94080) (wLet (x1_ &&& (((μ.1 15 (Int32.toNatClampNeg x2_)) / (1470 : Int32)) ^^^ (-1 : Int32)) : Int32) fun x17 => wLet (x2_ + 1 : Int32) fun x18 => rec x17 x18 μ)
def gX6_never_40 (N : Nat)   (K : (Int32 → wMem → Option (Int32 × wMem))) : Nat → (Int32 → Int32 → wMem → Option (Int32 × wMem))
  | 0 => fun _ _ _ => none
  | k + 1 => gbX6_never_40 N   K (gX6_never_40 N   K k)
set_option maxHeartbeats 4000000 in
set_option maxRecDepth 100000 in
theorem tX6_never_40 {p : Program} {l : Launch} {e : Env} {s : State} {m : MethodId} {args : Array Value} {below : List Frame} {meth : Method} {c : Code} {D : va_G} {E : List wCell} {q : Nat → Nat} {ca : wCA} {A : Nat → Prop} (C : wC p ({ frames := 6, cells := 0, slots := 0, locals := 140 } : Room) s m args meth c cX6_never yX6_never.cls 3 (some .int) D vwCl (spM ++ E) q ca A) (N : Nat)    (K : (Int32 → wMem → Option (Int32 × wMem))) (r0 : (Int32 × wMem)) (hK : ∀ (y1_ : Int32) (μ : wMem), K y1_ μ = some r0 → wJ p l e ({ frames := 6, cells := 0, slots := 0, locals := 140 } : Room) s m args below meth c 3 D vwCl (spM ++ E) q ca A (wQi ({ frames := 6, cells := 0, slots := 0, locals := 140 } : Room) D vwCl (spM ++ E) q ca below args s A r0) 0 0 μ 69 [(1, .int y1_)] []) : ∀ (k : Nat) (x1_ : Int32) (x2_ : Int32) (μ : wMem), gX6_never_40 N   K k x1_ x2_ μ = some r0 → wJ p l e ({ frames := 6, cells := 0, slots := 0, locals := 140 } : Room) s m args below meth c 3 D vwCl (spM ++ E) q ca A (wQi ({ frames := 6, cells := 0, slots := 0, locals := 140 } : Room) D vwCl (spM ++ E) q ca below args s A r0) 0 0 μ 40 [(0, .ref (q 0)), (1, .int x1_), (2, .int x2_)] [] := by
  intro k
  induction k with
  | zero =>
    intro x1_ x2_ μ hf
    cases hf
  | succ k ih =>
    intro x1_ x2_ μ hf
    replace hf : gbX6_never_40 N   K (gX6_never_40 N   K k) x1_ x2_ μ = some r0 := hf
    unfold gbX6_never_40 at hf
    refine wr_iload_n 40 C dX6_never_40 2 rfl rfl ?_
    refine wr_aload_n 41 C dX6_never_41 0 rfl rfl ?_
    refine gespM_0_34_X6 42 C dX6_never_42 ?_
    refine wr_icmp_ge 45 69 C dX6_never_45 (by decide) (fun c15 => ?_) (fun c15 => ?_)
    · replace hf := o_pos c15 hf
      refine wr_sub [(1, .int x1_)] [1] rfl ?_
      exact hK x1_ μ hf
    · replace hf := o_neg c15 hf
      refine wr_iload_n 48 C dX6_never_48 1 rfl rfl ?_
      refine wr_aload_n 49 C dX6_never_49 0 rfl rfl ?_
      refine gespM_0_33_X6 50 C dX6_never_50 ?_
      refine wr_iload_n 53 C dX6_never_53 2 rfl rfl ?_
      obtain ⟨g16, hf⟩ := o_g hf
      refine wr_iald 54 C dX6_never_54 spM_15 g16 ?_
      refine wr_sipush 55 C dX6_never_55 (v := 1470) rfl ?_
      refine wr_idiv 58 C dX6_never_58 (by decide) ?_
      refine wr_iconst 59 C dX6_never_59 (v := (-1)) rfl ?_
      refine wr_ixor 60 C dX6_never_60 ?_
      refine wr_iand 61 C dX6_never_61 ?_
      obtain ⟨x17, ex17, hf⟩ := o_let hf
      refine wr_istore_n 62 [(1, .int x17), (0, .ref (q 0)), (2, .int x2_)] C dX6_never_62 ex17 rfl (Nat.le_of_ble_eq_true rfl) rfl ?_
      obtain ⟨x18, ex18, hf⟩ := o_let hf
      refine wr_iinc 63 [(2, .int x18), (1, .int x17), (0, .ref (q 0))] C dX6_never_63 2 rfl (ex18.trans rfl) (Nat.le_of_ble_eq_true rfl) rfl ?_
      refine wr_goto 66 C dX6_never_66 (tgt := 40) (by decide) ?_
      refine wr_sub [(0, .ref (q 0)), (1, .int x17), (2, .int x18)] [2, 1, 0] rfl ?_
      exact ih x17 x18 μ hf
def fX6_never (N : Nat)   (μ : wMem) : Option (Int32 × wMem) :=
  wLet (wSI μ 0 0 (0 : Int32)) fun μ1 => wBind (fX6_isFamily N   μ1) fun v4 μ3 => if v4 = 0 then some ((-2), μ3) else wBindV (fX6_lays N   μ3) fun μ7 => wBind (fX6_numberOf N   μ7) fun v10 μ9 => wBindV (fX6_explores N  v10 μ9) fun μ12 => wG (ok_in (2 : Int32) 35) (wLet (((1 : Int32) <<< ((μ12.1 7 (Int32.toNatClampNeg (2 : Int32))) &&& 31)) - (1 : Int32) : Int32) fun x14 => gX6_never_40 N   (fun (x20 : Int32) (μ19 : wMem) => some (x20, μ19)) N x14 0 μ12)
set_option maxHeartbeats 4000000 in
set_option maxRecDepth 100000 in
theorem tX6_never (l : Launch) {D : va_G} {E : List wCell} {q : Nat → Nat} {ca : wCA} (N : Nat)    (μ : wMem) (r0 : (Int32 × wMem)) (hf : fX6_never N   μ = some r0) : wMi l yX6_never cX6_never 3 (some .int) ({ frames := 6, cells := 0, slots := 0, locals := 140 } : Room) D vwCl (spM ++ E) q ca [.ref (q 0)] μ r0 := by
  refine wMi_intro (by decide) (Nat.le_of_ble_eq_true rfl) ?_
  intro p e s m args below meth c A C
  unfold fX6_never at hf
  refine wr_sub [(0, .ref (q 0))] [0] rfl ?_
  refine wr_aload_n 0 C dX6_never_0 0 rfl rfl ?_
  refine wr_iconst 1 C dX6_never_1 (v := 0) rfl ?_
  obtain ⟨μ1, eμ1, hf⟩ := o_let hf
  refine puspM_0_0_X6 2 C dX6_never_2 eμ1 ?_
  refine wr_aload_n 5 C dX6_never_5 0 rfl rfl ?_
  obtain ⟨v4, μ3, h2, hf⟩ := o_bind hf
  refine wr_Vi (kc1 := 0) (ks1 := 0) 6 [] C dX6_never_6 (tX6_isFamily l N    μ1 (v4, μ3) h2) okX6_isFamily q1750 (b := 0) spM_0 rfl ⟨rfl, rfl, Nat.le_of_ble_eq_true rfl, Nat.le_of_ble_eq_true rfl, Nat.zero_le _, Nat.zero_le _⟩ (Nat.le_of_ble_eq_true rfl) rfl ?_
  refine wr_if_ne 9 15 C dX6_never_9 (by decide) (fun c5 => ?_) (fun c5 => ?_)
  · replace hf := o_neg c5 hf
    refine wr_aload_n 15 C dX6_never_15 0 rfl rfl ?_
    obtain ⟨μ7, h6, hf⟩ := o_bindV hf
    refine wr_Vv (kc1 := 0) (ks1 := 0) 16 [] C dX6_never_16 (tX6_lays l N    μ3 μ7 h6) okX6_lays q1690 (b := 0) spM_0 rfl ⟨rfl, rfl, Nat.le_of_ble_eq_true rfl, Nat.le_of_ble_eq_true rfl, Nat.zero_le _, Nat.zero_le _⟩ (Nat.le_of_ble_eq_true rfl) rfl ?_
    refine wr_aload_n 19 C dX6_never_19 0 rfl rfl ?_
    refine wr_aload_n 20 C dX6_never_20 0 rfl rfl ?_
    obtain ⟨v10, μ9, h8, hf⟩ := o_bind hf
    refine wr_Vi (kc1 := 0) (ks1 := 0) 21 [.ref (q 0)] C dX6_never_21 (tX6_numberOf l N    μ7 (v10, μ9) h8) okX6_numberOf q1841 (b := 0) spM_0 rfl ⟨rfl, rfl, Nat.le_of_ble_eq_true rfl, Nat.le_of_ble_eq_true rfl, Nat.zero_le _, Nat.zero_le _⟩ (Nat.le_of_ble_eq_true rfl) rfl ?_
    obtain ⟨μ12, h11, hf⟩ := o_bindV hf
    refine wr_Vv (kc1 := 0) (ks1 := 0) 24 [] C dX6_never_24 (tX6_explores l N   v10 μ9 μ12 h11) okX6_explores q1845 (b := 0) spM_0 rfl ⟨rfl, rfl, Nat.le_of_ble_eq_true rfl, Nat.le_of_ble_eq_true rfl, Nat.zero_le _, Nat.zero_le _⟩ (Nat.le_of_ble_eq_true rfl) rfl ?_
    refine wr_iconst 27 C dX6_never_27 (v := 1) rfl ?_
    refine wr_aload_n 28 C dX6_never_28 0 rfl rfl ?_
    refine gespM_0_17_X6 29 C dX6_never_29 ?_
    refine wr_iconst 32 C dX6_never_32 (v := 2) rfl ?_
    obtain ⟨g13, hf⟩ := o_g hf
    refine wr_iald 33 C dX6_never_33 spM_7 g13 ?_
    refine wr_ishl 34 C dX6_never_34 ?_
    refine wr_iconst 35 C dX6_never_35 (v := 1) rfl ?_
    refine wr_isub 36 C dX6_never_36 ?_
    obtain ⟨x14, ex14, hf⟩ := o_let hf
    refine wr_istore_n 37 [(1, .int x14), (0, .ref (q 0))] C dX6_never_37 ex14 rfl (Nat.le_of_ble_eq_true rfl) rfl ?_
    refine wr_iconst 38 C dX6_never_38 (v := 0) rfl ?_
    refine wr_istore_n 39 [(2, .int 0), (1, .int x14), (0, .ref (q 0))] C dX6_never_39 rfl rfl (Nat.le_of_ble_eq_true rfl) rfl ?_
    refine wr_sub [(0, .ref (q 0)), (1, .int x14), (2, .int 0)] [2, 1, 0] rfl ?_
    refine tX6_never_40 C N    _ r0 (fun x20 μ19 hf => ?_) N x14 0 μ12 hf
    · replace hf := hf
      refine wr_iload_n 69 C dX6_never_69 0 rfl rfl ?_
      exact wr_iret 70 C dX6_never_70 ⟨Nat.zero_le _, Nat.zero_le _⟩ (Option.some.inj hf)
  · replace hf := o_pos c5 hf
    refine wr_bipush 12 C dX6_never_12 (v := (-2)) rfl ?_
    exact wr_iret 14 C dX6_never_14 ⟨Nat.zero_le _, Nat.zero_le _⟩ (Option.some.inj hf)
abbrev cX6_overBehind : ByteArray := prog_11_method_97_code
def yX6_overBehind : MethodName := ⟨RX6, "overBehind", "(I)I"⟩
def dkwX6_overBehind_1 : List UInt8 := [167, 255, 238, 42, 180, 0, 238, 172]
abbrev dktX6_overBehind_1 : List UInt8 := dkwX6_overBehind_1 ++ []
def dkwX6_overBehind_0 : List UInt8 := [42, 182, 1, 61, 3, 61, 28, 27, 162, 0, 19, 42, 42, 180, 0, 66, 28, 46, 182, 1, 47, 132, 2, 1]
abbrev dktX6_overBehind_0 : List UInt8 := dkwX6_overBehind_0 ++ dktX6_overBehind_1
theorem dksX6_overBehind_0 : cX6_overBehind.data.toList.drop 0 = dktX6_overBehind_0 := by decide +kernel
theorem dksX6_overBehind_1 : cX6_overBehind.data.toList.drop 24 = dktX6_overBehind_1 := dk_seg dksX6_overBehind_0 24 rfl rfl
theorem dX6_overBehind_0 : decode cX6_overBehind 0 = .ok (.aload_n 0, 1) := dk_42 (dk_at dksX6_overBehind_0 0 rfl rfl)
theorem dX6_overBehind_1 : decode cX6_overBehind 1 = .ok (.invokevirtual 317, 3) := dk_182 1 61 (dk_at dksX6_overBehind_0 1 rfl rfl)
theorem dX6_overBehind_4 : decode cX6_overBehind 4 = .ok (.iconst 0, 1) := dk_3 (dk_at dksX6_overBehind_0 4 rfl rfl)
theorem dX6_overBehind_5 : decode cX6_overBehind 5 = .ok (.istore_n 2, 1) := dk_61 (dk_at dksX6_overBehind_0 5 rfl rfl)
theorem dX6_overBehind_6 : decode cX6_overBehind 6 = .ok (.iload_n 2, 1) := dk_28 (dk_at dksX6_overBehind_0 6 rfl rfl)
theorem dX6_overBehind_7 : decode cX6_overBehind 7 = .ok (.iload_n 1, 1) := dk_27 (dk_at dksX6_overBehind_0 7 rfl rfl)
theorem dX6_overBehind_8 : decode cX6_overBehind 8 = .ok (.if_icmp .ge 19, 3) := dk_162 0 19 (dk_at dksX6_overBehind_0 8 rfl rfl)
theorem dX6_overBehind_11 : decode cX6_overBehind 11 = .ok (.aload_n 0, 1) := dk_42 (dk_at dksX6_overBehind_0 11 rfl rfl)
theorem dX6_overBehind_12 : decode cX6_overBehind 12 = .ok (.aload_n 0, 1) := dk_42 (dk_at dksX6_overBehind_0 12 rfl rfl)
theorem dX6_overBehind_13 : decode cX6_overBehind 13 = .ok (.getfield 66, 3) := dk_180 0 66 (dk_at dksX6_overBehind_0 13 rfl rfl)
theorem dX6_overBehind_16 : decode cX6_overBehind 16 = .ok (.iload_n 2, 1) := dk_28 (dk_at dksX6_overBehind_0 16 rfl rfl)
theorem dX6_overBehind_17 : decode cX6_overBehind 17 = .ok (.iaload, 1) := dk_46 (dk_at dksX6_overBehind_0 17 rfl rfl)
theorem dX6_overBehind_18 : decode cX6_overBehind 18 = .ok (.invokevirtual 303, 3) := dk_182 1 47 (dk_at dksX6_overBehind_0 18 rfl rfl)
theorem dX6_overBehind_21 : decode cX6_overBehind 21 = .ok (.iinc 2 1, 3) := dk_132 2 1 (dk_at dksX6_overBehind_0 21 rfl rfl)
theorem dX6_overBehind_24 : decode cX6_overBehind 24 = .ok (.goto (-18), 3) := dk_167 255 238 (dk_at dksX6_overBehind_1 0 rfl rfl)
theorem dX6_overBehind_27 : decode cX6_overBehind 27 = .ok (.aload_n 0, 1) := dk_42 (dk_at dksX6_overBehind_1 3 rfl rfl)
theorem dX6_overBehind_28 : decode cX6_overBehind 28 = .ok (.getfield 238, 3) := dk_180 0 238 (dk_at dksX6_overBehind_1 4 rfl rfl)
theorem dX6_overBehind_31 : decode cX6_overBehind 31 = .ok (.ireturn, 1) := dk_172 (dk_at dksX6_overBehind_1 7 rfl rfl)

theorem okX6_overBehind : wOkV yX6_overBehind cX6_overBehind 3 (some .int) 1 := ⟨q1940, qs120, q145, q1941, by decide, by decide, by decide +kernel⟩
def gbX6_overBehind_6 (N : Nat)  (x1_ : Int32) (K : (wMem → Option (Int32 × wMem))) (rec : (Int32 → wMem → Option (Int32 × wMem))) (x2_ : Int32) (μ : wMem) : Option (Int32 × wMem) :=
  if x1_ ≤ x2_ then K  μ else wG (ok_in x2_ 400) (wBindV (fX6_does N  (μ.1 17 (Int32.toNatClampNeg x2_)) μ) fun μ6 => wLet (x2_ + 1 : Int32) fun x7 => rec x7 μ6)
def gX6_overBehind_6 (N : Nat)  (x1_ : Int32) (K : (wMem → Option (Int32 × wMem))) : Nat → (Int32 → wMem → Option (Int32 × wMem))
  | 0 => fun _ _ => none
  | k + 1 => gbX6_overBehind_6 N  x1_ K (gX6_overBehind_6 N  x1_ K k)
set_option maxHeartbeats 4000000 in
set_option maxRecDepth 100000 in
theorem tX6_overBehind_6 {p : Program} {l : Launch} {e : Env} {s : State} {m : MethodId} {args : Array Value} {below : List Frame} {meth : Method} {c : Code} {D : va_G} {E : List wCell} {q : Nat → Nat} {ca : wCA} {A : Nat → Prop} (C : wC p ({ frames := 5, cells := 0, slots := 0, locals := 112 } : Room) s m args meth c cX6_overBehind yX6_overBehind.cls 3 (some .int) D vwCl (spM ++ E) q ca A) (N : Nat)   (x1_ : Int32) (K : (wMem → Option (Int32 × wMem))) (r0 : (Int32 × wMem)) (hK : ∀  (μ : wMem), K  μ = some r0 → wJ p l e ({ frames := 5, cells := 0, slots := 0, locals := 112 } : Room) s m args below meth c 3 D vwCl (spM ++ E) q ca A (wQi ({ frames := 5, cells := 0, slots := 0, locals := 112 } : Room) D vwCl (spM ++ E) q ca below args s A r0) 0 0 μ 27 [(0, .ref (q 0))] []) : ∀ (k : Nat) (x2_ : Int32) (μ : wMem), gX6_overBehind_6 N  x1_ K k x2_ μ = some r0 → wJ p l e ({ frames := 5, cells := 0, slots := 0, locals := 112 } : Room) s m args below meth c 3 D vwCl (spM ++ E) q ca A (wQi ({ frames := 5, cells := 0, slots := 0, locals := 112 } : Room) D vwCl (spM ++ E) q ca below args s A r0) 0 0 μ 6 [(0, .ref (q 0)), (1, .int x1_), (2, .int x2_)] [] := by
  intro k
  induction k with
  | zero =>
    intro x2_ μ hf
    cases hf
  | succ k ih =>
    intro x2_ μ hf
    replace hf : gbX6_overBehind_6 N  x1_ K (gX6_overBehind_6 N  x1_ K k) x2_ μ = some r0 := hf
    unfold gbX6_overBehind_6 at hf
    refine wr_iload_n 6 C dX6_overBehind_6 2 rfl rfl ?_
    refine wr_iload_n 7 C dX6_overBehind_7 1 rfl rfl ?_
    refine wr_icmp_ge 8 27 C dX6_overBehind_8 (by decide) (fun c3 => ?_) (fun c3 => ?_)
    · replace hf := o_pos c3 hf
      refine wr_sub [(0, .ref (q 0))] [0] rfl ?_
      exact hK  μ hf
    · replace hf := o_neg c3 hf
      refine wr_aload_n 11 C dX6_overBehind_11 0 rfl rfl ?_
      refine wr_aload_n 12 C dX6_overBehind_12 0 rfl rfl ?_
      refine gespM_0_39_X6 13 C dX6_overBehind_13 ?_
      refine wr_iload_n 16 C dX6_overBehind_16 2 rfl rfl ?_
      obtain ⟨g4, hf⟩ := o_g hf
      refine wr_iald 17 C dX6_overBehind_17 spM_17 g4 ?_
      obtain ⟨μ6, h5, hf⟩ := o_bindV hf
      refine wr_Vv (kc1 := 0) (ks1 := 0) 18 [] C dX6_overBehind_18 (tX6_does l N   (μ.1 17 (Int32.toNatClampNeg x2_)) μ μ6 h5) okX6_does q1710 (b := 0) spM_0 rfl ⟨rfl, rfl, Nat.le_of_ble_eq_true rfl, Nat.le_of_ble_eq_true rfl, Nat.zero_le _, Nat.zero_le _⟩ (Nat.le_of_ble_eq_true rfl) rfl ?_
      obtain ⟨x7, ex7, hf⟩ := o_let hf
      refine wr_iinc 21 [(2, .int x7), (0, .ref (q 0)), (1, .int x1_)] C dX6_overBehind_21 2 rfl (ex7.trans rfl) (Nat.le_of_ble_eq_true rfl) rfl ?_
      refine wr_goto 24 C dX6_overBehind_24 (tgt := 6) (by decide) ?_
      refine wr_sub [(0, .ref (q 0)), (1, .int x1_), (2, .int x7)] [1, 2, 0] rfl ?_
      exact ih x7 μ6 hf
def fX6_overBehind (N : Nat)  (a1 : Int32) (μ : wMem) : Option (Int32 × wMem) :=
  wBindV (fX6_lays N   μ) fun μ2 => gX6_overBehind_6 N  a1 (fun  (μ8 : wMem) => some (μ8.1 0 23, μ8)) N 0 μ2
set_option maxHeartbeats 4000000 in
set_option maxRecDepth 100000 in
theorem tX6_overBehind (l : Launch) {D : va_G} {E : List wCell} {q : Nat → Nat} {ca : wCA} (N : Nat)   (a1 : Int32) (μ : wMem) (r0 : (Int32 × wMem)) (hf : fX6_overBehind N  a1 μ = some r0) : wMi l yX6_overBehind cX6_overBehind 3 (some .int) ({ frames := 5, cells := 0, slots := 0, locals := 112 } : Room) D vwCl (spM ++ E) q ca [.ref (q 0), .int a1] μ r0 := by
  refine wMi_intro (by decide) (Nat.le_of_ble_eq_true rfl) ?_
  intro p e s m args below meth c A C
  unfold fX6_overBehind at hf
  refine wr_sub [(0, .ref (q 0)), (1, .int a1)] [0, 1] rfl ?_
  refine wr_aload_n 0 C dX6_overBehind_0 0 rfl rfl ?_
  obtain ⟨μ2, h1, hf⟩ := o_bindV hf
  refine wr_Vv (kc1 := 0) (ks1 := 0) 1 [] C dX6_overBehind_1 (tX6_lays l N    μ μ2 h1) okX6_lays q1690 (b := 0) spM_0 rfl ⟨rfl, rfl, Nat.le_of_ble_eq_true rfl, Nat.le_of_ble_eq_true rfl, Nat.zero_le _, Nat.zero_le _⟩ (Nat.le_of_ble_eq_true rfl) rfl ?_
  refine wr_iconst 4 C dX6_overBehind_4 (v := 0) rfl ?_
  refine wr_istore_n 5 [(2, .int 0), (0, .ref (q 0)), (1, .int a1)] C dX6_overBehind_5 rfl rfl (Nat.le_of_ble_eq_true rfl) rfl ?_
  refine wr_sub [(0, .ref (q 0)), (1, .int a1), (2, .int 0)] [1, 2, 0] rfl ?_
  refine tX6_overBehind_6 C N   a1 _ r0 (fun  μ8 hf => ?_) N 0 μ2 hf
  · replace hf := hf
    refine wr_aload_n 27 C dX6_overBehind_27 0 rfl rfl ?_
    refine gespM_0_23_X6 28 C dX6_overBehind_28 ?_
    exact wr_iret 31 C dX6_overBehind_31 ⟨Nat.zero_le _, Nat.zero_le _⟩ (Option.some.inj hf)
abbrev cX6_lost : ByteArray := prog_11_method_98_code
def yX6_lost : MethodName := ⟨RX6, "lost", "(I)I"⟩
def dkwX6_lost_1 : List UInt8 := [153, 0, 19, 27, 42, 180, 1, 117, 163, 0, 11, 42, 27, 182, 1, 138, 167, 0, 4, 2, 172]
abbrev dktX6_lost_1 : List UInt8 := dkwX6_lost_1 ++ []
def dkwX6_lost_0 : List UInt8 := [42, 3, 181, 0, 88, 42, 182, 1, 67, 153, 0, 7, 27, 156, 0, 6, 16, 254, 172, 42, 3, 182, 1, 126]
abbrev dktX6_lost_0 : List UInt8 := dkwX6_lost_0 ++ dktX6_lost_1
theorem dksX6_lost_0 : cX6_lost.data.toList.drop 0 = dktX6_lost_0 := by decide +kernel
theorem dksX6_lost_1 : cX6_lost.data.toList.drop 24 = dktX6_lost_1 := dk_seg dksX6_lost_0 24 rfl rfl
theorem dX6_lost_0 : decode cX6_lost 0 = .ok (.aload_n 0, 1) := dk_42 (dk_at dksX6_lost_0 0 rfl rfl)
theorem dX6_lost_1 : decode cX6_lost 1 = .ok (.iconst 0, 1) := dk_3 (dk_at dksX6_lost_0 1 rfl rfl)
theorem dX6_lost_2 : decode cX6_lost 2 = .ok (.putfield 88, 3) := dk_181 0 88 (dk_at dksX6_lost_0 2 rfl rfl)
theorem dX6_lost_5 : decode cX6_lost 5 = .ok (.aload_n 0, 1) := dk_42 (dk_at dksX6_lost_0 5 rfl rfl)
theorem dX6_lost_6 : decode cX6_lost 6 = .ok (.invokevirtual 323, 3) := dk_182 1 67 (dk_at dksX6_lost_0 6 rfl rfl)
theorem dX6_lost_9 : decode cX6_lost 9 = .ok (.ifCond .eq 7, 3) := dk_153 0 7 (dk_at dksX6_lost_0 9 rfl rfl)
theorem dX6_lost_12 : decode cX6_lost 12 = .ok (.iload_n 1, 1) := dk_27 (dk_at dksX6_lost_0 12 rfl rfl)
theorem dX6_lost_13 : decode cX6_lost 13 = .ok (.ifCond .ge 6, 3) := dk_156 0 6 (dk_at dksX6_lost_0 13 rfl rfl)
theorem dX6_lost_16 : decode cX6_lost 16 = .ok (.bipush (-2), 2) := dk_16 254 (dk_at dksX6_lost_0 16 rfl rfl)
theorem dX6_lost_18 : decode cX6_lost 18 = .ok (.ireturn, 1) := dk_172 (dk_at dksX6_lost_0 18 rfl rfl)
theorem dX6_lost_19 : decode cX6_lost 19 = .ok (.aload_n 0, 1) := dk_42 (dk_at dksX6_lost_0 19 rfl rfl)
theorem dX6_lost_20 : decode cX6_lost 20 = .ok (.iconst 0, 1) := dk_3 (dk_at dksX6_lost_0 20 rfl rfl)
theorem dX6_lost_21 : decode cX6_lost 21 = .ok (.invokevirtual 382, 3) := dk_182 1 126 (dk_at dksX6_lost_0 21 rfl rfl)
theorem dX6_lost_24 : decode cX6_lost 24 = .ok (.ifCond .eq 19, 3) := dk_153 0 19 (dk_at dksX6_lost_1 0 rfl rfl)
theorem dX6_lost_27 : decode cX6_lost 27 = .ok (.iload_n 1, 1) := dk_27 (dk_at dksX6_lost_1 3 rfl rfl)
theorem dX6_lost_28 : decode cX6_lost 28 = .ok (.aload_n 0, 1) := dk_42 (dk_at dksX6_lost_1 4 rfl rfl)
theorem dX6_lost_29 : decode cX6_lost 29 = .ok (.getfield 373, 3) := dk_180 1 117 (dk_at dksX6_lost_1 5 rfl rfl)
theorem dX6_lost_32 : decode cX6_lost 32 = .ok (.if_icmp .gt 11, 3) := dk_163 0 11 (dk_at dksX6_lost_1 8 rfl rfl)
theorem dX6_lost_35 : decode cX6_lost 35 = .ok (.aload_n 0, 1) := dk_42 (dk_at dksX6_lost_1 11 rfl rfl)
theorem dX6_lost_36 : decode cX6_lost 36 = .ok (.iload_n 1, 1) := dk_27 (dk_at dksX6_lost_1 12 rfl rfl)
theorem dX6_lost_37 : decode cX6_lost 37 = .ok (.invokevirtual 394, 3) := dk_182 1 138 (dk_at dksX6_lost_1 13 rfl rfl)
theorem dX6_lost_40 : decode cX6_lost 40 = .ok (.goto 4, 3) := dk_167 0 4 (dk_at dksX6_lost_1 16 rfl rfl)
theorem dX6_lost_43 : decode cX6_lost 43 = .ok (.iconst (-1), 1) := dk_2 (dk_at dksX6_lost_1 19 rfl rfl)
theorem dX6_lost_44 : decode cX6_lost 44 = .ok (.ireturn, 1) := dk_172 (dk_at dksX6_lost_1 20 rfl rfl)

theorem okX6_lost : wOkV yX6_lost cX6_lost 2 (some .int) 1 := ⟨q1935, q1936, q145, q1937, by decide, by decide, by decide +kernel⟩
def fX6_lost (N : Nat)  (a1 : Int32) (μ : wMem) : Option (Int32 × wMem) :=
  wLet (wSI μ 0 0 (0 : Int32)) fun μ1 => wBind (fX6_isFamily N   μ1) fun v4 μ3 => wLet (fun  (μ5 : wMem) => some ((-2), μ5)) fun Jlost16 => if v4 = 0 then Jlost16  μ3 else if 0 ≤ a1 then wBind (fX6_isRow N  0 μ3) fun v10 μ9 => if v10 = 0 then some ((-1), μ9) else if (μ9.1 0 40) < a1 then some ((-1), μ9) else wBind (fX6_overBehind N  a1 μ9) fun v15 μ14 => some (v15, μ14) else Jlost16  μ3
set_option maxHeartbeats 4000000 in
set_option maxRecDepth 100000 in
theorem tX6_lost (l : Launch) {D : va_G} {E : List wCell} {q : Nat → Nat} {ca : wCA} (N : Nat)   (a1 : Int32) (μ : wMem) (r0 : (Int32 × wMem)) (hf : fX6_lost N  a1 μ = some r0) : wMi l yX6_lost cX6_lost 2 (some .int) ({ frames := 9, cells := 0, slots := 0, locals := 210 } : Room) D vwCl (spM ++ E) q ca [.ref (q 0), .int a1] μ r0 := by
  refine wMi_intro (by decide) (Nat.le_of_ble_eq_true rfl) ?_
  intro p e s m args below meth c A C
  unfold fX6_lost at hf
  refine wr_sub [(0, .ref (q 0)), (1, .int a1)] [0, 1] rfl ?_
  refine wr_aload_n 0 C dX6_lost_0 0 rfl rfl ?_
  refine wr_iconst 1 C dX6_lost_1 (v := 0) rfl ?_
  obtain ⟨μ1, eμ1, hf⟩ := o_let hf
  refine puspM_0_0_X6 2 C dX6_lost_2 eμ1 ?_
  refine wr_aload_n 5 C dX6_lost_5 0 rfl rfl ?_
  obtain ⟨v4, μ3, h2, hf⟩ := o_bind hf
  refine wr_Vi (kc1 := 0) (ks1 := 0) 6 [] C dX6_lost_6 (tX6_isFamily l N    μ1 (v4, μ3) h2) okX6_isFamily q1750 (b := 0) spM_0 rfl ⟨rfl, rfl, Nat.le_of_ble_eq_true rfl, Nat.le_of_ble_eq_true rfl, Nat.zero_le _, Nat.zero_le _⟩ (Nat.le_of_ble_eq_true rfl) rfl ?_
  obtain ⟨Jlost16, eJlost16, hf⟩ := o_let hf
  have hJlost16 : ∀  (μ5 : wMem), Jlost16  μ5 = some r0 → wJ p l e ({ frames := 9, cells := 0, slots := 0, locals := 210 } : Room) s m args below meth c 2 D vwCl (spM ++ E) q ca A (wQi ({ frames := 9, cells := 0, slots := 0, locals := 210 } : Room) D vwCl (spM ++ E) q ca below args s A r0) 0 0 μ5 16 [] [] := by
    intro  μ5 hf
    rw [eJlost16] at hf
    refine wr_bipush 16 C dX6_lost_16 (v := (-2)) rfl ?_
    exact wr_iret 18 C dX6_lost_18 ⟨Nat.zero_le _, Nat.zero_le _⟩ (Option.some.inj hf)
  refine wr_if_eq 9 16 C dX6_lost_9 (by decide) (fun c6 => ?_) (fun c6 => ?_)
  · replace hf := o_pos c6 hf
    refine wr_sub [] [] rfl ?_
    exact hJlost16  μ3 hf
  · replace hf := o_neg c6 hf
    refine wr_iload_n 12 C dX6_lost_12 1 rfl rfl ?_
    refine wr_if_ge 13 19 C dX6_lost_13 (by decide) (fun c7 => ?_) (fun c7 => ?_)
    · replace hf := o_pos c7 hf
      refine wr_aload_n 19 C dX6_lost_19 0 rfl rfl ?_
      refine wr_iconst 20 C dX6_lost_20 (v := 0) rfl ?_
      obtain ⟨v10, μ9, h8, hf⟩ := o_bind hf
      refine wr_Vi (kc1 := 0) (ks1 := 0) 21 [] C dX6_lost_21 (tX6_isRow l N   0 μ3 (v10, μ9) h8) okX6_isRow q1874 (b := 0) spM_0 rfl ⟨rfl, rfl, Nat.le_of_ble_eq_true rfl, Nat.le_of_ble_eq_true rfl, Nat.zero_le _, Nat.zero_le _⟩ (Nat.le_of_ble_eq_true rfl) rfl ?_
      refine wr_if_eq 24 43 C dX6_lost_24 (by decide) (fun c11 => ?_) (fun c11 => ?_)
      · replace hf := o_pos c11 hf
        refine wr_iconst 43 C dX6_lost_43 (v := (-1)) rfl ?_
        exact wr_iret 44 C dX6_lost_44 ⟨Nat.zero_le _, Nat.zero_le _⟩ (Option.some.inj hf)
      · replace hf := o_neg c11 hf
        refine wr_iload_n 27 C dX6_lost_27 1 rfl rfl ?_
        refine wr_aload_n 28 C dX6_lost_28 0 rfl rfl ?_
        refine gespM_0_40_X6 29 C dX6_lost_29 ?_
        refine wr_icmp_gt 32 43 C dX6_lost_32 (by decide) (fun c12 => ?_) (fun c12 => ?_)
        · replace hf := o_pos c12 hf
          refine wr_iconst 43 C dX6_lost_43 (v := (-1)) rfl ?_
          exact wr_iret 44 C dX6_lost_44 ⟨Nat.zero_le _, Nat.zero_le _⟩ (Option.some.inj hf)
        · replace hf := o_neg c12 hf
          refine wr_aload_n 35 C dX6_lost_35 0 rfl rfl ?_
          refine wr_iload_n 36 C dX6_lost_36 1 rfl rfl ?_
          obtain ⟨v15, μ14, h13, hf⟩ := o_bind hf
          refine wr_Vi (kc1 := 0) (ks1 := 0) 37 [] C dX6_lost_37 (tX6_overBehind l N   a1 μ9 (v15, μ14) h13) okX6_overBehind q1938 (b := 0) spM_0 rfl ⟨rfl, rfl, Nat.le_of_ble_eq_true rfl, Nat.le_of_ble_eq_true rfl, Nat.zero_le _, Nat.zero_le _⟩ (Nat.le_of_ble_eq_true rfl) rfl ?_
          refine wr_goto 40 C dX6_lost_40 (tgt := 44) (by decide) ?_
          exact wr_iret 44 C dX6_lost_44 ⟨Nat.zero_le _, Nat.zero_le _⟩ (Option.some.inj hf)
    · replace hf := o_neg c7 hf
      refine wr_sub [] [] rfl ?_
      exact hJlost16  μ3 hf
abbrev cX6_sizeOf : ByteArray := prog_11_method_37_code
def yX6_sizeOf : MethodName := ⟨RX6, "sizeOf", "(I)I"⟩
def dkwX6_sizeOf_0 : List UInt8 := [3, 60, 26, 61, 28, 153, 0, 15, 132, 1, 1, 28, 28, 4, 100, 126, 61, 167, 255, 243, 27, 172]
abbrev dktX6_sizeOf_0 : List UInt8 := dkwX6_sizeOf_0 ++ []
theorem dksX6_sizeOf_0 : cX6_sizeOf.data.toList.drop 0 = dktX6_sizeOf_0 := by decide +kernel
theorem dX6_sizeOf_0 : decode cX6_sizeOf 0 = .ok (.iconst 0, 1) := dk_3 (dk_at dksX6_sizeOf_0 0 rfl rfl)
theorem dX6_sizeOf_1 : decode cX6_sizeOf 1 = .ok (.istore_n 1, 1) := dk_60 (dk_at dksX6_sizeOf_0 1 rfl rfl)
theorem dX6_sizeOf_2 : decode cX6_sizeOf 2 = .ok (.iload_n 0, 1) := dk_26 (dk_at dksX6_sizeOf_0 2 rfl rfl)
theorem dX6_sizeOf_3 : decode cX6_sizeOf 3 = .ok (.istore_n 2, 1) := dk_61 (dk_at dksX6_sizeOf_0 3 rfl rfl)
theorem dX6_sizeOf_4 : decode cX6_sizeOf 4 = .ok (.iload_n 2, 1) := dk_28 (dk_at dksX6_sizeOf_0 4 rfl rfl)
theorem dX6_sizeOf_5 : decode cX6_sizeOf 5 = .ok (.ifCond .eq 15, 3) := dk_153 0 15 (dk_at dksX6_sizeOf_0 5 rfl rfl)
theorem dX6_sizeOf_8 : decode cX6_sizeOf 8 = .ok (.iinc 1 1, 3) := dk_132 1 1 (dk_at dksX6_sizeOf_0 8 rfl rfl)
theorem dX6_sizeOf_11 : decode cX6_sizeOf 11 = .ok (.iload_n 2, 1) := dk_28 (dk_at dksX6_sizeOf_0 11 rfl rfl)
theorem dX6_sizeOf_12 : decode cX6_sizeOf 12 = .ok (.iload_n 2, 1) := dk_28 (dk_at dksX6_sizeOf_0 12 rfl rfl)
theorem dX6_sizeOf_13 : decode cX6_sizeOf 13 = .ok (.iconst 1, 1) := dk_4 (dk_at dksX6_sizeOf_0 13 rfl rfl)
theorem dX6_sizeOf_14 : decode cX6_sizeOf 14 = .ok (.isub, 1) := dk_100 (dk_at dksX6_sizeOf_0 14 rfl rfl)
theorem dX6_sizeOf_15 : decode cX6_sizeOf 15 = .ok (.iand, 1) := dk_126 (dk_at dksX6_sizeOf_0 15 rfl rfl)
theorem dX6_sizeOf_16 : decode cX6_sizeOf 16 = .ok (.istore_n 2, 1) := dk_61 (dk_at dksX6_sizeOf_0 16 rfl rfl)
theorem dX6_sizeOf_17 : decode cX6_sizeOf 17 = .ok (.goto (-13), 3) := dk_167 255 243 (dk_at dksX6_sizeOf_0 17 rfl rfl)
theorem dX6_sizeOf_20 : decode cX6_sizeOf 20 = .ok (.iload_n 1, 1) := dk_27 (dk_at dksX6_sizeOf_0 20 rfl rfl)
theorem dX6_sizeOf_21 : decode cX6_sizeOf 21 = .ok (.ireturn, 1) := dk_172 (dk_at dksX6_sizeOf_0 21 rfl rfl)

theorem okX6_sizeOf : wOkS yX6_sizeOf cX6_sizeOf 3 (some .int) 1 := ⟨q1947, q145, q1948, by decide, by decide, by decide +kernel⟩
def gbX6_sizeOf_4 (N : Nat)   (K : (Int32 → wMem → Option (Int32 × wMem))) (rec : (Int32 → Int32 → wMem → Option (Int32 × wMem))) (x1_ : Int32) (x2_ : Int32) (μ : wMem) : Option (Int32 × wMem) :=
  if x2_ = 0 then K x1_ μ else wLet (x1_ + 1 : Int32) fun x2 => wLet (x2_ &&& (x2_ - (1 : Int32)) : Int32) fun x3 => rec x2 x3 μ
def gX6_sizeOf_4 (N : Nat)   (K : (Int32 → wMem → Option (Int32 × wMem))) : Nat → (Int32 → Int32 → wMem → Option (Int32 × wMem))
  | 0 => fun _ _ _ => none
  | k + 1 => gbX6_sizeOf_4 N   K (gX6_sizeOf_4 N   K k)
set_option maxHeartbeats 4000000 in
set_option maxRecDepth 100000 in
theorem tX6_sizeOf_4 {p : Program} {l : Launch} {e : Env} {s : State} {m : MethodId} {args : Array Value} {below : List Frame} {meth : Method} {c : Code} {D : va_G} {E : List wCell} {q : Nat → Nat} {ca : wCA} {A : Nat → Prop} (C : wC p ({ frames := 0, cells := 0, slots := 0, locals := 0 } : Room) s m args meth c cX6_sizeOf yX6_sizeOf.cls 3 (some .int) D vwCl (spM ++ E) q ca A) (N : Nat)    (K : (Int32 → wMem → Option (Int32 × wMem))) (r0 : (Int32 × wMem)) (hK : ∀ (y1_ : Int32) (μ : wMem), K y1_ μ = some r0 → wJ p l e ({ frames := 0, cells := 0, slots := 0, locals := 0 } : Room) s m args below meth c 3 D vwCl (spM ++ E) q ca A (wQi ({ frames := 0, cells := 0, slots := 0, locals := 0 } : Room) D vwCl (spM ++ E) q ca below args s A r0) 0 0 μ 20 [(1, .int y1_)] []) : ∀ (k : Nat) (x1_ : Int32) (x2_ : Int32) (μ : wMem), gX6_sizeOf_4 N   K k x1_ x2_ μ = some r0 → wJ p l e ({ frames := 0, cells := 0, slots := 0, locals := 0 } : Room) s m args below meth c 3 D vwCl (spM ++ E) q ca A (wQi ({ frames := 0, cells := 0, slots := 0, locals := 0 } : Room) D vwCl (spM ++ E) q ca below args s A r0) 0 0 μ 4 [(1, .int x1_), (2, .int x2_)] [] := by
  intro k
  induction k with
  | zero =>
    intro x1_ x2_ μ hf
    cases hf
  | succ k ih =>
    intro x1_ x2_ μ hf
    replace hf : gbX6_sizeOf_4 N   K (gX6_sizeOf_4 N   K k) x1_ x2_ μ = some r0 := hf
    unfold gbX6_sizeOf_4 at hf
    refine wr_iload_n 4 C dX6_sizeOf_4 1 rfl rfl ?_
    refine wr_if_eq 5 20 C dX6_sizeOf_5 (by decide) (fun c1 => ?_) (fun c1 => ?_)
    · replace hf := o_pos c1 hf
      refine wr_sub [(1, .int x1_)] [0] rfl ?_
      exact hK x1_ μ hf
    · replace hf := o_neg c1 hf
      obtain ⟨x2, ex2, hf⟩ := o_let hf
      refine wr_iinc 8 [(1, .int x2), (2, .int x2_)] C dX6_sizeOf_8 0 rfl (ex2.trans rfl) (Nat.le_of_ble_eq_true rfl) rfl ?_
      refine wr_iload_n 11 C dX6_sizeOf_11 1 rfl rfl ?_
      refine wr_iload_n 12 C dX6_sizeOf_12 1 rfl rfl ?_
      refine wr_iconst 13 C dX6_sizeOf_13 (v := 1) rfl ?_
      refine wr_isub 14 C dX6_sizeOf_14 ?_
      refine wr_iand 15 C dX6_sizeOf_15 ?_
      obtain ⟨x3, ex3, hf⟩ := o_let hf
      refine wr_istore_n 16 [(2, .int x3), (1, .int x2)] C dX6_sizeOf_16 ex3 rfl (Nat.le_of_ble_eq_true rfl) rfl ?_
      refine wr_goto 17 C dX6_sizeOf_17 (tgt := 4) (by decide) ?_
      refine wr_sub [(1, .int x2), (2, .int x3)] [1, 0] rfl ?_
      exact ih x2 x3 μ hf
def fX6_sizeOf (N : Nat)  (a0 : Int32) (μ : wMem) : Option (Int32 × wMem) :=
  gX6_sizeOf_4 N   (fun (x5 : Int32) (μ4 : wMem) => some (x5, μ4)) N 0 a0 μ
set_option maxHeartbeats 4000000 in
set_option maxRecDepth 100000 in
theorem tX6_sizeOf (l : Launch) {D : va_G} {E : List wCell} {q : Nat → Nat} {ca : wCA} (N : Nat)   (a0 : Int32) (μ : wMem) (r0 : (Int32 × wMem)) (hf : fX6_sizeOf N  a0 μ = some r0) : wMi l yX6_sizeOf cX6_sizeOf 3 (some .int) ({ frames := 0, cells := 0, slots := 0, locals := 0 } : Room) D vwCl (spM ++ E) q ca [.int a0] μ r0 := by
  refine wMi_intro (by decide) (Nat.le_of_ble_eq_true rfl) ?_
  intro p e s m args below meth c A C
  unfold fX6_sizeOf at hf
  refine wr_sub [(0, .int a0)] [0] rfl ?_
  refine wr_iconst 0 C dX6_sizeOf_0 (v := 0) rfl ?_
  refine wr_istore_n 1 [(1, .int 0), (0, .int a0)] C dX6_sizeOf_1 rfl rfl (Nat.le_of_ble_eq_true rfl) rfl ?_
  refine wr_iload_n 2 C dX6_sizeOf_2 1 rfl rfl ?_
  refine wr_istore_n 3 [(2, .int a0), (1, .int 0), (0, .int a0)] C dX6_sizeOf_3 rfl rfl (Nat.le_of_ble_eq_true rfl) rfl ?_
  refine wr_sub [(1, .int 0), (2, .int a0)] [1, 0] rfl ?_
  refine tX6_sizeOf_4 C N    _ r0 (fun x5 μ4 hf => ?_) N 0 a0 μ hf
  · replace hf := hf
    refine wr_iload_n 20 C dX6_sizeOf_20 0 rfl rfl ?_
    exact wr_iret 21 C dX6_sizeOf_21 ⟨Nat.zero_le _, Nat.zero_le _⟩ (Option.some.inj hf)
abbrev cX6_worst : ByteArray := prog_11_method_99_code
def yX6_worst : MethodName := ⟨RX6, "worst", "()I"⟩
def dkwX6_worst_4 : List UInt8 := [21, 5, 62, 132, 4, 1, 167, 255, 216, 28, 172]
abbrev dktX6_worst_4 : List UInt8 := dkwX6_worst_4 ++ []
def dkwX6_worst_3 : List UInt8 := [21, 4, 182, 1, 138, 27, 130, 184, 1, 141, 54, 5, 21, 5, 29, 163, 0, 6, 167, 0, 9, 21, 4, 61]
abbrev dktX6_worst_3 : List UInt8 := dkwX6_worst_3 ++ dktX6_worst_4
def dkwX6_worst_2 : List UInt8 := [3, 182, 1, 138, 27, 130, 184, 1, 141, 62, 4, 54, 4, 21, 4, 42, 180, 1, 117, 163, 0, 37, 42]
abbrev dktX6_worst_2 : List UInt8 := dkwX6_worst_2 ++ dktX6_worst_3
def dkwX6_worst_1 : List UInt8 := [172, 4, 42, 180, 0, 34, 5, 46, 120, 4, 100, 42, 180, 0, 34, 8, 46, 2, 130, 126, 60, 3, 61, 42]
abbrev dktX6_worst_1 : List UInt8 := dkwX6_worst_1 ++ dktX6_worst_2
def dkwX6_worst_0 : List UInt8 := [42, 3, 181, 0, 88, 42, 182, 1, 67, 154, 0, 6, 16, 254, 172, 42, 3, 182, 1, 126, 154, 0, 5, 2]
abbrev dktX6_worst_0 : List UInt8 := dkwX6_worst_0 ++ dktX6_worst_1
theorem dksX6_worst_0 : cX6_worst.data.toList.drop 0 = dktX6_worst_0 := by decide +kernel
theorem dksX6_worst_1 : cX6_worst.data.toList.drop 24 = dktX6_worst_1 := dk_seg dksX6_worst_0 24 rfl rfl
theorem dksX6_worst_2 : cX6_worst.data.toList.drop 48 = dktX6_worst_2 := dk_seg dksX6_worst_1 24 rfl rfl
theorem dksX6_worst_3 : cX6_worst.data.toList.drop 71 = dktX6_worst_3 := dk_seg dksX6_worst_2 23 rfl rfl
theorem dksX6_worst_4 : cX6_worst.data.toList.drop 95 = dktX6_worst_4 := dk_seg dksX6_worst_3 24 rfl rfl
theorem dX6_worst_0 : decode cX6_worst 0 = .ok (.aload_n 0, 1) := dk_42 (dk_at dksX6_worst_0 0 rfl rfl)
theorem dX6_worst_1 : decode cX6_worst 1 = .ok (.iconst 0, 1) := dk_3 (dk_at dksX6_worst_0 1 rfl rfl)
theorem dX6_worst_2 : decode cX6_worst 2 = .ok (.putfield 88, 3) := dk_181 0 88 (dk_at dksX6_worst_0 2 rfl rfl)
theorem dX6_worst_5 : decode cX6_worst 5 = .ok (.aload_n 0, 1) := dk_42 (dk_at dksX6_worst_0 5 rfl rfl)
theorem dX6_worst_6 : decode cX6_worst 6 = .ok (.invokevirtual 323, 3) := dk_182 1 67 (dk_at dksX6_worst_0 6 rfl rfl)
theorem dX6_worst_9 : decode cX6_worst 9 = .ok (.ifCond .ne 6, 3) := dk_154 0 6 (dk_at dksX6_worst_0 9 rfl rfl)
theorem dX6_worst_12 : decode cX6_worst 12 = .ok (.bipush (-2), 2) := dk_16 254 (dk_at dksX6_worst_0 12 rfl rfl)
theorem dX6_worst_14 : decode cX6_worst 14 = .ok (.ireturn, 1) := dk_172 (dk_at dksX6_worst_0 14 rfl rfl)
theorem dX6_worst_15 : decode cX6_worst 15 = .ok (.aload_n 0, 1) := dk_42 (dk_at dksX6_worst_0 15 rfl rfl)
theorem dX6_worst_16 : decode cX6_worst 16 = .ok (.iconst 0, 1) := dk_3 (dk_at dksX6_worst_0 16 rfl rfl)
theorem dX6_worst_17 : decode cX6_worst 17 = .ok (.invokevirtual 382, 3) := dk_182 1 126 (dk_at dksX6_worst_0 17 rfl rfl)
theorem dX6_worst_20 : decode cX6_worst 20 = .ok (.ifCond .ne 5, 3) := dk_154 0 5 (dk_at dksX6_worst_0 20 rfl rfl)
theorem dX6_worst_23 : decode cX6_worst 23 = .ok (.iconst (-1), 1) := dk_2 (dk_at dksX6_worst_0 23 rfl rfl)
theorem dX6_worst_24 : decode cX6_worst 24 = .ok (.ireturn, 1) := dk_172 (dk_at dksX6_worst_1 0 rfl rfl)
theorem dX6_worst_25 : decode cX6_worst 25 = .ok (.iconst 1, 1) := dk_4 (dk_at dksX6_worst_1 1 rfl rfl)
theorem dX6_worst_26 : decode cX6_worst 26 = .ok (.aload_n 0, 1) := dk_42 (dk_at dksX6_worst_1 2 rfl rfl)
theorem dX6_worst_27 : decode cX6_worst 27 = .ok (.getfield 34, 3) := dk_180 0 34 (dk_at dksX6_worst_1 3 rfl rfl)
theorem dX6_worst_30 : decode cX6_worst 30 = .ok (.iconst 2, 1) := dk_5 (dk_at dksX6_worst_1 6 rfl rfl)
theorem dX6_worst_31 : decode cX6_worst 31 = .ok (.iaload, 1) := dk_46 (dk_at dksX6_worst_1 7 rfl rfl)
theorem dX6_worst_32 : decode cX6_worst 32 = .ok (.ishl, 1) := dk_120 (dk_at dksX6_worst_1 8 rfl rfl)
theorem dX6_worst_33 : decode cX6_worst 33 = .ok (.iconst 1, 1) := dk_4 (dk_at dksX6_worst_1 9 rfl rfl)
theorem dX6_worst_34 : decode cX6_worst 34 = .ok (.isub, 1) := dk_100 (dk_at dksX6_worst_1 10 rfl rfl)
theorem dX6_worst_35 : decode cX6_worst 35 = .ok (.aload_n 0, 1) := dk_42 (dk_at dksX6_worst_1 11 rfl rfl)
theorem dX6_worst_36 : decode cX6_worst 36 = .ok (.getfield 34, 3) := dk_180 0 34 (dk_at dksX6_worst_1 12 rfl rfl)
theorem dX6_worst_39 : decode cX6_worst 39 = .ok (.iconst 5, 1) := dk_8 (dk_at dksX6_worst_1 15 rfl rfl)
theorem dX6_worst_40 : decode cX6_worst 40 = .ok (.iaload, 1) := dk_46 (dk_at dksX6_worst_1 16 rfl rfl)
theorem dX6_worst_41 : decode cX6_worst 41 = .ok (.iconst (-1), 1) := dk_2 (dk_at dksX6_worst_1 17 rfl rfl)
theorem dX6_worst_42 : decode cX6_worst 42 = .ok (.ixor, 1) := dk_130 (dk_at dksX6_worst_1 18 rfl rfl)
theorem dX6_worst_43 : decode cX6_worst 43 = .ok (.iand, 1) := dk_126 (dk_at dksX6_worst_1 19 rfl rfl)
theorem dX6_worst_44 : decode cX6_worst 44 = .ok (.istore_n 1, 1) := dk_60 (dk_at dksX6_worst_1 20 rfl rfl)
theorem dX6_worst_45 : decode cX6_worst 45 = .ok (.iconst 0, 1) := dk_3 (dk_at dksX6_worst_1 21 rfl rfl)
theorem dX6_worst_46 : decode cX6_worst 46 = .ok (.istore_n 2, 1) := dk_61 (dk_at dksX6_worst_1 22 rfl rfl)
theorem dX6_worst_47 : decode cX6_worst 47 = .ok (.aload_n 0, 1) := dk_42 (dk_at dksX6_worst_1 23 rfl rfl)
theorem dX6_worst_48 : decode cX6_worst 48 = .ok (.iconst 0, 1) := dk_3 (dk_at dksX6_worst_2 0 rfl rfl)
theorem dX6_worst_49 : decode cX6_worst 49 = .ok (.invokevirtual 394, 3) := dk_182 1 138 (dk_at dksX6_worst_2 1 rfl rfl)
theorem dX6_worst_52 : decode cX6_worst 52 = .ok (.iload_n 1, 1) := dk_27 (dk_at dksX6_worst_2 4 rfl rfl)
theorem dX6_worst_53 : decode cX6_worst 53 = .ok (.ixor, 1) := dk_130 (dk_at dksX6_worst_2 5 rfl rfl)
theorem dX6_worst_54 : decode cX6_worst 54 = .ok (.invokestatic 397, 3) := dk_184 1 141 (dk_at dksX6_worst_2 6 rfl rfl)
theorem dX6_worst_57 : decode cX6_worst 57 = .ok (.istore_n 3, 1) := dk_62 (dk_at dksX6_worst_2 9 rfl rfl)
theorem dX6_worst_58 : decode cX6_worst 58 = .ok (.iconst 1, 1) := dk_4 (dk_at dksX6_worst_2 10 rfl rfl)
theorem dX6_worst_59 : decode cX6_worst 59 = .ok (.istore 4, 2) := dk_54 4 (dk_at dksX6_worst_2 11 rfl rfl)
theorem dX6_worst_61 : decode cX6_worst 61 = .ok (.iload 4, 2) := dk_21 4 (dk_at dksX6_worst_2 13 rfl rfl)
theorem dX6_worst_63 : decode cX6_worst 63 = .ok (.aload_n 0, 1) := dk_42 (dk_at dksX6_worst_2 15 rfl rfl)
theorem dX6_worst_64 : decode cX6_worst 64 = .ok (.getfield 373, 3) := dk_180 1 117 (dk_at dksX6_worst_2 16 rfl rfl)
theorem dX6_worst_67 : decode cX6_worst 67 = .ok (.if_icmp .gt 37, 3) := dk_163 0 37 (dk_at dksX6_worst_2 19 rfl rfl)
theorem dX6_worst_70 : decode cX6_worst 70 = .ok (.aload_n 0, 1) := dk_42 (dk_at dksX6_worst_2 22 rfl rfl)
theorem dX6_worst_71 : decode cX6_worst 71 = .ok (.iload 4, 2) := dk_21 4 (dk_at dksX6_worst_3 0 rfl rfl)
theorem dX6_worst_73 : decode cX6_worst 73 = .ok (.invokevirtual 394, 3) := dk_182 1 138 (dk_at dksX6_worst_3 2 rfl rfl)
theorem dX6_worst_76 : decode cX6_worst 76 = .ok (.iload_n 1, 1) := dk_27 (dk_at dksX6_worst_3 5 rfl rfl)
theorem dX6_worst_77 : decode cX6_worst 77 = .ok (.ixor, 1) := dk_130 (dk_at dksX6_worst_3 6 rfl rfl)
theorem dX6_worst_78 : decode cX6_worst 78 = .ok (.invokestatic 397, 3) := dk_184 1 141 (dk_at dksX6_worst_3 7 rfl rfl)
theorem dX6_worst_81 : decode cX6_worst 81 = .ok (.istore 5, 2) := dk_54 5 (dk_at dksX6_worst_3 10 rfl rfl)
theorem dX6_worst_83 : decode cX6_worst 83 = .ok (.iload 5, 2) := dk_21 5 (dk_at dksX6_worst_3 12 rfl rfl)
theorem dX6_worst_85 : decode cX6_worst 85 = .ok (.iload_n 3, 1) := dk_29 (dk_at dksX6_worst_3 14 rfl rfl)
theorem dX6_worst_86 : decode cX6_worst 86 = .ok (.if_icmp .gt 6, 3) := dk_163 0 6 (dk_at dksX6_worst_3 15 rfl rfl)
theorem dX6_worst_89 : decode cX6_worst 89 = .ok (.goto 9, 3) := dk_167 0 9 (dk_at dksX6_worst_3 18 rfl rfl)
theorem dX6_worst_92 : decode cX6_worst 92 = .ok (.iload 4, 2) := dk_21 4 (dk_at dksX6_worst_3 21 rfl rfl)
theorem dX6_worst_94 : decode cX6_worst 94 = .ok (.istore_n 2, 1) := dk_61 (dk_at dksX6_worst_3 23 rfl rfl)
theorem dX6_worst_95 : decode cX6_worst 95 = .ok (.iload 5, 2) := dk_21 5 (dk_at dksX6_worst_4 0 rfl rfl)
theorem dX6_worst_97 : decode cX6_worst 97 = .ok (.istore_n 3, 1) := dk_62 (dk_at dksX6_worst_4 2 rfl rfl)
theorem dX6_worst_98 : decode cX6_worst 98 = .ok (.iinc 4 1, 3) := dk_132 4 1 (dk_at dksX6_worst_4 3 rfl rfl)
theorem dX6_worst_101 : decode cX6_worst 101 = .ok (.goto (-40), 3) := dk_167 255 216 (dk_at dksX6_worst_4 6 rfl rfl)
theorem dX6_worst_104 : decode cX6_worst 104 = .ok (.iload_n 2, 1) := dk_28 (dk_at dksX6_worst_4 9 rfl rfl)
theorem dX6_worst_105 : decode cX6_worst 105 = .ok (.ireturn, 1) := dk_172 (dk_at dksX6_worst_4 10 rfl rfl)

theorem okX6_worst : wOkV yX6_worst cX6_worst 6 (some .int) 0 := ⟨q1943, q1944, q145, q1945, by decide, by decide, by decide +kernel⟩
def gbX6_worst_61 (N : Nat)  (x1_ : Int32) (K : (Int32 → wMem → Option (Int32 × wMem))) (rec : (Int32 → Int32 → Int32 → wMem → Option (Int32 × wMem))) (x2_ : Int32) (x3_ : Int32) (x4_ : Int32) (μ : wMem) : Option (Int32 × wMem) :=
  if (μ.1 0 40) < x4_ then K x2_ μ else wBind (fX6_overBehind N  x4_ μ) fun v22 μ21 => wBind (fX6_sizeOf N  (v22 ^^^ x1_) μ21) fun v25 μ24 => wLet (fun (x27 : Int32) (x28 : Int32) (μ26 : wMem) => wLet (x4_ + 1 : Int32) fun x29 => rec x27 x28 x29 μ26) fun Jworst98 => if x3_ < v25 then Jworst98 x4_ v25 μ24 else Jworst98 x2_ x3_ μ24
def gX6_worst_61 (N : Nat)  (x1_ : Int32) (K : (Int32 → wMem → Option (Int32 × wMem))) : Nat → (Int32 → Int32 → Int32 → wMem → Option (Int32 × wMem))
  | 0 => fun _ _ _ _ => none
  | k + 1 => gbX6_worst_61 N  x1_ K (gX6_worst_61 N  x1_ K k)
set_option maxHeartbeats 4000000 in
set_option maxRecDepth 100000 in
theorem tX6_worst_61 {p : Program} {l : Launch} {e : Env} {s : State} {m : MethodId} {args : Array Value} {below : List Frame} {meth : Method} {c : Code} {D : va_G} {E : List wCell} {q : Nat → Nat} {ca : wCA} {A : Nat → Prop} (C : wC p ({ frames := 9, cells := 0, slots := 0, locals := 210 } : Room) s m args meth c cX6_worst yX6_worst.cls 6 (some .int) D vwCl (spM ++ E) q ca A) (N : Nat)   (x1_ : Int32) (K : (Int32 → wMem → Option (Int32 × wMem))) (r0 : (Int32 × wMem)) (hK : ∀ (y2_ : Int32) (μ : wMem), K y2_ μ = some r0 → wJ p l e ({ frames := 9, cells := 0, slots := 0, locals := 210 } : Room) s m args below meth c 6 D vwCl (spM ++ E) q ca A (wQi ({ frames := 9, cells := 0, slots := 0, locals := 210 } : Room) D vwCl (spM ++ E) q ca below args s A r0) 0 0 μ 104 [(2, .int y2_)] []) : ∀ (k : Nat) (x2_ : Int32) (x3_ : Int32) (x4_ : Int32) (μ : wMem), gX6_worst_61 N  x1_ K k x2_ x3_ x4_ μ = some r0 → wJ p l e ({ frames := 9, cells := 0, slots := 0, locals := 210 } : Room) s m args below meth c 6 D vwCl (spM ++ E) q ca A (wQi ({ frames := 9, cells := 0, slots := 0, locals := 210 } : Room) D vwCl (spM ++ E) q ca below args s A r0) 0 0 μ 61 [(0, .ref (q 0)), (1, .int x1_), (2, .int x2_), (3, .int x3_), (4, .int x4_)] [] := by
  intro k
  induction k with
  | zero =>
    intro x2_ x3_ x4_ μ hf
    cases hf
  | succ k ih =>
    intro x2_ x3_ x4_ μ hf
    replace hf : gbX6_worst_61 N  x1_ K (gX6_worst_61 N  x1_ K k) x2_ x3_ x4_ μ = some r0 := hf
    unfold gbX6_worst_61 at hf
    refine wr_iload 61 C dX6_worst_61 4 rfl ?_
    refine wr_aload_n 63 C dX6_worst_63 0 rfl rfl ?_
    refine gespM_0_40_X6 64 C dX6_worst_64 ?_
    refine wr_icmp_gt 67 104 C dX6_worst_67 (by decide) (fun c19 => ?_) (fun c19 => ?_)
    · replace hf := o_pos c19 hf
      refine wr_sub [(2, .int x2_)] [2] rfl ?_
      exact hK x2_ μ hf
    · replace hf := o_neg c19 hf
      refine wr_aload_n 70 C dX6_worst_70 0 rfl rfl ?_
      refine wr_iload 71 C dX6_worst_71 4 rfl ?_
      obtain ⟨v22, μ21, h20, hf⟩ := o_bind hf
      refine wr_Vi (kc1 := 0) (ks1 := 0) 73 [] C dX6_worst_73 (tX6_overBehind l N   x4_ μ (v22, μ21) h20) okX6_overBehind q1938 (b := 0) spM_0 rfl ⟨rfl, rfl, Nat.le_of_ble_eq_true rfl, Nat.le_of_ble_eq_true rfl, Nat.zero_le _, Nat.zero_le _⟩ (Nat.le_of_ble_eq_true rfl) rfl ?_
      refine wr_iload_n 76 C dX6_worst_76 1 rfl rfl ?_
      refine wr_ixor 77 C dX6_worst_77 ?_
      obtain ⟨v25, μ24, h23, hf⟩ := o_bind hf
      refine wr_Si (kc1 := 0) (ks1 := 0) 78 [] C dX6_worst_78 (tX6_sizeOf l N   (v22 ^^^ x1_) μ21 (v25, μ24) h23) okX6_sizeOf q1946 ⟨rfl, rfl, Nat.le_of_ble_eq_true rfl, Nat.le_of_ble_eq_true rfl, Nat.zero_le _, Nat.zero_le _⟩ (Nat.le_of_ble_eq_true rfl) rfl ?_
      refine wr_istore 81 [(5, .int v25), (0, .ref (q 0)), (1, .int x1_), (2, .int x2_), (3, .int x3_), (4, .int x4_)] C dX6_worst_81 rfl (Nat.le_of_ble_eq_true rfl) rfl ?_
      refine wr_iload 83 C dX6_worst_83 0 rfl ?_
      refine wr_iload_n 85 C dX6_worst_85 4 rfl rfl ?_
      obtain ⟨Jworst98, eJworst98, hf⟩ := o_let hf
      have hJworst98 : ∀ (x27 : Int32) (x28 : Int32) (μ26 : wMem), Jworst98 x27 x28 μ26 = some r0 → wJ p l e ({ frames := 9, cells := 0, slots := 0, locals := 210 } : Room) s m args below meth c 6 D vwCl (spM ++ E) q ca A (wQi ({ frames := 9, cells := 0, slots := 0, locals := 210 } : Room) D vwCl (spM ++ E) q ca below args s A r0) 0 0 μ26 98 [(0, .ref (q 0)), (1, .int x1_), (2, .int x27), (3, .int x28), (4, .int x4_)] [] := by
        intro x27 x28 μ26 hf
        rw [eJworst98] at hf
        obtain ⟨x29, ex29, hf⟩ := o_let hf
        refine wr_iinc 98 [(4, .int x29), (0, .ref (q 0)), (1, .int x1_), (2, .int x27), (3, .int x28)] C dX6_worst_98 4 rfl (ex29.trans rfl) (Nat.le_of_ble_eq_true rfl) rfl ?_
        refine wr_goto 101 C dX6_worst_101 (tgt := 61) (by decide) ?_
        refine wr_sub [(0, .ref (q 0)), (1, .int x1_), (2, .int x27), (3, .int x28), (4, .int x29)] [1, 2, 3, 4, 0] rfl ?_
        exact ih x27 x28 x29 μ26 hf
      refine wr_icmp_gt 86 92 C dX6_worst_86 (by decide) (fun c30 => ?_) (fun c30 => ?_)
      · replace hf := o_pos c30 hf
        refine wr_iload 92 C dX6_worst_92 5 rfl ?_
        refine wr_istore_n 94 [(2, .int x4_), (5, .int v25), (0, .ref (q 0)), (1, .int x1_), (3, .int x3_), (4, .int x4_)] C dX6_worst_94 rfl rfl (Nat.le_of_ble_eq_true rfl) rfl ?_
        refine wr_iload 95 C dX6_worst_95 1 rfl ?_
        refine wr_istore_n 97 [(3, .int v25), (2, .int x4_), (5, .int v25), (0, .ref (q 0)), (1, .int x1_), (4, .int x4_)] C dX6_worst_97 rfl rfl (Nat.le_of_ble_eq_true rfl) rfl ?_
        refine wr_sub [(0, .ref (q 0)), (1, .int x1_), (2, .int x4_), (3, .int v25), (4, .int x4_)] [3, 4, 1, 0, 5] rfl ?_
        exact hJworst98 x4_ v25 μ24 hf
      · replace hf := o_neg c30 hf
        refine wr_goto 89 C dX6_worst_89 (tgt := 98) (by decide) ?_
        refine wr_sub [(0, .ref (q 0)), (1, .int x1_), (2, .int x2_), (3, .int x3_), (4, .int x4_)] [1, 2, 3, 4, 5] rfl ?_
        exact hJworst98 x2_ x3_ μ24 hf
def fX6_worst (N : Nat)   (μ : wMem) : Option (Int32 × wMem) :=
  wLet (wSI μ 0 0 (0 : Int32)) fun μ1 => wBind (fX6_isFamily N   μ1) fun v4 μ3 => if v4 = 0 then some ((-2), μ3) else wBind (fX6_isRow N  0 μ3) fun v8 μ7 => if v8 = 0 then some ((-1), μ7) else wG (ok_in (2 : Int32) 35) (wG (ok_in (5 : Int32) 35) (wLet ((((1 : Int32) <<< ((μ7.1 7 (Int32.toNatClampNeg (2 : Int32))) &&& 31)) - (1 : Int32)) &&& ((μ7.1 7 (Int32.toNatClampNeg (5 : Int32))) ^^^ (-1 : Int32)) : Int32) fun x12 => wBind (fX6_overBehind N  0 μ7) fun v15 μ14 => wBind (fX6_sizeOf N  (v15 ^^^ x12) μ14) fun v18 μ17 => gX6_worst_61 N  x12 (fun (x32 : Int32) (μ31 : wMem) => some (x32, μ31)) N 0 v18 1 μ17))
set_option maxHeartbeats 4000000 in
set_option maxRecDepth 100000 in
theorem tX6_worst (l : Launch) {D : va_G} {E : List wCell} {q : Nat → Nat} {ca : wCA} (N : Nat)    (μ : wMem) (r0 : (Int32 × wMem)) (hf : fX6_worst N   μ = some r0) : wMi l yX6_worst cX6_worst 6 (some .int) ({ frames := 9, cells := 0, slots := 0, locals := 210 } : Room) D vwCl (spM ++ E) q ca [.ref (q 0)] μ r0 := by
  refine wMi_intro (by decide) (Nat.le_of_ble_eq_true rfl) ?_
  intro p e s m args below meth c A C
  unfold fX6_worst at hf
  refine wr_sub [(0, .ref (q 0))] [0] rfl ?_
  refine wr_aload_n 0 C dX6_worst_0 0 rfl rfl ?_
  refine wr_iconst 1 C dX6_worst_1 (v := 0) rfl ?_
  obtain ⟨μ1, eμ1, hf⟩ := o_let hf
  refine puspM_0_0_X6 2 C dX6_worst_2 eμ1 ?_
  refine wr_aload_n 5 C dX6_worst_5 0 rfl rfl ?_
  obtain ⟨v4, μ3, h2, hf⟩ := o_bind hf
  refine wr_Vi (kc1 := 0) (ks1 := 0) 6 [] C dX6_worst_6 (tX6_isFamily l N    μ1 (v4, μ3) h2) okX6_isFamily q1750 (b := 0) spM_0 rfl ⟨rfl, rfl, Nat.le_of_ble_eq_true rfl, Nat.le_of_ble_eq_true rfl, Nat.zero_le _, Nat.zero_le _⟩ (Nat.le_of_ble_eq_true rfl) rfl ?_
  refine wr_if_ne 9 15 C dX6_worst_9 (by decide) (fun c5 => ?_) (fun c5 => ?_)
  · replace hf := o_neg c5 hf
    refine wr_aload_n 15 C dX6_worst_15 0 rfl rfl ?_
    refine wr_iconst 16 C dX6_worst_16 (v := 0) rfl ?_
    obtain ⟨v8, μ7, h6, hf⟩ := o_bind hf
    refine wr_Vi (kc1 := 0) (ks1 := 0) 17 [] C dX6_worst_17 (tX6_isRow l N   0 μ3 (v8, μ7) h6) okX6_isRow q1874 (b := 0) spM_0 rfl ⟨rfl, rfl, Nat.le_of_ble_eq_true rfl, Nat.le_of_ble_eq_true rfl, Nat.zero_le _, Nat.zero_le _⟩ (Nat.le_of_ble_eq_true rfl) rfl ?_
    refine wr_if_ne 20 25 C dX6_worst_20 (by decide) (fun c9 => ?_) (fun c9 => ?_)
    · replace hf := o_neg c9 hf
      refine wr_iconst 25 C dX6_worst_25 (v := 1) rfl ?_
      refine wr_aload_n 26 C dX6_worst_26 0 rfl rfl ?_
      refine gespM_0_17_X6 27 C dX6_worst_27 ?_
      refine wr_iconst 30 C dX6_worst_30 (v := 2) rfl ?_
      obtain ⟨g10, hf⟩ := o_g hf
      refine wr_iald 31 C dX6_worst_31 spM_7 g10 ?_
      refine wr_ishl 32 C dX6_worst_32 ?_
      refine wr_iconst 33 C dX6_worst_33 (v := 1) rfl ?_
      refine wr_isub 34 C dX6_worst_34 ?_
      refine wr_aload_n 35 C dX6_worst_35 0 rfl rfl ?_
      refine gespM_0_17_X6 36 C dX6_worst_36 ?_
      refine wr_iconst 39 C dX6_worst_39 (v := 5) rfl ?_
      obtain ⟨g11, hf⟩ := o_g hf
      refine wr_iald 40 C dX6_worst_40 spM_7 g11 ?_
      refine wr_iconst 41 C dX6_worst_41 (v := (-1)) rfl ?_
      refine wr_ixor 42 C dX6_worst_42 ?_
      refine wr_iand 43 C dX6_worst_43 ?_
      obtain ⟨x12, ex12, hf⟩ := o_let hf
      refine wr_istore_n 44 [(1, .int x12), (0, .ref (q 0))] C dX6_worst_44 ex12 rfl (Nat.le_of_ble_eq_true rfl) rfl ?_
      refine wr_iconst 45 C dX6_worst_45 (v := 0) rfl ?_
      refine wr_istore_n 46 [(2, .int 0), (1, .int x12), (0, .ref (q 0))] C dX6_worst_46 rfl rfl (Nat.le_of_ble_eq_true rfl) rfl ?_
      refine wr_aload_n 47 C dX6_worst_47 2 rfl rfl ?_
      refine wr_iconst 48 C dX6_worst_48 (v := 0) rfl ?_
      obtain ⟨v15, μ14, h13, hf⟩ := o_bind hf
      refine wr_Vi (kc1 := 0) (ks1 := 0) 49 [] C dX6_worst_49 (tX6_overBehind l N   0 μ7 (v15, μ14) h13) okX6_overBehind q1938 (b := 0) spM_0 rfl ⟨rfl, rfl, Nat.le_of_ble_eq_true rfl, Nat.le_of_ble_eq_true rfl, Nat.zero_le _, Nat.zero_le _⟩ (Nat.le_of_ble_eq_true rfl) rfl ?_
      refine wr_iload_n 52 C dX6_worst_52 1 rfl rfl ?_
      refine wr_ixor 53 C dX6_worst_53 ?_
      obtain ⟨v18, μ17, h16, hf⟩ := o_bind hf
      refine wr_Si (kc1 := 0) (ks1 := 0) 54 [] C dX6_worst_54 (tX6_sizeOf l N   (v15 ^^^ x12) μ14 (v18, μ17) h16) okX6_sizeOf q1946 ⟨rfl, rfl, Nat.le_of_ble_eq_true rfl, Nat.le_of_ble_eq_true rfl, Nat.zero_le _, Nat.zero_le _⟩ (Nat.le_of_ble_eq_true rfl) rfl ?_
      refine wr_istore_n 57 [(3, .int v18), (2, .int 0), (1, .int x12), (0, .ref (q 0))] C dX6_worst_57 rfl rfl (Nat.le_of_ble_eq_true rfl) rfl ?_
      refine wr_iconst 58 C dX6_worst_58 (v := 1) rfl ?_
      refine wr_istore 59 [(4, .int 1), (3, .int v18), (2, .int 0), (1, .int x12), (0, .ref (q 0))] C dX6_worst_59 rfl (Nat.le_of_ble_eq_true rfl) rfl ?_
      refine wr_sub [(0, .ref (q 0)), (1, .int x12), (2, .int 0), (3, .int v18), (4, .int 1)] [4, 3, 2, 1, 0] rfl ?_
      refine tX6_worst_61 C N   x12 _ r0 (fun x32 μ31 hf => ?_) N 0 v18 1 μ17 hf
      · replace hf := hf
        refine wr_iload_n 104 C dX6_worst_104 0 rfl rfl ?_
        exact wr_iret 105 C dX6_worst_105 ⟨Nat.zero_le _, Nat.zero_le _⟩ (Option.some.inj hf)
    · replace hf := o_pos c9 hf
      refine wr_iconst 23 C dX6_worst_23 (v := (-1)) rfl ?_
      exact wr_iret 24 C dX6_worst_24 ⟨Nat.zero_le _, Nat.zero_le _⟩ (Option.some.inj hf)
  · replace hf := o_pos c5 hf
    refine wr_bipush 12 C dX6_worst_12 (v := (-2)) rfl ?_
    exact wr_iret 14 C dX6_worst_14 ⟨Nat.zero_le _, Nat.zero_le _⟩ (Option.some.inj hf)
abbrev cX6_cellOf : ByteArray := prog_11_method_100_code
def yX6_cellOf : MethodName := ⟨RX6, "cellOf", "(II)J"⟩
def dkwX6_cellOf_0 : List UInt8 := [42, 180, 0, 16, 16, 60, 27, 104, 28, 96, 47, 173]
abbrev dktX6_cellOf_0 : List UInt8 := dkwX6_cellOf_0 ++ []
theorem dksX6_cellOf_0 : cX6_cellOf.data.toList.drop 0 = dktX6_cellOf_0 := by decide +kernel
theorem dX6_cellOf_0 : decode cX6_cellOf 0 = .ok (.aload_n 0, 1) := dk_42 (dk_at dksX6_cellOf_0 0 rfl rfl)
theorem dX6_cellOf_1 : decode cX6_cellOf 1 = .ok (.getfield 16, 3) := dk_180 0 16 (dk_at dksX6_cellOf_0 1 rfl rfl)
theorem dX6_cellOf_4 : decode cX6_cellOf 4 = .ok (.bipush 60, 2) := dk_16 60 (dk_at dksX6_cellOf_0 4 rfl rfl)
theorem dX6_cellOf_6 : decode cX6_cellOf 6 = .ok (.iload_n 1, 1) := dk_27 (dk_at dksX6_cellOf_0 6 rfl rfl)
theorem dX6_cellOf_7 : decode cX6_cellOf 7 = .ok (.imul, 1) := dk_104 (dk_at dksX6_cellOf_0 7 rfl rfl)
theorem dX6_cellOf_8 : decode cX6_cellOf 8 = .ok (.iload_n 2, 1) := dk_28 (dk_at dksX6_cellOf_0 8 rfl rfl)
theorem dX6_cellOf_9 : decode cX6_cellOf 9 = .ok (.iadd, 1) := dk_96 (dk_at dksX6_cellOf_0 9 rfl rfl)
theorem dX6_cellOf_10 : decode cX6_cellOf 10 = .ok (.laload, 1) := dk_47 (dk_at dksX6_cellOf_0 10 rfl rfl)
theorem dX6_cellOf_11 : decode cX6_cellOf 11 = .ok (.lreturn, 1) := dk_173 (dk_at dksX6_cellOf_0 11 rfl rfl)

theorem okX6_cellOf : wOkV yX6_cellOf cX6_cellOf 3 (some .long) 2 := ⟨q1959, qs122, q145, q1960, by decide, by decide, by decide +kernel⟩
def fX6_cellOf (N : Nat)  (a1 : Int32) (a2 : Int32) (μ : wMem) : Option (Int64 × wMem) :=
  wG (ok_in (((60 : Int32) * a1) + a2) 240) (some (μ.2 3 (Int32.toNatClampNeg (((60 : Int32) * a1) + a2)), μ))
set_option maxHeartbeats 4000000 in
set_option maxRecDepth 100000 in
theorem tX6_cellOf (l : Launch) {D : va_G} {E : List wCell} {q : Nat → Nat} {ca : wCA} (N : Nat)   (a1 : Int32) (a2 : Int32) (μ : wMem) (r0 : (Int64 × wMem)) (hf : fX6_cellOf N  a1 a2 μ = some r0) : wMl l yX6_cellOf cX6_cellOf 3 (some .long) ({ frames := 0, cells := 0, slots := 0, locals := 0 } : Room) D vwCl (spM ++ E) q ca [.ref (q 0), .int a1, .int a2] μ r0 := by
  refine wMl_intro (by decide) (Nat.le_of_ble_eq_true rfl) ?_
  intro p e s m args below meth c A C
  unfold fX6_cellOf at hf
  refine wr_sub [(0, .ref (q 0)), (1, .int a1), (2, .int a2)] [0, 1, 2] rfl ?_
  refine wr_aload_n 0 C dX6_cellOf_0 0 rfl rfl ?_
  refine gespM_0_3_X6 1 C dX6_cellOf_1 ?_
  refine wr_bipush 4 C dX6_cellOf_4 (v := 60) rfl ?_
  refine wr_iload_n 6 C dX6_cellOf_6 1 rfl rfl ?_
  refine wr_imul 7 C dX6_cellOf_7 ?_
  refine wr_iload_n 8 C dX6_cellOf_8 2 rfl rfl ?_
  refine wr_iadd 9 C dX6_cellOf_9 ?_
  obtain ⟨g1, hf⟩ := o_g hf
  refine wr_lald 10 C dX6_cellOf_10 spM_3 g1 ?_
  exact wr_lret 11 C dX6_cellOf_11 ⟨Nat.zero_le _, Nat.zero_le _⟩ (Option.some.inj hf)
abbrev cX6_whyNot : ByteArray := prog_11_method_101_code
def yX6_whyNot : MethodName := ⟨RX6, "whyNot", "(I)I"⟩
def dkwX6_whyNot_2 : List UInt8 := [182, 1, 144, 182, 1, 26, 154, 0, 6, 16, 254, 172, 132, 2, 1, 167, 255, 227, 3, 172]
abbrev dktX6_whyNot_2 : List UInt8 := dkwX6_whyNot_2 ++ []
def dkwX6_whyNot_1 : List UInt8 := [160, 0, 6, 16, 250, 172, 3, 61, 28, 42, 180, 0, 13, 27, 46, 162, 0, 25, 42, 42, 27, 28]
abbrev dktX6_whyNot_1 : List UInt8 := dkwX6_whyNot_1 ++ dktX6_whyNot_2
def dkwX6_whyNot_0 : List UInt8 := [27, 184, 0, 97, 153, 0, 10, 42, 182, 1, 67, 154, 0, 6, 16, 254, 172, 42, 180, 0, 7, 27, 46, 2]
abbrev dktX6_whyNot_0 : List UInt8 := dkwX6_whyNot_0 ++ dktX6_whyNot_1
theorem dksX6_whyNot_0 : cX6_whyNot.data.toList.drop 0 = dktX6_whyNot_0 := by decide +kernel
theorem dksX6_whyNot_1 : cX6_whyNot.data.toList.drop 24 = dktX6_whyNot_1 := dk_seg dksX6_whyNot_0 24 rfl rfl
theorem dksX6_whyNot_2 : cX6_whyNot.data.toList.drop 46 = dktX6_whyNot_2 := dk_seg dksX6_whyNot_1 22 rfl rfl
theorem dX6_whyNot_0 : decode cX6_whyNot 0 = .ok (.iload_n 1, 1) := dk_27 (dk_at dksX6_whyNot_0 0 rfl rfl)
theorem dX6_whyNot_1 : decode cX6_whyNot 1 = .ok (.invokestatic 97, 3) := dk_184 0 97 (dk_at dksX6_whyNot_0 1 rfl rfl)
theorem dX6_whyNot_4 : decode cX6_whyNot 4 = .ok (.ifCond .eq 10, 3) := dk_153 0 10 (dk_at dksX6_whyNot_0 4 rfl rfl)
theorem dX6_whyNot_7 : decode cX6_whyNot 7 = .ok (.aload_n 0, 1) := dk_42 (dk_at dksX6_whyNot_0 7 rfl rfl)
theorem dX6_whyNot_8 : decode cX6_whyNot 8 = .ok (.invokevirtual 323, 3) := dk_182 1 67 (dk_at dksX6_whyNot_0 8 rfl rfl)
theorem dX6_whyNot_11 : decode cX6_whyNot 11 = .ok (.ifCond .ne 6, 3) := dk_154 0 6 (dk_at dksX6_whyNot_0 11 rfl rfl)
theorem dX6_whyNot_14 : decode cX6_whyNot 14 = .ok (.bipush (-2), 2) := dk_16 254 (dk_at dksX6_whyNot_0 14 rfl rfl)
theorem dX6_whyNot_16 : decode cX6_whyNot 16 = .ok (.ireturn, 1) := dk_172 (dk_at dksX6_whyNot_0 16 rfl rfl)
theorem dX6_whyNot_17 : decode cX6_whyNot 17 = .ok (.aload_n 0, 1) := dk_42 (dk_at dksX6_whyNot_0 17 rfl rfl)
theorem dX6_whyNot_18 : decode cX6_whyNot 18 = .ok (.getfield 7, 3) := dk_180 0 7 (dk_at dksX6_whyNot_0 18 rfl rfl)
theorem dX6_whyNot_21 : decode cX6_whyNot 21 = .ok (.iload_n 1, 1) := dk_27 (dk_at dksX6_whyNot_0 21 rfl rfl)
theorem dX6_whyNot_22 : decode cX6_whyNot 22 = .ok (.iaload, 1) := dk_46 (dk_at dksX6_whyNot_0 22 rfl rfl)
theorem dX6_whyNot_23 : decode cX6_whyNot 23 = .ok (.iconst (-1), 1) := dk_2 (dk_at dksX6_whyNot_0 23 rfl rfl)
theorem dX6_whyNot_24 : decode cX6_whyNot 24 = .ok (.if_icmp .ne 6, 3) := dk_160 0 6 (dk_at dksX6_whyNot_1 0 rfl rfl)
theorem dX6_whyNot_27 : decode cX6_whyNot 27 = .ok (.bipush (-6), 2) := dk_16 250 (dk_at dksX6_whyNot_1 3 rfl rfl)
theorem dX6_whyNot_29 : decode cX6_whyNot 29 = .ok (.ireturn, 1) := dk_172 (dk_at dksX6_whyNot_1 5 rfl rfl)
theorem dX6_whyNot_30 : decode cX6_whyNot 30 = .ok (.iconst 0, 1) := dk_3 (dk_at dksX6_whyNot_1 6 rfl rfl)
theorem dX6_whyNot_31 : decode cX6_whyNot 31 = .ok (.istore_n 2, 1) := dk_61 (dk_at dksX6_whyNot_1 7 rfl rfl)
theorem dX6_whyNot_32 : decode cX6_whyNot 32 = .ok (.iload_n 2, 1) := dk_28 (dk_at dksX6_whyNot_1 8 rfl rfl)
theorem dX6_whyNot_33 : decode cX6_whyNot 33 = .ok (.aload_n 0, 1) := dk_42 (dk_at dksX6_whyNot_1 9 rfl rfl)
theorem dX6_whyNot_34 : decode cX6_whyNot 34 = .ok (.getfield 13, 3) := dk_180 0 13 (dk_at dksX6_whyNot_1 10 rfl rfl)
theorem dX6_whyNot_37 : decode cX6_whyNot 37 = .ok (.iload_n 1, 1) := dk_27 (dk_at dksX6_whyNot_1 13 rfl rfl)
theorem dX6_whyNot_38 : decode cX6_whyNot 38 = .ok (.iaload, 1) := dk_46 (dk_at dksX6_whyNot_1 14 rfl rfl)
theorem dX6_whyNot_39 : decode cX6_whyNot 39 = .ok (.if_icmp .ge 25, 3) := dk_162 0 25 (dk_at dksX6_whyNot_1 15 rfl rfl)
theorem dX6_whyNot_42 : decode cX6_whyNot 42 = .ok (.aload_n 0, 1) := dk_42 (dk_at dksX6_whyNot_1 18 rfl rfl)
theorem dX6_whyNot_43 : decode cX6_whyNot 43 = .ok (.aload_n 0, 1) := dk_42 (dk_at dksX6_whyNot_1 19 rfl rfl)
theorem dX6_whyNot_44 : decode cX6_whyNot 44 = .ok (.iload_n 1, 1) := dk_27 (dk_at dksX6_whyNot_1 20 rfl rfl)
theorem dX6_whyNot_45 : decode cX6_whyNot 45 = .ok (.iload_n 2, 1) := dk_28 (dk_at dksX6_whyNot_1 21 rfl rfl)
theorem dX6_whyNot_46 : decode cX6_whyNot 46 = .ok (.invokevirtual 400, 3) := dk_182 1 144 (dk_at dksX6_whyNot_2 0 rfl rfl)
theorem dX6_whyNot_49 : decode cX6_whyNot 49 = .ok (.invokevirtual 282, 3) := dk_182 1 26 (dk_at dksX6_whyNot_2 3 rfl rfl)
theorem dX6_whyNot_52 : decode cX6_whyNot 52 = .ok (.ifCond .ne 6, 3) := dk_154 0 6 (dk_at dksX6_whyNot_2 6 rfl rfl)
theorem dX6_whyNot_55 : decode cX6_whyNot 55 = .ok (.bipush (-2), 2) := dk_16 254 (dk_at dksX6_whyNot_2 9 rfl rfl)
theorem dX6_whyNot_57 : decode cX6_whyNot 57 = .ok (.ireturn, 1) := dk_172 (dk_at dksX6_whyNot_2 11 rfl rfl)
theorem dX6_whyNot_58 : decode cX6_whyNot 58 = .ok (.iinc 2 1, 3) := dk_132 2 1 (dk_at dksX6_whyNot_2 12 rfl rfl)
theorem dX6_whyNot_61 : decode cX6_whyNot 61 = .ok (.goto (-29), 3) := dk_167 255 227 (dk_at dksX6_whyNot_2 15 rfl rfl)
theorem dX6_whyNot_64 : decode cX6_whyNot 64 = .ok (.iconst 0, 1) := dk_3 (dk_at dksX6_whyNot_2 18 rfl rfl)
theorem dX6_whyNot_65 : decode cX6_whyNot 65 = .ok (.ireturn, 1) := dk_172 (dk_at dksX6_whyNot_2 19 rfl rfl)

theorem okX6_whyNot : wOkV yX6_whyNot cX6_whyNot 3 (some .int) 1 := ⟨q1955, qs121, q145, q1956, by decide, by decide, by decide +kernel⟩
def gbX6_whyNot_32 (N : Nat)  (x1_ : Int32) (K : (wMem → Option (Int32 × wMem))) (rec : (Int32 → wMem → Option (Int32 × wMem))) (x2_ : Int32) (μ : wMem) : Option (Int32 × wMem) :=
  wG (ok_in x1_ 4) (if (μ.1 2 (Int32.toNatClampNeg x1_)) ≤ x2_ then K  μ else wBind (fX6_cellOf N  x1_ x2_ μ) fun v16 μ15 => wBind (fX6_isActNumber N  v16 μ15) fun v19 μ18 => if v19 = 0 then some ((-2), μ18) else wLet (x2_ + 1 : Int32) fun x21 => rec x21 μ18)
def gX6_whyNot_32 (N : Nat)  (x1_ : Int32) (K : (wMem → Option (Int32 × wMem))) : Nat → (Int32 → wMem → Option (Int32 × wMem))
  | 0 => fun _ _ => none
  | k + 1 => gbX6_whyNot_32 N  x1_ K (gX6_whyNot_32 N  x1_ K k)
set_option maxHeartbeats 4000000 in
set_option maxRecDepth 100000 in
theorem tX6_whyNot_32 {p : Program} {l : Launch} {e : Env} {s : State} {m : MethodId} {args : Array Value} {below : List Frame} {meth : Method} {c : Code} {D : va_G} {E : List wCell} {q : Nat → Nat} {ca : wCA} {A : Nat → Prop} (C : wC p ({ frames := 2, cells := 0, slots := 0, locals := 45 } : Room) s m args meth c cX6_whyNot yX6_whyNot.cls 3 (some .int) D vwCl (spM ++ E) q ca A) (N : Nat)   (x1_ : Int32) (K : (wMem → Option (Int32 × wMem))) (r0 : (Int32 × wMem)) (hK : ∀  (μ : wMem), K  μ = some r0 → wJ p l e ({ frames := 2, cells := 0, slots := 0, locals := 45 } : Room) s m args below meth c 3 D vwCl (spM ++ E) q ca A (wQi ({ frames := 2, cells := 0, slots := 0, locals := 45 } : Room) D vwCl (spM ++ E) q ca below args s A r0) 0 0 μ 64 [] []) : ∀ (k : Nat) (x2_ : Int32) (μ : wMem), gX6_whyNot_32 N  x1_ K k x2_ μ = some r0 → wJ p l e ({ frames := 2, cells := 0, slots := 0, locals := 45 } : Room) s m args below meth c 3 D vwCl (spM ++ E) q ca A (wQi ({ frames := 2, cells := 0, slots := 0, locals := 45 } : Room) D vwCl (spM ++ E) q ca below args s A r0) 0 0 μ 32 [(0, .ref (q 0)), (1, .int x1_), (2, .int x2_)] [] := by
  intro k
  induction k with
  | zero =>
    intro x2_ μ hf
    cases hf
  | succ k ih =>
    intro x2_ μ hf
    replace hf : gbX6_whyNot_32 N  x1_ K (gX6_whyNot_32 N  x1_ K k) x2_ μ = some r0 := hf
    unfold gbX6_whyNot_32 at hf
    refine wr_iload_n 32 C dX6_whyNot_32 2 rfl rfl ?_
    refine wr_aload_n 33 C dX6_whyNot_33 0 rfl rfl ?_
    refine gespM_0_2_X6 34 C dX6_whyNot_34 ?_
    refine wr_iload_n 37 C dX6_whyNot_37 1 rfl rfl ?_
    obtain ⟨g12, hf⟩ := o_g hf
    refine wr_iald 38 C dX6_whyNot_38 spM_2 g12 ?_
    refine wr_icmp_ge 39 64 C dX6_whyNot_39 (by decide) (fun c13 => ?_) (fun c13 => ?_)
    · replace hf := o_pos c13 hf
      refine wr_sub [] [] rfl ?_
      exact hK  μ hf
    · replace hf := o_neg c13 hf
      refine wr_aload_n 42 C dX6_whyNot_42 0 rfl rfl ?_
      refine wr_aload_n 43 C dX6_whyNot_43 0 rfl rfl ?_
      refine wr_iload_n 44 C dX6_whyNot_44 1 rfl rfl ?_
      refine wr_iload_n 45 C dX6_whyNot_45 2 rfl rfl ?_
      obtain ⟨v16, μ15, h14, hf⟩ := o_bind hf
      refine wr_Vl (kc1 := 0) (ks1 := 0) 46 [.ref (q 0)] C dX6_whyNot_46 (tX6_cellOf l N   x1_ x2_ μ (v16, μ15) h14) okX6_cellOf q1957 (b := 0) spM_0 rfl ⟨rfl, rfl, Nat.le_of_ble_eq_true rfl, Nat.le_of_ble_eq_true rfl, Nat.zero_le _, Nat.zero_le _⟩ (Nat.le_of_ble_eq_true rfl) rfl ?_
      obtain ⟨v19, μ18, h17, hf⟩ := o_bind hf
      refine wr_Vi (kc1 := 0) (ks1 := 0) 49 [] C dX6_whyNot_49 (tX6_isActNumber l N   v16 μ15 (v19, μ18) h17) okX6_isActNumber q1818 (b := 0) spM_0 rfl ⟨rfl, rfl, Nat.le_of_ble_eq_true rfl, Nat.le_of_ble_eq_true rfl, Nat.zero_le _, Nat.zero_le _⟩ (Nat.le_of_ble_eq_true rfl) rfl ?_
      refine wr_if_ne 52 58 C dX6_whyNot_52 (by decide) (fun c20 => ?_) (fun c20 => ?_)
      · replace hf := o_neg c20 hf
        obtain ⟨x21, ex21, hf⟩ := o_let hf
        refine wr_iinc 58 [(2, .int x21), (0, .ref (q 0)), (1, .int x1_)] C dX6_whyNot_58 2 rfl (ex21.trans rfl) (Nat.le_of_ble_eq_true rfl) rfl ?_
        refine wr_goto 61 C dX6_whyNot_61 (tgt := 32) (by decide) ?_
        refine wr_sub [(0, .ref (q 0)), (1, .int x1_), (2, .int x21)] [1, 2, 0] rfl ?_
        exact ih x21 μ18 hf
      · replace hf := o_pos c20 hf
        refine wr_bipush 55 C dX6_whyNot_55 (v := (-2)) rfl ?_
        exact wr_iret 57 C dX6_whyNot_57 ⟨Nat.zero_le _, Nat.zero_le _⟩ (Option.some.inj hf)
def fX6_whyNot (N : Nat)  (a1 : Int32) (μ : wMem) : Option (Int32 × wMem) :=
  wBind (fX6_isSlot N  a1 μ) fun v3 μ2 => wLet (fun  (μ4 : wMem) => some ((-2), μ4)) fun JwhyNot14 => if v3 = 0 then JwhyNot14  μ2 else wBind (fX6_isFamily N   μ2) fun v8 μ7 => if v8 = 0 then JwhyNot14  μ7 else wG (ok_in a1 4) (if (μ7.1 1 (Int32.toNatClampNeg a1)) = (-1 : Int32) then some ((-6), μ7) else gX6_whyNot_32 N  a1 (fun  (μ22 : wMem) => some (0, μ22)) N 0 μ7)
set_option maxHeartbeats 4000000 in
set_option maxRecDepth 100000 in
theorem tX6_whyNot (l : Launch) {D : va_G} {E : List wCell} {q : Nat → Nat} {ca : wCA} (N : Nat)   (a1 : Int32) (μ : wMem) (r0 : (Int32 × wMem)) (hf : fX6_whyNot N  a1 μ = some r0) : wMi l yX6_whyNot cX6_whyNot 3 (some .int) ({ frames := 2, cells := 0, slots := 0, locals := 45 } : Room) D vwCl (spM ++ E) q ca [.ref (q 0), .int a1] μ r0 := by
  refine wMi_intro (by decide) (Nat.le_of_ble_eq_true rfl) ?_
  intro p e s m args below meth c A C
  unfold fX6_whyNot at hf
  refine wr_sub [(0, .ref (q 0)), (1, .int a1)] [0, 1] rfl ?_
  refine wr_iload_n 0 C dX6_whyNot_0 1 rfl rfl ?_
  obtain ⟨v3, μ2, h1, hf⟩ := o_bind hf
  refine wr_Si (kc1 := 0) (ks1 := 0) 1 [] C dX6_whyNot_1 (tX6_isSlot l N   a1 μ (v3, μ2) h1) okX6_isSlot q1548 ⟨rfl, rfl, Nat.le_of_ble_eq_true rfl, Nat.le_of_ble_eq_true rfl, Nat.zero_le _, Nat.zero_le _⟩ (Nat.le_of_ble_eq_true rfl) rfl ?_
  obtain ⟨JwhyNot14, eJwhyNot14, hf⟩ := o_let hf
  have hJwhyNot14 : ∀  (μ4 : wMem), JwhyNot14  μ4 = some r0 → wJ p l e ({ frames := 2, cells := 0, slots := 0, locals := 45 } : Room) s m args below meth c 3 D vwCl (spM ++ E) q ca A (wQi ({ frames := 2, cells := 0, slots := 0, locals := 45 } : Room) D vwCl (spM ++ E) q ca below args s A r0) 0 0 μ4 14 [] [] := by
    intro  μ4 hf
    rw [eJwhyNot14] at hf
    refine wr_bipush 14 C dX6_whyNot_14 (v := (-2)) rfl ?_
    exact wr_iret 16 C dX6_whyNot_16 ⟨Nat.zero_le _, Nat.zero_le _⟩ (Option.some.inj hf)
  refine wr_if_eq 4 14 C dX6_whyNot_4 (by decide) (fun c5 => ?_) (fun c5 => ?_)
  · replace hf := o_pos c5 hf
    refine wr_sub [] [] rfl ?_
    exact hJwhyNot14  μ2 hf
  · replace hf := o_neg c5 hf
    refine wr_aload_n 7 C dX6_whyNot_7 0 rfl rfl ?_
    obtain ⟨v8, μ7, h6, hf⟩ := o_bind hf
    refine wr_Vi (kc1 := 0) (ks1 := 0) 8 [] C dX6_whyNot_8 (tX6_isFamily l N    μ2 (v8, μ7) h6) okX6_isFamily q1750 (b := 0) spM_0 rfl ⟨rfl, rfl, Nat.le_of_ble_eq_true rfl, Nat.le_of_ble_eq_true rfl, Nat.zero_le _, Nat.zero_le _⟩ (Nat.le_of_ble_eq_true rfl) rfl ?_
    refine wr_if_ne 11 17 C dX6_whyNot_11 (by decide) (fun c9 => ?_) (fun c9 => ?_)
    · replace hf := o_neg c9 hf
      refine wr_aload_n 17 C dX6_whyNot_17 0 rfl rfl ?_
      refine gespM_0_1_X6 18 C dX6_whyNot_18 ?_
      refine wr_iload_n 21 C dX6_whyNot_21 1 rfl rfl ?_
      obtain ⟨g10, hf⟩ := o_g hf
      refine wr_iald 22 C dX6_whyNot_22 spM_1 g10 ?_
      refine wr_iconst 23 C dX6_whyNot_23 (v := (-1)) rfl ?_
      refine wr_icmp_ne 24 30 C dX6_whyNot_24 (by decide) (fun c11 => ?_) (fun c11 => ?_)
      · replace hf := o_neg c11 hf
        refine wr_iconst 30 C dX6_whyNot_30 (v := 0) rfl ?_
        refine wr_istore_n 31 [(2, .int 0), (0, .ref (q 0)), (1, .int a1)] C dX6_whyNot_31 rfl rfl (Nat.le_of_ble_eq_true rfl) rfl ?_
        refine wr_sub [(0, .ref (q 0)), (1, .int a1), (2, .int 0)] [1, 2, 0] rfl ?_
        refine tX6_whyNot_32 C N   a1 _ r0 (fun  μ22 hf => ?_) N 0 μ7 hf
        · replace hf := hf
          refine wr_iconst 64 C dX6_whyNot_64 (v := 0) rfl ?_
          exact wr_iret 65 C dX6_whyNot_65 ⟨Nat.zero_le _, Nat.zero_le _⟩ (Option.some.inj hf)
      · replace hf := o_pos c11 hf
        refine wr_bipush 27 C dX6_whyNot_27 (v := (-6)) rfl ?_
        exact wr_iret 29 C dX6_whyNot_29 ⟨Nat.zero_le _, Nat.zero_le _⟩ (Option.some.inj hf)
    · replace hf := o_pos c9 hf
      refine wr_sub [] [] rfl ?_
      exact hJwhyNot14  μ7 hf
abbrev cX6_judges : ByteArray := prog_11_method_102_code
def yX6_judges : MethodName := ⟨RX6, "judges", "(I)I"⟩
def dkwX6_judges_2 : List UInt8 := [172]
abbrev dktX6_judges_2 : List UInt8 := dkwX6_judges_2 ++ []
def dkwX6_judges_1 : List UInt8 := [182, 1, 29, 153, 0, 20, 42, 42, 27, 28, 182, 1, 144, 136, 182, 1, 53, 132, 2, 1, 167, 255, 218, 28]
abbrev dktX6_judges_1 : List UInt8 := dkwX6_judges_1 ++ dktX6_judges_2
def dkwX6_judges_0 : List UInt8 := [42, 182, 1, 50, 3, 61, 28, 42, 180, 0, 13, 27, 46, 162, 0, 34, 42, 42, 27, 28, 182, 1, 144, 136]
abbrev dktX6_judges_0 : List UInt8 := dkwX6_judges_0 ++ dktX6_judges_1
theorem dksX6_judges_0 : cX6_judges.data.toList.drop 0 = dktX6_judges_0 := by decide +kernel
theorem dksX6_judges_1 : cX6_judges.data.toList.drop 24 = dktX6_judges_1 := dk_seg dksX6_judges_0 24 rfl rfl
theorem dksX6_judges_2 : cX6_judges.data.toList.drop 48 = dktX6_judges_2 := dk_seg dksX6_judges_1 24 rfl rfl
theorem dX6_judges_0 : decode cX6_judges 0 = .ok (.aload_n 0, 1) := dk_42 (dk_at dksX6_judges_0 0 rfl rfl)
theorem dX6_judges_1 : decode cX6_judges 1 = .ok (.invokevirtual 306, 3) := dk_182 1 50 (dk_at dksX6_judges_0 1 rfl rfl)
theorem dX6_judges_4 : decode cX6_judges 4 = .ok (.iconst 0, 1) := dk_3 (dk_at dksX6_judges_0 4 rfl rfl)
theorem dX6_judges_5 : decode cX6_judges 5 = .ok (.istore_n 2, 1) := dk_61 (dk_at dksX6_judges_0 5 rfl rfl)
theorem dX6_judges_6 : decode cX6_judges 6 = .ok (.iload_n 2, 1) := dk_28 (dk_at dksX6_judges_0 6 rfl rfl)
theorem dX6_judges_7 : decode cX6_judges 7 = .ok (.aload_n 0, 1) := dk_42 (dk_at dksX6_judges_0 7 rfl rfl)
theorem dX6_judges_8 : decode cX6_judges 8 = .ok (.getfield 13, 3) := dk_180 0 13 (dk_at dksX6_judges_0 8 rfl rfl)
theorem dX6_judges_11 : decode cX6_judges 11 = .ok (.iload_n 1, 1) := dk_27 (dk_at dksX6_judges_0 11 rfl rfl)
theorem dX6_judges_12 : decode cX6_judges 12 = .ok (.iaload, 1) := dk_46 (dk_at dksX6_judges_0 12 rfl rfl)
theorem dX6_judges_13 : decode cX6_judges 13 = .ok (.if_icmp .ge 34, 3) := dk_162 0 34 (dk_at dksX6_judges_0 13 rfl rfl)
theorem dX6_judges_16 : decode cX6_judges 16 = .ok (.aload_n 0, 1) := dk_42 (dk_at dksX6_judges_0 16 rfl rfl)
theorem dX6_judges_17 : decode cX6_judges 17 = .ok (.aload_n 0, 1) := dk_42 (dk_at dksX6_judges_0 17 rfl rfl)
theorem dX6_judges_18 : decode cX6_judges 18 = .ok (.iload_n 1, 1) := dk_27 (dk_at dksX6_judges_0 18 rfl rfl)
theorem dX6_judges_19 : decode cX6_judges 19 = .ok (.iload_n 2, 1) := dk_28 (dk_at dksX6_judges_0 19 rfl rfl)
theorem dX6_judges_20 : decode cX6_judges 20 = .ok (.invokevirtual 400, 3) := dk_182 1 144 (dk_at dksX6_judges_0 20 rfl rfl)
theorem dX6_judges_23 : decode cX6_judges 23 = .ok (.l2i, 1) := dk_136 (dk_at dksX6_judges_0 23 rfl rfl)
theorem dX6_judges_24 : decode cX6_judges 24 = .ok (.invokevirtual 285, 3) := dk_182 1 29 (dk_at dksX6_judges_1 0 rfl rfl)
theorem dX6_judges_27 : decode cX6_judges 27 = .ok (.ifCond .eq 20, 3) := dk_153 0 20 (dk_at dksX6_judges_1 3 rfl rfl)
theorem dX6_judges_30 : decode cX6_judges 30 = .ok (.aload_n 0, 1) := dk_42 (dk_at dksX6_judges_1 6 rfl rfl)
theorem dX6_judges_31 : decode cX6_judges 31 = .ok (.aload_n 0, 1) := dk_42 (dk_at dksX6_judges_1 7 rfl rfl)
theorem dX6_judges_32 : decode cX6_judges 32 = .ok (.iload_n 1, 1) := dk_27 (dk_at dksX6_judges_1 8 rfl rfl)
theorem dX6_judges_33 : decode cX6_judges 33 = .ok (.iload_n 2, 1) := dk_28 (dk_at dksX6_judges_1 9 rfl rfl)
theorem dX6_judges_34 : decode cX6_judges 34 = .ok (.invokevirtual 400, 3) := dk_182 1 144 (dk_at dksX6_judges_1 10 rfl rfl)
theorem dX6_judges_37 : decode cX6_judges 37 = .ok (.l2i, 1) := dk_136 (dk_at dksX6_judges_1 13 rfl rfl)
theorem dX6_judges_38 : decode cX6_judges 38 = .ok (.invokevirtual 309, 3) := dk_182 1 53 (dk_at dksX6_judges_1 14 rfl rfl)
theorem dX6_judges_41 : decode cX6_judges 41 = .ok (.iinc 2 1, 3) := dk_132 2 1 (dk_at dksX6_judges_1 17 rfl rfl)
theorem dX6_judges_44 : decode cX6_judges 44 = .ok (.goto (-38), 3) := dk_167 255 218 (dk_at dksX6_judges_1 20 rfl rfl)
theorem dX6_judges_47 : decode cX6_judges 47 = .ok (.iload_n 2, 1) := dk_28 (dk_at dksX6_judges_1 23 rfl rfl)
theorem dX6_judges_48 : decode cX6_judges 48 = .ok (.ireturn, 1) := dk_172 (dk_at dksX6_judges_2 0 rfl rfl)

theorem okX6_judges : wOkV yX6_judges cX6_judges 3 (some .int) 1 := ⟨q1963, qs123, q145, q1964, by decide, by decide, by decide +kernel⟩
def gbX6_judges_6 (N : Nat)  (x1_ : Int32) (K : (Int32 → wMem → Option (Int32 × wMem))) (rec : (Int32 → wMem → Option (Int32 × wMem))) (x2_ : Int32) (μ : wMem) : Option (Int32 × wMem) :=
  wG (ok_in x1_ 4) (if (μ.1 2 (Int32.toNatClampNeg x1_)) ≤ x2_ then K x2_ μ else wBind (fX6_cellOf N  x1_ x2_ μ) fun v7 μ6 => wBind (fX6_mayAct N  (Int64.toInt32 v7) μ6) fun v10 μ9 => if v10 = 0 then K x2_ μ9 else wBind (fX6_cellOf N  x1_ x2_ μ9) fun v14 μ13 => wBindV (fX6_goes N  (Int64.toInt32 v14) μ13) fun μ16 => wLet (x2_ + 1 : Int32) fun x17 => rec x17 μ16)
def gX6_judges_6 (N : Nat)  (x1_ : Int32) (K : (Int32 → wMem → Option (Int32 × wMem))) : Nat → (Int32 → wMem → Option (Int32 × wMem))
  | 0 => fun _ _ => none
  | k + 1 => gbX6_judges_6 N  x1_ K (gX6_judges_6 N  x1_ K k)
set_option maxHeartbeats 4000000 in
set_option maxRecDepth 100000 in
theorem tX6_judges_6 {p : Program} {l : Launch} {e : Env} {s : State} {m : MethodId} {args : Array Value} {below : List Frame} {meth : Method} {c : Code} {D : va_G} {E : List wCell} {q : Nat → Nat} {ca : wCA} {A : Nat → Prop} (C : wC p ({ frames := 4, cells := 0, slots := 0, locals := 94 } : Room) s m args meth c cX6_judges yX6_judges.cls 3 (some .int) D vwCl (spM ++ E) q ca A) (N : Nat)   (x1_ : Int32) (K : (Int32 → wMem → Option (Int32 × wMem))) (r0 : (Int32 × wMem)) (hK : ∀ (y2_ : Int32) (μ : wMem), K y2_ μ = some r0 → wJ p l e ({ frames := 4, cells := 0, slots := 0, locals := 94 } : Room) s m args below meth c 3 D vwCl (spM ++ E) q ca A (wQi ({ frames := 4, cells := 0, slots := 0, locals := 94 } : Room) D vwCl (spM ++ E) q ca below args s A r0) 0 0 μ 47 [(2, .int y2_)] []) : ∀ (k : Nat) (x2_ : Int32) (μ : wMem), gX6_judges_6 N  x1_ K k x2_ μ = some r0 → wJ p l e ({ frames := 4, cells := 0, slots := 0, locals := 94 } : Room) s m args below meth c 3 D vwCl (spM ++ E) q ca A (wQi ({ frames := 4, cells := 0, slots := 0, locals := 94 } : Room) D vwCl (spM ++ E) q ca below args s A r0) 0 0 μ 6 [(0, .ref (q 0)), (1, .int x1_), (2, .int x2_)] [] := by
  intro k
  induction k with
  | zero =>
    intro x2_ μ hf
    cases hf
  | succ k ih =>
    intro x2_ μ hf
    replace hf : gbX6_judges_6 N  x1_ K (gX6_judges_6 N  x1_ K k) x2_ μ = some r0 := hf
    unfold gbX6_judges_6 at hf
    refine wr_iload_n 6 C dX6_judges_6 2 rfl rfl ?_
    refine wr_aload_n 7 C dX6_judges_7 0 rfl rfl ?_
    refine gespM_0_2_X6 8 C dX6_judges_8 ?_
    refine wr_iload_n 11 C dX6_judges_11 1 rfl rfl ?_
    obtain ⟨g3, hf⟩ := o_g hf
    refine wr_iald 12 C dX6_judges_12 spM_2 g3 ?_
    refine wr_icmp_ge 13 47 C dX6_judges_13 (by decide) (fun c4 => ?_) (fun c4 => ?_)
    · replace hf := o_pos c4 hf
      refine wr_sub [(2, .int x2_)] [2] rfl ?_
      exact hK x2_ μ hf
    · replace hf := o_neg c4 hf
      refine wr_aload_n 16 C dX6_judges_16 0 rfl rfl ?_
      refine wr_aload_n 17 C dX6_judges_17 0 rfl rfl ?_
      refine wr_iload_n 18 C dX6_judges_18 1 rfl rfl ?_
      refine wr_iload_n 19 C dX6_judges_19 2 rfl rfl ?_
      obtain ⟨v7, μ6, h5, hf⟩ := o_bind hf
      refine wr_Vl (kc1 := 0) (ks1 := 0) 20 [.ref (q 0)] C dX6_judges_20 (tX6_cellOf l N   x1_ x2_ μ (v7, μ6) h5) okX6_cellOf q1957 (b := 0) spM_0 rfl ⟨rfl, rfl, Nat.le_of_ble_eq_true rfl, Nat.le_of_ble_eq_true rfl, Nat.zero_le _, Nat.zero_le _⟩ (Nat.le_of_ble_eq_true rfl) rfl ?_
      refine wr_l2i 23 C dX6_judges_23 ?_
      obtain ⟨v10, μ9, h8, hf⟩ := o_bind hf
      refine wr_Vi (kc1 := 0) (ks1 := 0) 24 [] C dX6_judges_24 (tX6_mayAct l N   (Int64.toInt32 v7) μ6 (v10, μ9) h8) okX6_mayAct q1825 (b := 0) spM_0 rfl ⟨rfl, rfl, Nat.le_of_ble_eq_true rfl, Nat.le_of_ble_eq_true rfl, Nat.zero_le _, Nat.zero_le _⟩ (Nat.le_of_ble_eq_true rfl) rfl ?_
      refine wr_if_eq 27 47 C dX6_judges_27 (by decide) (fun c11 => ?_) (fun c11 => ?_)
      · replace hf := o_pos c11 hf
        refine wr_sub [(2, .int x2_)] [2] rfl ?_
        exact hK x2_ μ9 hf
      · replace hf := o_neg c11 hf
        refine wr_aload_n 30 C dX6_judges_30 0 rfl rfl ?_
        refine wr_aload_n 31 C dX6_judges_31 0 rfl rfl ?_
        refine wr_iload_n 32 C dX6_judges_32 1 rfl rfl ?_
        refine wr_iload_n 33 C dX6_judges_33 2 rfl rfl ?_
        obtain ⟨v14, μ13, h12, hf⟩ := o_bind hf
        refine wr_Vl (kc1 := 0) (ks1 := 0) 34 [.ref (q 0)] C dX6_judges_34 (tX6_cellOf l N   x1_ x2_ μ9 (v14, μ13) h12) okX6_cellOf q1957 (b := 0) spM_0 rfl ⟨rfl, rfl, Nat.le_of_ble_eq_true rfl, Nat.le_of_ble_eq_true rfl, Nat.zero_le _, Nat.zero_le _⟩ (Nat.le_of_ble_eq_true rfl) rfl ?_
        refine wr_l2i 37 C dX6_judges_37 ?_
        obtain ⟨μ16, h15, hf⟩ := o_bindV hf
        refine wr_Vv (kc1 := 0) (ks1 := 0) 38 [] C dX6_judges_38 (tX6_goes l N   (Int64.toInt32 v14) μ13 μ16 h15) okX6_goes q1702 (b := 0) spM_0 rfl ⟨rfl, rfl, Nat.le_of_ble_eq_true rfl, Nat.le_of_ble_eq_true rfl, Nat.zero_le _, Nat.zero_le _⟩ (Nat.le_of_ble_eq_true rfl) rfl ?_
        obtain ⟨x17, ex17, hf⟩ := o_let hf
        refine wr_iinc 41 [(2, .int x17), (0, .ref (q 0)), (1, .int x1_)] C dX6_judges_41 2 rfl (ex17.trans rfl) (Nat.le_of_ble_eq_true rfl) rfl ?_
        refine wr_goto 44 C dX6_judges_44 (tgt := 6) (by decide) ?_
        refine wr_sub [(0, .ref (q 0)), (1, .int x1_), (2, .int x17)] [1, 2, 0] rfl ?_
        exact ih x17 μ16 hf
def fX6_judges (N : Nat)  (a1 : Int32) (μ : wMem) : Option (Int32 × wMem) :=
  wBindV (fX6_start N   μ) fun μ2 => gX6_judges_6 N  a1 (fun (x19 : Int32) (μ18 : wMem) => some (x19, μ18)) N 0 μ2
set_option maxHeartbeats 4000000 in
set_option maxRecDepth 100000 in
theorem tX6_judges (l : Launch) {D : va_G} {E : List wCell} {q : Nat → Nat} {ca : wCA} (N : Nat)   (a1 : Int32) (μ : wMem) (r0 : (Int32 × wMem)) (hf : fX6_judges N  a1 μ = some r0) : wMi l yX6_judges cX6_judges 3 (some .int) ({ frames := 4, cells := 0, slots := 0, locals := 94 } : Room) D vwCl (spM ++ E) q ca [.ref (q 0), .int a1] μ r0 := by
  refine wMi_intro (by decide) (Nat.le_of_ble_eq_true rfl) ?_
  intro p e s m args below meth c A C
  unfold fX6_judges at hf
  refine wr_sub [(0, .ref (q 0)), (1, .int a1)] [0, 1] rfl ?_
  refine wr_aload_n 0 C dX6_judges_0 0 rfl rfl ?_
  obtain ⟨μ2, h1, hf⟩ := o_bindV hf
  refine wr_Vv (kc1 := 0) (ks1 := 0) 1 [] C dX6_judges_1 (tX6_start l N    μ μ2 h1) okX6_start q1694 (b := 0) spM_0 rfl ⟨rfl, rfl, Nat.le_of_ble_eq_true rfl, Nat.le_of_ble_eq_true rfl, Nat.zero_le _, Nat.zero_le _⟩ (Nat.le_of_ble_eq_true rfl) rfl ?_
  refine wr_iconst 4 C dX6_judges_4 (v := 0) rfl ?_
  refine wr_istore_n 5 [(2, .int 0), (0, .ref (q 0)), (1, .int a1)] C dX6_judges_5 rfl rfl (Nat.le_of_ble_eq_true rfl) rfl ?_
  refine wr_sub [(0, .ref (q 0)), (1, .int a1), (2, .int 0)] [1, 2, 0] rfl ?_
  refine tX6_judges_6 C N   a1 _ r0 (fun x19 μ18 hf => ?_) N 0 μ2 hf
  · replace hf := hf
    refine wr_iload_n 47 C dX6_judges_47 0 rfl rfl ?_
    exact wr_iret 48 C dX6_judges_48 ⟨Nat.zero_le _, Nat.zero_le _⟩ (Option.some.inj hf)
abbrev cX6_judge : ByteArray := prog_11_method_103_code
def yX6_judge : MethodName := ⟨RX6, "judge", "(I)I"⟩
def dkwX6_judge_1 : List UInt8 := [172]
abbrev dktX6_judge_1 : List UInt8 := dkwX6_judge_1 ++ []
def dkwX6_judge_0 : List UInt8 := [42, 3, 181, 0, 88, 42, 27, 182, 1, 148, 61, 28, 153, 0, 7, 28, 167, 0, 8, 42, 27, 182, 1, 151]
abbrev dktX6_judge_0 : List UInt8 := dkwX6_judge_0 ++ dktX6_judge_1
theorem dksX6_judge_0 : cX6_judge.data.toList.drop 0 = dktX6_judge_0 := by decide +kernel
theorem dksX6_judge_1 : cX6_judge.data.toList.drop 24 = dktX6_judge_1 := dk_seg dksX6_judge_0 24 rfl rfl
theorem dX6_judge_0 : decode cX6_judge 0 = .ok (.aload_n 0, 1) := dk_42 (dk_at dksX6_judge_0 0 rfl rfl)
theorem dX6_judge_1 : decode cX6_judge 1 = .ok (.iconst 0, 1) := dk_3 (dk_at dksX6_judge_0 1 rfl rfl)
theorem dX6_judge_2 : decode cX6_judge 2 = .ok (.putfield 88, 3) := dk_181 0 88 (dk_at dksX6_judge_0 2 rfl rfl)
theorem dX6_judge_5 : decode cX6_judge 5 = .ok (.aload_n 0, 1) := dk_42 (dk_at dksX6_judge_0 5 rfl rfl)
theorem dX6_judge_6 : decode cX6_judge 6 = .ok (.iload_n 1, 1) := dk_27 (dk_at dksX6_judge_0 6 rfl rfl)
theorem dX6_judge_7 : decode cX6_judge 7 = .ok (.invokevirtual 404, 3) := dk_182 1 148 (dk_at dksX6_judge_0 7 rfl rfl)
theorem dX6_judge_10 : decode cX6_judge 10 = .ok (.istore_n 2, 1) := dk_61 (dk_at dksX6_judge_0 10 rfl rfl)
theorem dX6_judge_11 : decode cX6_judge 11 = .ok (.iload_n 2, 1) := dk_28 (dk_at dksX6_judge_0 11 rfl rfl)
theorem dX6_judge_12 : decode cX6_judge 12 = .ok (.ifCond .eq 7, 3) := dk_153 0 7 (dk_at dksX6_judge_0 12 rfl rfl)
theorem dX6_judge_15 : decode cX6_judge 15 = .ok (.iload_n 2, 1) := dk_28 (dk_at dksX6_judge_0 15 rfl rfl)
theorem dX6_judge_16 : decode cX6_judge 16 = .ok (.goto 8, 3) := dk_167 0 8 (dk_at dksX6_judge_0 16 rfl rfl)
theorem dX6_judge_19 : decode cX6_judge 19 = .ok (.aload_n 0, 1) := dk_42 (dk_at dksX6_judge_0 19 rfl rfl)
theorem dX6_judge_20 : decode cX6_judge 20 = .ok (.iload_n 1, 1) := dk_27 (dk_at dksX6_judge_0 20 rfl rfl)
theorem dX6_judge_21 : decode cX6_judge 21 = .ok (.invokevirtual 407, 3) := dk_182 1 151 (dk_at dksX6_judge_0 21 rfl rfl)
theorem dX6_judge_24 : decode cX6_judge 24 = .ok (.ireturn, 1) := dk_172 (dk_at dksX6_judge_1 0 rfl rfl)

theorem okX6_judge : wOkV yX6_judge cX6_judge 3 (some .int) 1 := ⟨q1950, q1951, q145, q1952, by decide, by decide, by decide +kernel⟩
def fX6_judge (N : Nat)  (a1 : Int32) (μ : wMem) : Option (Int32 × wMem) :=
  wLet (wSI μ 0 0 (0 : Int32)) fun μ1 => wBind (fX6_whyNot N  a1 μ1) fun v4 μ3 => if v4 = 0 then wBind (fX6_judges N  a1 μ3) fun v8 μ7 => some (v8, μ7) else some (v4, μ3)
set_option maxHeartbeats 4000000 in
set_option maxRecDepth 100000 in
theorem tX6_judge (l : Launch) {D : va_G} {E : List wCell} {q : Nat → Nat} {ca : wCA} (N : Nat)   (a1 : Int32) (μ : wMem) (r0 : (Int32 × wMem)) (hf : fX6_judge N  a1 μ = some r0) : wMi l yX6_judge cX6_judge 3 (some .int) ({ frames := 5, cells := 0, slots := 0, locals := 116 } : Room) D vwCl (spM ++ E) q ca [.ref (q 0), .int a1] μ r0 := by
  refine wMi_intro (by decide) (Nat.le_of_ble_eq_true rfl) ?_
  intro p e s m args below meth c A C
  unfold fX6_judge at hf
  refine wr_sub [(0, .ref (q 0)), (1, .int a1)] [0, 1] rfl ?_
  refine wr_aload_n 0 C dX6_judge_0 0 rfl rfl ?_
  refine wr_iconst 1 C dX6_judge_1 (v := 0) rfl ?_
  obtain ⟨μ1, eμ1, hf⟩ := o_let hf
  refine puspM_0_0_X6 2 C dX6_judge_2 eμ1 ?_
  refine wr_aload_n 5 C dX6_judge_5 0 rfl rfl ?_
  refine wr_iload_n 6 C dX6_judge_6 1 rfl rfl ?_
  obtain ⟨v4, μ3, h2, hf⟩ := o_bind hf
  refine wr_Vi (kc1 := 0) (ks1 := 0) 7 [] C dX6_judge_7 (tX6_whyNot l N   a1 μ1 (v4, μ3) h2) okX6_whyNot q1953 (b := 0) spM_0 rfl ⟨rfl, rfl, Nat.le_of_ble_eq_true rfl, Nat.le_of_ble_eq_true rfl, Nat.zero_le _, Nat.zero_le _⟩ (Nat.le_of_ble_eq_true rfl) rfl ?_
  refine wr_istore_n 10 [(2, .int v4), (0, .ref (q 0)), (1, .int a1)] C dX6_judge_10 rfl rfl (Nat.le_of_ble_eq_true rfl) rfl ?_
  refine wr_iload_n 11 C dX6_judge_11 0 rfl rfl ?_
  refine wr_if_eq 12 19 C dX6_judge_12 (by decide) (fun c5 => ?_) (fun c5 => ?_)
  · replace hf := o_pos c5 hf
    refine wr_aload_n 19 C dX6_judge_19 1 rfl rfl ?_
    refine wr_iload_n 20 C dX6_judge_20 2 rfl rfl ?_
    obtain ⟨v8, μ7, h6, hf⟩ := o_bind hf
    refine wr_Vi (kc1 := 0) (ks1 := 0) 21 [] C dX6_judge_21 (tX6_judges l N   a1 μ3 (v8, μ7) h6) okX6_judges q1961 (b := 0) spM_0 rfl ⟨rfl, rfl, Nat.le_of_ble_eq_true rfl, Nat.le_of_ble_eq_true rfl, Nat.zero_le _, Nat.zero_le _⟩ (Nat.le_of_ble_eq_true rfl) rfl ?_
    exact wr_iret 24 C dX6_judge_24 ⟨Nat.zero_le _, Nat.zero_le _⟩ (Option.some.inj hf)
  · replace hf := o_neg c5 hf
    refine wr_iload_n 15 C dX6_judge_15 0 rfl rfl ?_
    refine wr_goto 16 C dX6_judge_16 (tgt := 24) (by decide) ?_
    exact wr_iret 24 C dX6_judge_24 ⟨Nat.zero_le _, Nat.zero_le _⟩ (Option.some.inj hf)
abbrev cX6_judged : ByteArray := prog_11_method_104_code
def yX6_judged : MethodName := ⟨RX6, "judged", "(II)I"⟩
def dkwX6_judged_2 : List UInt8 := [160, 0, 10, 42, 180, 1, 38, 167, 0, 7, 42, 182, 1, 70, 172]
abbrev dktX6_judged_2 : List UInt8 := dkwX6_judged_2 ++ []
def dkwX6_judged_1 : List UInt8 := [154, 0, 10, 42, 180, 0, 238, 167, 0, 31, 28, 4, 160, 0, 10, 42, 180, 1, 35, 167, 0, 19, 28, 5]
abbrev dktX6_judged_1 : List UInt8 := dkwX6_judged_1 ++ dktX6_judged_2
def dkwX6_judged_0 : List UInt8 := [42, 3, 181, 0, 88, 42, 27, 182, 1, 148, 62, 29, 153, 0, 5, 29, 172, 42, 27, 182, 1, 151, 87, 28]
abbrev dktX6_judged_0 : List UInt8 := dkwX6_judged_0 ++ dktX6_judged_1
theorem dksX6_judged_0 : cX6_judged.data.toList.drop 0 = dktX6_judged_0 := by decide +kernel
theorem dksX6_judged_1 : cX6_judged.data.toList.drop 24 = dktX6_judged_1 := dk_seg dksX6_judged_0 24 rfl rfl
theorem dksX6_judged_2 : cX6_judged.data.toList.drop 48 = dktX6_judged_2 := dk_seg dksX6_judged_1 24 rfl rfl
theorem dX6_judged_0 : decode cX6_judged 0 = .ok (.aload_n 0, 1) := dk_42 (dk_at dksX6_judged_0 0 rfl rfl)
theorem dX6_judged_1 : decode cX6_judged 1 = .ok (.iconst 0, 1) := dk_3 (dk_at dksX6_judged_0 1 rfl rfl)
theorem dX6_judged_2 : decode cX6_judged 2 = .ok (.putfield 88, 3) := dk_181 0 88 (dk_at dksX6_judged_0 2 rfl rfl)
theorem dX6_judged_5 : decode cX6_judged 5 = .ok (.aload_n 0, 1) := dk_42 (dk_at dksX6_judged_0 5 rfl rfl)
theorem dX6_judged_6 : decode cX6_judged 6 = .ok (.iload_n 1, 1) := dk_27 (dk_at dksX6_judged_0 6 rfl rfl)
theorem dX6_judged_7 : decode cX6_judged 7 = .ok (.invokevirtual 404, 3) := dk_182 1 148 (dk_at dksX6_judged_0 7 rfl rfl)
theorem dX6_judged_10 : decode cX6_judged 10 = .ok (.istore_n 3, 1) := dk_62 (dk_at dksX6_judged_0 10 rfl rfl)
theorem dX6_judged_11 : decode cX6_judged 11 = .ok (.iload_n 3, 1) := dk_29 (dk_at dksX6_judged_0 11 rfl rfl)
theorem dX6_judged_12 : decode cX6_judged 12 = .ok (.ifCond .eq 5, 3) := dk_153 0 5 (dk_at dksX6_judged_0 12 rfl rfl)
theorem dX6_judged_15 : decode cX6_judged 15 = .ok (.iload_n 3, 1) := dk_29 (dk_at dksX6_judged_0 15 rfl rfl)
theorem dX6_judged_16 : decode cX6_judged 16 = .ok (.ireturn, 1) := dk_172 (dk_at dksX6_judged_0 16 rfl rfl)
theorem dX6_judged_17 : decode cX6_judged 17 = .ok (.aload_n 0, 1) := dk_42 (dk_at dksX6_judged_0 17 rfl rfl)
theorem dX6_judged_18 : decode cX6_judged 18 = .ok (.iload_n 1, 1) := dk_27 (dk_at dksX6_judged_0 18 rfl rfl)
theorem dX6_judged_19 : decode cX6_judged 19 = .ok (.invokevirtual 407, 3) := dk_182 1 151 (dk_at dksX6_judged_0 19 rfl rfl)
theorem dX6_judged_22 : decode cX6_judged 22 = .ok (.pop, 1) := dk_87 (dk_at dksX6_judged_0 22 rfl rfl)
theorem dX6_judged_23 : decode cX6_judged 23 = .ok (.iload_n 2, 1) := dk_28 (dk_at dksX6_judged_0 23 rfl rfl)
theorem dX6_judged_24 : decode cX6_judged 24 = .ok (.ifCond .ne 10, 3) := dk_154 0 10 (dk_at dksX6_judged_1 0 rfl rfl)
theorem dX6_judged_27 : decode cX6_judged 27 = .ok (.aload_n 0, 1) := dk_42 (dk_at dksX6_judged_1 3 rfl rfl)
theorem dX6_judged_28 : decode cX6_judged 28 = .ok (.getfield 238, 3) := dk_180 0 238 (dk_at dksX6_judged_1 4 rfl rfl)
theorem dX6_judged_31 : decode cX6_judged 31 = .ok (.goto 31, 3) := dk_167 0 31 (dk_at dksX6_judged_1 7 rfl rfl)
theorem dX6_judged_34 : decode cX6_judged 34 = .ok (.iload_n 2, 1) := dk_28 (dk_at dksX6_judged_1 10 rfl rfl)
theorem dX6_judged_35 : decode cX6_judged 35 = .ok (.iconst 1, 1) := dk_4 (dk_at dksX6_judged_1 11 rfl rfl)
theorem dX6_judged_36 : decode cX6_judged 36 = .ok (.if_icmp .ne 10, 3) := dk_160 0 10 (dk_at dksX6_judged_1 12 rfl rfl)
theorem dX6_judged_39 : decode cX6_judged 39 = .ok (.aload_n 0, 1) := dk_42 (dk_at dksX6_judged_1 15 rfl rfl)
theorem dX6_judged_40 : decode cX6_judged 40 = .ok (.getfield 291, 3) := dk_180 1 35 (dk_at dksX6_judged_1 16 rfl rfl)
theorem dX6_judged_43 : decode cX6_judged 43 = .ok (.goto 19, 3) := dk_167 0 19 (dk_at dksX6_judged_1 19 rfl rfl)
theorem dX6_judged_46 : decode cX6_judged 46 = .ok (.iload_n 2, 1) := dk_28 (dk_at dksX6_judged_1 22 rfl rfl)
theorem dX6_judged_47 : decode cX6_judged 47 = .ok (.iconst 2, 1) := dk_5 (dk_at dksX6_judged_1 23 rfl rfl)
theorem dX6_judged_48 : decode cX6_judged 48 = .ok (.if_icmp .ne 10, 3) := dk_160 0 10 (dk_at dksX6_judged_2 0 rfl rfl)
theorem dX6_judged_51 : decode cX6_judged 51 = .ok (.aload_n 0, 1) := dk_42 (dk_at dksX6_judged_2 3 rfl rfl)
theorem dX6_judged_52 : decode cX6_judged 52 = .ok (.getfield 294, 3) := dk_180 1 38 (dk_at dksX6_judged_2 4 rfl rfl)
theorem dX6_judged_55 : decode cX6_judged 55 = .ok (.goto 7, 3) := dk_167 0 7 (dk_at dksX6_judged_2 7 rfl rfl)
theorem dX6_judged_58 : decode cX6_judged 58 = .ok (.aload_n 0, 1) := dk_42 (dk_at dksX6_judged_2 10 rfl rfl)
theorem dX6_judged_59 : decode cX6_judged 59 = .ok (.invokevirtual 326, 3) := dk_182 1 70 (dk_at dksX6_judged_2 11 rfl rfl)
theorem dX6_judged_62 : decode cX6_judged 62 = .ok (.ireturn, 1) := dk_172 (dk_at dksX6_judged_2 14 rfl rfl)

theorem okX6_judged : wOkV yX6_judged cX6_judged 4 (some .int) 2 := ⟨q1971, qs124, q145, q1972, by decide, by decide, by decide +kernel⟩
def fX6_judged (N : Nat)  (a1 : Int32) (a2 : Int32) (μ : wMem) : Option (Int32 × wMem) :=
  wLet (wSI μ 0 0 (0 : Int32)) fun μ1 => wBind (fX6_whyNot N  a1 μ1) fun v4 μ3 => if v4 = 0 then wBind (fX6_judges N  a1 μ3) fun v8 μ7 => if a2 = 0 then some (μ7.1 0 23, μ7) else if a2 = (1 : Int32) then some (μ7.1 0 28, μ7) else if a2 = (2 : Int32) then some (μ7.1 0 29, μ7) else wBind (fX6_liesNow N   μ7) fun v14 μ13 => some (v14, μ13) else some (v4, μ3)
set_option maxHeartbeats 4000000 in
set_option maxRecDepth 100000 in
theorem tX6_judged (l : Launch) {D : va_G} {E : List wCell} {q : Nat → Nat} {ca : wCA} (N : Nat)   (a1 : Int32) (a2 : Int32) (μ : wMem) (r0 : (Int32 × wMem)) (hf : fX6_judged N  a1 a2 μ = some r0) : wMi l yX6_judged cX6_judged 4 (some .int) ({ frames := 5, cells := 0, slots := 0, locals := 116 } : Room) D vwCl (spM ++ E) q ca [.ref (q 0), .int a1, .int a2] μ r0 := by
  refine wMi_intro (by decide) (Nat.le_of_ble_eq_true rfl) ?_
  intro p e s m args below meth c A C
  unfold fX6_judged at hf
  refine wr_sub [(0, .ref (q 0)), (1, .int a1), (2, .int a2)] [0, 1, 2] rfl ?_
  refine wr_aload_n 0 C dX6_judged_0 0 rfl rfl ?_
  refine wr_iconst 1 C dX6_judged_1 (v := 0) rfl ?_
  obtain ⟨μ1, eμ1, hf⟩ := o_let hf
  refine puspM_0_0_X6 2 C dX6_judged_2 eμ1 ?_
  refine wr_aload_n 5 C dX6_judged_5 0 rfl rfl ?_
  refine wr_iload_n 6 C dX6_judged_6 1 rfl rfl ?_
  obtain ⟨v4, μ3, h2, hf⟩ := o_bind hf
  refine wr_Vi (kc1 := 0) (ks1 := 0) 7 [] C dX6_judged_7 (tX6_whyNot l N   a1 μ1 (v4, μ3) h2) okX6_whyNot q1953 (b := 0) spM_0 rfl ⟨rfl, rfl, Nat.le_of_ble_eq_true rfl, Nat.le_of_ble_eq_true rfl, Nat.zero_le _, Nat.zero_le _⟩ (Nat.le_of_ble_eq_true rfl) rfl ?_
  refine wr_istore_n 10 [(3, .int v4), (0, .ref (q 0)), (1, .int a1), (2, .int a2)] C dX6_judged_10 rfl rfl (Nat.le_of_ble_eq_true rfl) rfl ?_
  refine wr_iload_n 11 C dX6_judged_11 0 rfl rfl ?_
  refine wr_if_eq 12 17 C dX6_judged_12 (by decide) (fun c5 => ?_) (fun c5 => ?_)
  · replace hf := o_pos c5 hf
    refine wr_aload_n 17 C dX6_judged_17 1 rfl rfl ?_
    refine wr_iload_n 18 C dX6_judged_18 2 rfl rfl ?_
    obtain ⟨v8, μ7, h6, hf⟩ := o_bind hf
    refine wr_Vi (kc1 := 0) (ks1 := 0) 19 [] C dX6_judged_19 (tX6_judges l N   a1 μ3 (v8, μ7) h6) okX6_judges q1961 (b := 0) spM_0 rfl ⟨rfl, rfl, Nat.le_of_ble_eq_true rfl, Nat.le_of_ble_eq_true rfl, Nat.zero_le _, Nat.zero_le _⟩ (Nat.le_of_ble_eq_true rfl) rfl ?_
    refine wr_pop 22 C dX6_judged_22 rfl ?_
    refine wr_iload_n 23 C dX6_judged_23 3 rfl rfl ?_
    refine wr_if_ne 24 34 C dX6_judged_24 (by decide) (fun c9 => ?_) (fun c9 => ?_)
    · replace hf := o_neg c9 hf
      refine wr_iload_n 34 C dX6_judged_34 3 rfl rfl ?_
      refine wr_iconst 35 C dX6_judged_35 (v := 1) rfl ?_
      refine wr_icmp_ne 36 46 C dX6_judged_36 (by decide) (fun c10 => ?_) (fun c10 => ?_)
      · replace hf := o_neg c10 hf
        refine wr_iload_n 46 C dX6_judged_46 3 rfl rfl ?_
        refine wr_iconst 47 C dX6_judged_47 (v := 2) rfl ?_
        refine wr_icmp_ne 48 58 C dX6_judged_48 (by decide) (fun c11 => ?_) (fun c11 => ?_)
        · replace hf := o_neg c11 hf
          refine wr_aload_n 58 C dX6_judged_58 1 rfl rfl ?_
          obtain ⟨v14, μ13, h12, hf⟩ := o_bind hf
          refine wr_Vi (kc1 := 0) (ks1 := 0) 59 [] C dX6_judged_59 (tX6_liesNow l N    μ7 (v14, μ13) h12) okX6_liesNow q1762 (b := 0) spM_0 rfl ⟨rfl, rfl, Nat.le_of_ble_eq_true rfl, Nat.le_of_ble_eq_true rfl, Nat.zero_le _, Nat.zero_le _⟩ (Nat.le_of_ble_eq_true rfl) rfl ?_
          exact wr_iret 62 C dX6_judged_62 ⟨Nat.zero_le _, Nat.zero_le _⟩ (Option.some.inj hf)
        · replace hf := o_pos c11 hf
          refine wr_aload_n 51 C dX6_judged_51 1 rfl rfl ?_
          refine gespM_0_29_X6 52 C dX6_judged_52 ?_
          refine wr_goto 55 C dX6_judged_55 (tgt := 62) (by decide) ?_
          exact wr_iret 62 C dX6_judged_62 ⟨Nat.zero_le _, Nat.zero_le _⟩ (Option.some.inj hf)
      · replace hf := o_pos c10 hf
        refine wr_aload_n 39 C dX6_judged_39 1 rfl rfl ?_
        refine gespM_0_28_X6 40 C dX6_judged_40 ?_
        refine wr_goto 43 C dX6_judged_43 (tgt := 62) (by decide) ?_
        exact wr_iret 62 C dX6_judged_62 ⟨Nat.zero_le _, Nat.zero_le _⟩ (Option.some.inj hf)
    · replace hf := o_pos c9 hf
      refine wr_aload_n 27 C dX6_judged_27 1 rfl rfl ?_
      refine gespM_0_23_X6 28 C dX6_judged_28 ?_
      refine wr_goto 31 C dX6_judged_31 (tgt := 62) (by decide) ?_
      exact wr_iret 62 C dX6_judged_62 ⟨Nat.zero_le _, Nat.zero_le _⟩ (Option.some.inj hf)
  · replace hf := o_neg c5 hf
    refine wr_iload_n 15 C dX6_judged_15 0 rfl rfl ?_
    exact wr_iret 16 C dX6_judged_16 ⟨Nat.zero_le _, Nat.zero_le _⟩ (Option.some.inj hf)
abbrev cX6_there : ByteArray := prog_11_method_105_code
def yX6_there : MethodName := ⟨RX6, "there", "(I)I"⟩
def dkwX6_there_0 : List UInt8 := [42, 27, 3, 182, 1, 154, 172]
abbrev dktX6_there_0 : List UInt8 := dkwX6_there_0 ++ []
theorem dksX6_there_0 : cX6_there.data.toList.drop 0 = dktX6_there_0 := by decide +kernel
theorem dX6_there_0 : decode cX6_there 0 = .ok (.aload_n 0, 1) := dk_42 (dk_at dksX6_there_0 0 rfl rfl)
theorem dX6_there_1 : decode cX6_there 1 = .ok (.iload_n 1, 1) := dk_27 (dk_at dksX6_there_0 1 rfl rfl)
theorem dX6_there_2 : decode cX6_there 2 = .ok (.iconst 0, 1) := dk_3 (dk_at dksX6_there_0 2 rfl rfl)
theorem dX6_there_3 : decode cX6_there 3 = .ok (.invokevirtual 410, 3) := dk_182 1 154 (dk_at dksX6_there_0 3 rfl rfl)
theorem dX6_there_6 : decode cX6_there 6 = .ok (.ireturn, 1) := dk_172 (dk_at dksX6_there_0 6 rfl rfl)

theorem okX6_there : wOkV yX6_there cX6_there 2 (some .int) 1 := ⟨q1966, q1967, q145, q1968, by decide, by decide, by decide +kernel⟩
def fX6_there (N : Nat)  (a1 : Int32) (μ : wMem) : Option (Int32 × wMem) :=
  wBind (fX6_judged N  a1 0 μ) fun v3 μ2 => some (v3, μ2)
set_option maxHeartbeats 4000000 in
set_option maxRecDepth 100000 in
theorem tX6_there (l : Launch) {D : va_G} {E : List wCell} {q : Nat → Nat} {ca : wCA} (N : Nat)   (a1 : Int32) (μ : wMem) (r0 : (Int32 × wMem)) (hf : fX6_there N  a1 μ = some r0) : wMi l yX6_there cX6_there 2 (some .int) ({ frames := 6, cells := 0, slots := 0, locals := 139 } : Room) D vwCl (spM ++ E) q ca [.ref (q 0), .int a1] μ r0 := by
  refine wMi_intro (by decide) (Nat.le_of_ble_eq_true rfl) ?_
  intro p e s m args below meth c A C
  unfold fX6_there at hf
  refine wr_sub [(0, .ref (q 0)), (1, .int a1)] [0, 1] rfl ?_
  refine wr_aload_n 0 C dX6_there_0 0 rfl rfl ?_
  refine wr_iload_n 1 C dX6_there_1 1 rfl rfl ?_
  refine wr_iconst 2 C dX6_there_2 (v := 0) rfl ?_
  obtain ⟨v3, μ2, h1, hf⟩ := o_bind hf
  refine wr_Vi (kc1 := 0) (ks1 := 0) 3 [] C dX6_there_3 (tX6_judged l N   a1 0 μ (v3, μ2) h1) okX6_judged q1969 (b := 0) spM_0 rfl ⟨rfl, rfl, Nat.le_of_ble_eq_true rfl, Nat.le_of_ble_eq_true rfl, Nat.zero_le _, Nat.zero_le _⟩ (Nat.le_of_ble_eq_true rfl) rfl ?_
  exact wr_iret 6 C dX6_there_6 ⟨Nat.zero_le _, Nat.zero_le _⟩ (Option.some.inj hf)
abbrev cX6_takes_2 : ByteArray := prog_11_method_106_code
def yX6_takes_2 : MethodName := ⟨RX6, "takes", "(I)I"⟩
def dkwX6_takes_2_0 : List UInt8 := [42, 27, 4, 182, 1, 154, 172]
abbrev dktX6_takes_2_0 : List UInt8 := dkwX6_takes_2_0 ++ []
theorem dksX6_takes_2_0 : cX6_takes_2.data.toList.drop 0 = dktX6_takes_2_0 := by decide +kernel
theorem dX6_takes_2_0 : decode cX6_takes_2 0 = .ok (.aload_n 0, 1) := dk_42 (dk_at dksX6_takes_2_0 0 rfl rfl)
theorem dX6_takes_2_1 : decode cX6_takes_2 1 = .ok (.iload_n 1, 1) := dk_27 (dk_at dksX6_takes_2_0 1 rfl rfl)
theorem dX6_takes_2_2 : decode cX6_takes_2 2 = .ok (.iconst 1, 1) := dk_4 (dk_at dksX6_takes_2_0 2 rfl rfl)
theorem dX6_takes_2_3 : decode cX6_takes_2 3 = .ok (.invokevirtual 410, 3) := dk_182 1 154 (dk_at dksX6_takes_2_0 3 rfl rfl)
theorem dX6_takes_2_6 : decode cX6_takes_2 6 = .ok (.ireturn, 1) := dk_172 (dk_at dksX6_takes_2_0 6 rfl rfl)

theorem okX6_takes_2 : wOkV yX6_takes_2 cX6_takes_2 2 (some .int) 1 := ⟨q1974, q1975, q145, q1976, by decide, by decide, by decide +kernel⟩
def fX6_takes_2 (N : Nat)  (a1 : Int32) (μ : wMem) : Option (Int32 × wMem) :=
  wBind (fX6_judged N  a1 1 μ) fun v3 μ2 => some (v3, μ2)
set_option maxHeartbeats 4000000 in
set_option maxRecDepth 100000 in
theorem tX6_takes_2 (l : Launch) {D : va_G} {E : List wCell} {q : Nat → Nat} {ca : wCA} (N : Nat)   (a1 : Int32) (μ : wMem) (r0 : (Int32 × wMem)) (hf : fX6_takes_2 N  a1 μ = some r0) : wMi l yX6_takes_2 cX6_takes_2 2 (some .int) ({ frames := 6, cells := 0, slots := 0, locals := 139 } : Room) D vwCl (spM ++ E) q ca [.ref (q 0), .int a1] μ r0 := by
  refine wMi_intro (by decide) (Nat.le_of_ble_eq_true rfl) ?_
  intro p e s m args below meth c A C
  unfold fX6_takes_2 at hf
  refine wr_sub [(0, .ref (q 0)), (1, .int a1)] [0, 1] rfl ?_
  refine wr_aload_n 0 C dX6_takes_2_0 0 rfl rfl ?_
  refine wr_iload_n 1 C dX6_takes_2_1 1 rfl rfl ?_
  refine wr_iconst 2 C dX6_takes_2_2 (v := 1) rfl ?_
  obtain ⟨v3, μ2, h1, hf⟩ := o_bind hf
  refine wr_Vi (kc1 := 0) (ks1 := 0) 3 [] C dX6_takes_2_3 (tX6_judged l N   a1 1 μ (v3, μ2) h1) okX6_judged q1969 (b := 0) spM_0 rfl ⟨rfl, rfl, Nat.le_of_ble_eq_true rfl, Nat.le_of_ble_eq_true rfl, Nat.zero_le _, Nat.zero_le _⟩ (Nat.le_of_ble_eq_true rfl) rfl ?_
  exact wr_iret 6 C dX6_takes_2_6 ⟨Nat.zero_le _, Nat.zero_le _⟩ (Option.some.inj hf)
abbrev cX6_dares : ByteArray := prog_11_method_107_code
def yX6_dares : MethodName := ⟨RX6, "dares", "(I)I"⟩
def dkwX6_dares_0 : List UInt8 := [42, 27, 5, 182, 1, 154, 172]
abbrev dktX6_dares_0 : List UInt8 := dkwX6_dares_0 ++ []
theorem dksX6_dares_0 : cX6_dares.data.toList.drop 0 = dktX6_dares_0 := by decide +kernel
theorem dX6_dares_0 : decode cX6_dares 0 = .ok (.aload_n 0, 1) := dk_42 (dk_at dksX6_dares_0 0 rfl rfl)
theorem dX6_dares_1 : decode cX6_dares 1 = .ok (.iload_n 1, 1) := dk_27 (dk_at dksX6_dares_0 1 rfl rfl)
theorem dX6_dares_2 : decode cX6_dares 2 = .ok (.iconst 2, 1) := dk_5 (dk_at dksX6_dares_0 2 rfl rfl)
theorem dX6_dares_3 : decode cX6_dares 3 = .ok (.invokevirtual 410, 3) := dk_182 1 154 (dk_at dksX6_dares_0 3 rfl rfl)
theorem dX6_dares_6 : decode cX6_dares 6 = .ok (.ireturn, 1) := dk_172 (dk_at dksX6_dares_0 6 rfl rfl)

theorem okX6_dares : wOkV yX6_dares cX6_dares 2 (some .int) 1 := ⟨q1978, q1979, q145, q1980, by decide, by decide, by decide +kernel⟩
def fX6_dares (N : Nat)  (a1 : Int32) (μ : wMem) : Option (Int32 × wMem) :=
  wBind (fX6_judged N  a1 2 μ) fun v3 μ2 => some (v3, μ2)
set_option maxHeartbeats 4000000 in
set_option maxRecDepth 100000 in
theorem tX6_dares (l : Launch) {D : va_G} {E : List wCell} {q : Nat → Nat} {ca : wCA} (N : Nat)   (a1 : Int32) (μ : wMem) (r0 : (Int32 × wMem)) (hf : fX6_dares N  a1 μ = some r0) : wMi l yX6_dares cX6_dares 2 (some .int) ({ frames := 6, cells := 0, slots := 0, locals := 139 } : Room) D vwCl (spM ++ E) q ca [.ref (q 0), .int a1] μ r0 := by
  refine wMi_intro (by decide) (Nat.le_of_ble_eq_true rfl) ?_
  intro p e s m args below meth c A C
  unfold fX6_dares at hf
  refine wr_sub [(0, .ref (q 0)), (1, .int a1)] [0, 1] rfl ?_
  refine wr_aload_n 0 C dX6_dares_0 0 rfl rfl ?_
  refine wr_iload_n 1 C dX6_dares_1 1 rfl rfl ?_
  refine wr_iconst 2 C dX6_dares_2 (v := 2) rfl ?_
  obtain ⟨v3, μ2, h1, hf⟩ := o_bind hf
  refine wr_Vi (kc1 := 0) (ks1 := 0) 3 [] C dX6_dares_3 (tX6_judged l N   a1 2 μ (v3, μ2) h1) okX6_judged q1969 (b := 0) spM_0 rfl ⟨rfl, rfl, Nat.le_of_ble_eq_true rfl, Nat.le_of_ble_eq_true rfl, Nat.zero_le _, Nat.zero_le _⟩ (Nat.le_of_ble_eq_true rfl) rfl ?_
  exact wr_iret 6 C dX6_dares_6 ⟨Nat.zero_le _, Nat.zero_le _⟩ (Option.some.inj hf)
