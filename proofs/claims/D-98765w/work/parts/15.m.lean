set_option maxRecDepth 100000
abbrev cX6_seeksNow : ByteArray := prog_11_method_79_code
def yX6_seeksNow : MethodName := ⟨RX6, "seeksNow", "(III)I"⟩
def dkwX6_seeksNow_1 : List UInt8 := [21, 4, 182, 1, 32, 42, 180, 0, 63, 21, 4, 46, 172]
abbrev dktX6_seeksNow_1 : List UInt8 := dkwX6_seeksNow_1 ++ []
def dkwX6_seeksNow_0 : List UInt8 := [42, 182, 1, 61, 42, 182, 1, 86, 54, 4, 42, 21, 4, 182, 1, 111, 42, 27, 28, 29, 182, 1, 114, 42]
abbrev dktX6_seeksNow_0 : List UInt8 := dkwX6_seeksNow_0 ++ dktX6_seeksNow_1
theorem dksX6_seeksNow_0 : cX6_seeksNow.data.toList.drop 0 = dktX6_seeksNow_0 := by decide +kernel
theorem dksX6_seeksNow_1 : cX6_seeksNow.data.toList.drop 24 = dktX6_seeksNow_1 := dk_seg dksX6_seeksNow_0 24 rfl rfl
theorem dX6_seeksNow_0 : decode cX6_seeksNow 0 = .ok (.aload_n 0, 1) := dk_42 (dk_at dksX6_seeksNow_0 0 rfl rfl)
theorem dX6_seeksNow_1 : decode cX6_seeksNow 1 = .ok (.invokevirtual 317, 3) := dk_182 1 61 (dk_at dksX6_seeksNow_0 1 rfl rfl)
theorem dX6_seeksNow_4 : decode cX6_seeksNow 4 = .ok (.aload_n 0, 1) := dk_42 (dk_at dksX6_seeksNow_0 4 rfl rfl)
theorem dX6_seeksNow_5 : decode cX6_seeksNow 5 = .ok (.invokevirtual 342, 3) := dk_182 1 86 (dk_at dksX6_seeksNow_0 5 rfl rfl)
theorem dX6_seeksNow_8 : decode cX6_seeksNow 8 = .ok (.istore 4, 2) := dk_54 4 (dk_at dksX6_seeksNow_0 8 rfl rfl)
theorem dX6_seeksNow_10 : decode cX6_seeksNow 10 = .ok (.aload_n 0, 1) := dk_42 (dk_at dksX6_seeksNow_0 10 rfl rfl)
theorem dX6_seeksNow_11 : decode cX6_seeksNow 11 = .ok (.iload 4, 2) := dk_21 4 (dk_at dksX6_seeksNow_0 11 rfl rfl)
theorem dX6_seeksNow_13 : decode cX6_seeksNow 13 = .ok (.invokevirtual 367, 3) := dk_182 1 111 (dk_at dksX6_seeksNow_0 13 rfl rfl)
theorem dX6_seeksNow_16 : decode cX6_seeksNow 16 = .ok (.aload_n 0, 1) := dk_42 (dk_at dksX6_seeksNow_0 16 rfl rfl)
theorem dX6_seeksNow_17 : decode cX6_seeksNow 17 = .ok (.iload_n 1, 1) := dk_27 (dk_at dksX6_seeksNow_0 17 rfl rfl)
theorem dX6_seeksNow_18 : decode cX6_seeksNow 18 = .ok (.iload_n 2, 1) := dk_28 (dk_at dksX6_seeksNow_0 18 rfl rfl)
theorem dX6_seeksNow_19 : decode cX6_seeksNow 19 = .ok (.iload_n 3, 1) := dk_29 (dk_at dksX6_seeksNow_0 19 rfl rfl)
theorem dX6_seeksNow_20 : decode cX6_seeksNow 20 = .ok (.invokevirtual 370, 3) := dk_182 1 114 (dk_at dksX6_seeksNow_0 20 rfl rfl)
theorem dX6_seeksNow_23 : decode cX6_seeksNow 23 = .ok (.aload_n 0, 1) := dk_42 (dk_at dksX6_seeksNow_0 23 rfl rfl)
theorem dX6_seeksNow_24 : decode cX6_seeksNow 24 = .ok (.iload 4, 2) := dk_21 4 (dk_at dksX6_seeksNow_1 0 rfl rfl)
theorem dX6_seeksNow_26 : decode cX6_seeksNow 26 = .ok (.invokevirtual 288, 3) := dk_182 1 32 (dk_at dksX6_seeksNow_1 2 rfl rfl)
theorem dX6_seeksNow_29 : decode cX6_seeksNow 29 = .ok (.aload_n 0, 1) := dk_42 (dk_at dksX6_seeksNow_1 5 rfl rfl)
theorem dX6_seeksNow_30 : decode cX6_seeksNow 30 = .ok (.getfield 63, 3) := dk_180 0 63 (dk_at dksX6_seeksNow_1 6 rfl rfl)
theorem dX6_seeksNow_33 : decode cX6_seeksNow 33 = .ok (.iload 4, 2) := dk_21 4 (dk_at dksX6_seeksNow_1 9 rfl rfl)
theorem dX6_seeksNow_35 : decode cX6_seeksNow 35 = .ok (.iaload, 1) := dk_46 (dk_at dksX6_seeksNow_1 11 rfl rfl)
theorem dX6_seeksNow_36 : decode cX6_seeksNow 36 = .ok (.ireturn, 1) := dk_172 (dk_at dksX6_seeksNow_1 12 rfl rfl)

theorem okX6_seeksNow : wOkV yX6_seeksNow cX6_seeksNow 5 (some .int) 3 := ⟨q1839, qs109, q145, q1840, by decide, by decide, by decide +kernel⟩
def fX6_seeksNow (N : Nat)  (a1 : Int32) (a2 : Int32) (a3 : Int32) (μ : wMem) : Option (Int32 × wMem) :=
  wBindV (fX6_lays N   μ) fun μ2 => wBind (fX6_numberOf N   μ2) fun v5 μ4 => wBindV (fX6_explores N  v5 μ4) fun μ7 => wBindV (fX6_seeks N  a1 a2 a3 μ7) fun μ9 => wBindV (fX6_begin N  v5 μ9) fun μ11 => wG (ok_in v5 94080) (some (μ11.1 16 (Int32.toNatClampNeg v5), μ11))
set_option maxHeartbeats 4000000 in
set_option maxRecDepth 100000 in
theorem tX6_seeksNow (l : Launch) {D : va_G} {E : List wCell} {q : Nat → Nat} {ca : wCA} (N : Nat)   (a1 : Int32) (a2 : Int32) (a3 : Int32) (μ : wMem) (r0 : (Int32 × wMem)) (hf : fX6_seeksNow N  a1 a2 a3 μ = some r0) : wMi l yX6_seeksNow cX6_seeksNow 5 (some .int) ({ frames := 7, cells := 0, slots := 0, locals := 165 } : Room) D vwCl (spM ++ E) q ca [.ref (q 0), .int a1, .int a2, .int a3] μ r0 := by
  refine wMi_intro (by decide) (Nat.le_of_ble_eq_true rfl) ?_
  intro p e s m args below meth c A C
  unfold fX6_seeksNow at hf
  refine wr_sub [(0, .ref (q 0)), (1, .int a1), (2, .int a2), (3, .int a3)] [0, 1, 2, 3] rfl ?_
  refine wr_aload_n 0 C dX6_seeksNow_0 0 rfl rfl ?_
  obtain ⟨μ2, h1, hf⟩ := o_bindV hf
  refine wr_Vv (kc1 := 0) (ks1 := 0) 1 [] C dX6_seeksNow_1 (tX6_lays l N    μ μ2 h1) okX6_lays q1690 (b := 0) spM_0 rfl ⟨rfl, rfl, Nat.le_of_ble_eq_true rfl, Nat.le_of_ble_eq_true rfl, Nat.zero_le _, Nat.zero_le _⟩ (Nat.le_of_ble_eq_true rfl) rfl ?_
  refine wr_aload_n 4 C dX6_seeksNow_4 0 rfl rfl ?_
  obtain ⟨v5, μ4, h3, hf⟩ := o_bind hf
  refine wr_Vi (kc1 := 0) (ks1 := 0) 5 [] C dX6_seeksNow_5 (tX6_numberOf l N    μ2 (v5, μ4) h3) okX6_numberOf q1841 (b := 0) spM_0 rfl ⟨rfl, rfl, Nat.le_of_ble_eq_true rfl, Nat.le_of_ble_eq_true rfl, Nat.zero_le _, Nat.zero_le _⟩ (Nat.le_of_ble_eq_true rfl) rfl ?_
  refine wr_istore 8 [(4, .int v5), (0, .ref (q 0)), (1, .int a1), (2, .int a2), (3, .int a3)] C dX6_seeksNow_8 rfl (Nat.le_of_ble_eq_true rfl) rfl ?_
  refine wr_aload_n 10 C dX6_seeksNow_10 1 rfl rfl ?_
  refine wr_iload 11 C dX6_seeksNow_11 0 rfl ?_
  obtain ⟨μ7, h6, hf⟩ := o_bindV hf
  refine wr_Vv (kc1 := 0) (ks1 := 0) 13 [] C dX6_seeksNow_13 (tX6_explores l N   v5 μ4 μ7 h6) okX6_explores q1845 (b := 0) spM_0 rfl ⟨rfl, rfl, Nat.le_of_ble_eq_true rfl, Nat.le_of_ble_eq_true rfl, Nat.zero_le _, Nat.zero_le _⟩ (Nat.le_of_ble_eq_true rfl) rfl ?_
  refine wr_aload_n 16 C dX6_seeksNow_16 1 rfl rfl ?_
  refine wr_iload_n 17 C dX6_seeksNow_17 2 rfl rfl ?_
  refine wr_iload_n 18 C dX6_seeksNow_18 3 rfl rfl ?_
  refine wr_iload_n 19 C dX6_seeksNow_19 4 rfl rfl ?_
  obtain ⟨μ9, h8, hf⟩ := o_bindV hf
  refine wr_Vv (kc1 := 0) (ks1 := 0) 20 [] C dX6_seeksNow_20 (tX6_seeks l N   a1 a2 a3 μ7 μ9 h8) okX6_seeks q1849 (b := 0) spM_0 rfl ⟨rfl, rfl, Nat.le_of_ble_eq_true rfl, Nat.le_of_ble_eq_true rfl, Nat.zero_le _, Nat.zero_le _⟩ (Nat.le_of_ble_eq_true rfl) rfl ?_
  refine wr_aload_n 23 C dX6_seeksNow_23 1 rfl rfl ?_
  refine wr_iload 24 C dX6_seeksNow_24 0 rfl ?_
  obtain ⟨μ11, h10, hf⟩ := o_bindV hf
  refine wr_Vv (kc1 := 0) (ks1 := 0) 26 [] C dX6_seeksNow_26 (tX6_begin l N   v5 μ9 μ11 h10) okX6_begin q1698 (b := 0) spM_0 rfl ⟨rfl, rfl, Nat.le_of_ble_eq_true rfl, Nat.le_of_ble_eq_true rfl, Nat.zero_le _, Nat.zero_le _⟩ (Nat.le_of_ble_eq_true rfl) rfl ?_
  refine wr_aload_n 29 C dX6_seeksNow_29 1 rfl rfl ?_
  refine gespM_0_35_X6 30 C dX6_seeksNow_30 ?_
  refine wr_iload 33 C dX6_seeksNow_33 0 rfl ?_
  obtain ⟨g12, hf⟩ := o_g hf
  refine wr_iald 35 C dX6_seeksNow_35 spM_16 g12 ?_
  exact wr_iret 36 C dX6_seeksNow_36 ⟨Nat.zero_le _, Nat.zero_le _⟩ (Option.some.inj hf)
abbrev cX6_days : ByteArray := prog_11_method_81_code
def yX6_days : MethodName := ⟨RX6, "days", "()I"⟩
def dkwX6_days_1 : List UInt8 := [19, 1, 101, 160, 0, 7, 2, 167, 0, 4, 27, 172]
abbrev dktX6_days_1 : List UInt8 := dkwX6_days_1 ++ []
def dkwX6_days_0 : List UInt8 := [42, 3, 181, 0, 88, 42, 182, 1, 67, 154, 0, 6, 16, 254, 172, 42, 3, 3, 3, 182, 1, 120, 60, 27]
abbrev dktX6_days_0 : List UInt8 := dkwX6_days_0 ++ dktX6_days_1
theorem dksX6_days_0 : cX6_days.data.toList.drop 0 = dktX6_days_0 := by decide +kernel
theorem dksX6_days_1 : cX6_days.data.toList.drop 24 = dktX6_days_1 := dk_seg dksX6_days_0 24 rfl rfl
theorem dX6_days_0 : decode cX6_days 0 = .ok (.aload_n 0, 1) := dk_42 (dk_at dksX6_days_0 0 rfl rfl)
theorem dX6_days_1 : decode cX6_days 1 = .ok (.iconst 0, 1) := dk_3 (dk_at dksX6_days_0 1 rfl rfl)
theorem dX6_days_2 : decode cX6_days 2 = .ok (.putfield 88, 3) := dk_181 0 88 (dk_at dksX6_days_0 2 rfl rfl)
theorem dX6_days_5 : decode cX6_days 5 = .ok (.aload_n 0, 1) := dk_42 (dk_at dksX6_days_0 5 rfl rfl)
theorem dX6_days_6 : decode cX6_days 6 = .ok (.invokevirtual 323, 3) := dk_182 1 67 (dk_at dksX6_days_0 6 rfl rfl)
theorem dX6_days_9 : decode cX6_days 9 = .ok (.ifCond .ne 6, 3) := dk_154 0 6 (dk_at dksX6_days_0 9 rfl rfl)
theorem dX6_days_12 : decode cX6_days 12 = .ok (.bipush (-2), 2) := dk_16 254 (dk_at dksX6_days_0 12 rfl rfl)
theorem dX6_days_14 : decode cX6_days 14 = .ok (.ireturn, 1) := dk_172 (dk_at dksX6_days_0 14 rfl rfl)
theorem dX6_days_15 : decode cX6_days 15 = .ok (.aload_n 0, 1) := dk_42 (dk_at dksX6_days_0 15 rfl rfl)
theorem dX6_days_16 : decode cX6_days 16 = .ok (.iconst 0, 1) := dk_3 (dk_at dksX6_days_0 16 rfl rfl)
theorem dX6_days_17 : decode cX6_days 17 = .ok (.iconst 0, 1) := dk_3 (dk_at dksX6_days_0 17 rfl rfl)
theorem dX6_days_18 : decode cX6_days 18 = .ok (.iconst 0, 1) := dk_3 (dk_at dksX6_days_0 18 rfl rfl)
theorem dX6_days_19 : decode cX6_days 19 = .ok (.invokevirtual 376, 3) := dk_182 1 120 (dk_at dksX6_days_0 19 rfl rfl)
theorem dX6_days_22 : decode cX6_days 22 = .ok (.istore_n 1, 1) := dk_60 (dk_at dksX6_days_0 22 rfl rfl)
theorem dX6_days_23 : decode cX6_days 23 = .ok (.iload_n 1, 1) := dk_27 (dk_at dksX6_days_0 23 rfl rfl)
theorem dX6_days_24 : decode cX6_days 24 = .ok (.ldc_w 357, 3) := dk_19 1 101 (dk_at dksX6_days_1 0 rfl rfl)
theorem dX6_days_27 : decode cX6_days 27 = .ok (.if_icmp .ne 7, 3) := dk_160 0 7 (dk_at dksX6_days_1 3 rfl rfl)
theorem dX6_days_30 : decode cX6_days 30 = .ok (.iconst (-1), 1) := dk_2 (dk_at dksX6_days_1 6 rfl rfl)
theorem dX6_days_31 : decode cX6_days 31 = .ok (.goto 4, 3) := dk_167 0 4 (dk_at dksX6_days_1 7 rfl rfl)
theorem dX6_days_34 : decode cX6_days 34 = .ok (.iload_n 1, 1) := dk_27 (dk_at dksX6_days_1 10 rfl rfl)
theorem dX6_days_35 : decode cX6_days 35 = .ok (.ireturn, 1) := dk_172 (dk_at dksX6_days_1 11 rfl rfl)

theorem okX6_days : wOkV yX6_days cX6_days 2 (some .int) 0 := ⟨q1834, q1835, q145, q1836, by decide, by decide, by decide +kernel⟩
def fX6_days (N : Nat)   (μ : wMem) : Option (Int32 × wMem) :=
  wLet (wSI μ 0 0 (0 : Int32)) fun μ1 => wBind (fX6_isFamily N   μ1) fun v4 μ3 => if v4 = 0 then some ((-2), μ3) else wBind (fX6_seeksNow N  0 0 0 μ3) fun v8 μ7 => if v8 = (2000000000 : Int32) then some ((-1), μ7) else some (v8, μ7)
set_option maxHeartbeats 4000000 in
set_option maxRecDepth 100000 in
theorem tX6_days (l : Launch) {D : va_G} {E : List wCell} {q : Nat → Nat} {ca : wCA} (N : Nat)    (μ : wMem) (r0 : (Int32 × wMem)) (hf : fX6_days N   μ = some r0) : wMi l yX6_days cX6_days 2 (some .int) ({ frames := 8, cells := 0, slots := 0, locals := 189 } : Room) D vwCl (spM ++ E) q ca [.ref (q 0)] μ r0 := by
  refine wMi_intro (by decide) (Nat.le_of_ble_eq_true rfl) ?_
  intro p e s m args below meth c A C
  unfold fX6_days at hf
  refine wr_sub [(0, .ref (q 0))] [0] rfl ?_
  refine wr_aload_n 0 C dX6_days_0 0 rfl rfl ?_
  refine wr_iconst 1 C dX6_days_1 (v := 0) rfl ?_
  obtain ⟨μ1, eμ1, hf⟩ := o_let hf
  refine puspM_0_0_X6 2 C dX6_days_2 eμ1 ?_
  refine wr_aload_n 5 C dX6_days_5 0 rfl rfl ?_
  obtain ⟨v4, μ3, h2, hf⟩ := o_bind hf
  refine wr_Vi (kc1 := 0) (ks1 := 0) 6 [] C dX6_days_6 (tX6_isFamily l N    μ1 (v4, μ3) h2) okX6_isFamily q1750 (b := 0) spM_0 rfl ⟨rfl, rfl, Nat.le_of_ble_eq_true rfl, Nat.le_of_ble_eq_true rfl, Nat.zero_le _, Nat.zero_le _⟩ (Nat.le_of_ble_eq_true rfl) rfl ?_
  refine wr_if_ne 9 15 C dX6_days_9 (by decide) (fun c5 => ?_) (fun c5 => ?_)
  · replace hf := o_neg c5 hf
    refine wr_aload_n 15 C dX6_days_15 0 rfl rfl ?_
    refine wr_iconst 16 C dX6_days_16 (v := 0) rfl ?_
    refine wr_iconst 17 C dX6_days_17 (v := 0) rfl ?_
    refine wr_iconst 18 C dX6_days_18 (v := 0) rfl ?_
    obtain ⟨v8, μ7, h6, hf⟩ := o_bind hf
    refine wr_Vi (kc1 := 0) (ks1 := 0) 19 [] C dX6_days_19 (tX6_seeksNow l N   0 0 0 μ3 (v8, μ7) h6) okX6_seeksNow q1837 (b := 0) spM_0 rfl ⟨rfl, rfl, Nat.le_of_ble_eq_true rfl, Nat.le_of_ble_eq_true rfl, Nat.zero_le _, Nat.zero_le _⟩ (Nat.le_of_ble_eq_true rfl) rfl ?_
    refine wr_istore_n 22 [(1, .int v8), (0, .ref (q 0))] C dX6_days_22 rfl rfl (Nat.le_of_ble_eq_true rfl) rfl ?_
    refine wr_iload_n 23 C dX6_days_23 0 rfl rfl ?_
    refine wr_ldcw 24 C dX6_days_24 q1857 ?_
    refine wr_icmp_ne 27 34 C dX6_days_27 (by decide) (fun c9 => ?_) (fun c9 => ?_)
    · replace hf := o_neg c9 hf
      refine wr_iload_n 34 C dX6_days_34 0 rfl rfl ?_
      exact wr_iret 35 C dX6_days_35 ⟨Nat.zero_le _, Nat.zero_le _⟩ (Option.some.inj hf)
    · replace hf := o_pos c9 hf
      refine wr_iconst 30 C dX6_days_30 (v := (-1)) rfl ?_
      refine wr_goto 31 C dX6_days_31 (tgt := 35) (by decide) ?_
      exact wr_iret 35 C dX6_days_35 ⟨Nat.zero_le _, Nat.zero_le _⟩ (Option.some.inj hf)
  · replace hf := o_pos c5 hf
    refine wr_bipush 12 C dX6_days_12 (v := (-2)) rfl ?_
    exact wr_iret 14 C dX6_days_14 ⟨Nat.zero_le _, Nat.zero_le _⟩ (Option.some.inj hf)
abbrev cX6_laysRow : ByteArray := prog_11_method_80_code
def yX6_laysRow : MethodName := ⟨RX6, "laysRow", "()V"⟩
def dkwX6_laysRow_3 : List UInt8 := [42, 89, 180, 1, 117, 4, 96, 181, 1, 117, 42, 182, 1, 86, 60, 167, 255, 181, 177]
abbrev dktX6_laysRow_3 : List UInt8 := dkwX6_laysRow_3 ++ []
def dkwX6_laysRow_2 : List UInt8 := [182, 1, 32, 42, 28, 4, 96, 182, 1, 80, 61, 167, 255, 229, 42, 180, 0, 66, 42, 180, 1, 117, 28, 79]
abbrev dktX6_laysRow_2 : List UInt8 := dkwX6_laysRow_2 ++ dktX6_laysRow_3
def dkwX6_laysRow_1 : List UInt8 := [42, 3, 182, 1, 80, 61, 42, 28, 182, 1, 105, 42, 180, 0, 63, 27, 46, 159, 0, 19, 42, 27]
abbrev dktX6_laysRow_1 : List UInt8 := dkwX6_laysRow_1 ++ dktX6_laysRow_2
def dkwX6_laysRow_0 : List UInt8 := [42, 182, 1, 86, 60, 42, 3, 181, 1, 117, 42, 180, 0, 63, 27, 46, 153, 0, 72, 42, 27, 182, 1, 32]
abbrev dktX6_laysRow_0 : List UInt8 := dkwX6_laysRow_0 ++ dktX6_laysRow_1
theorem dksX6_laysRow_0 : cX6_laysRow.data.toList.drop 0 = dktX6_laysRow_0 := by decide +kernel
theorem dksX6_laysRow_1 : cX6_laysRow.data.toList.drop 24 = dktX6_laysRow_1 := dk_seg dksX6_laysRow_0 24 rfl rfl
theorem dksX6_laysRow_2 : cX6_laysRow.data.toList.drop 46 = dktX6_laysRow_2 := dk_seg dksX6_laysRow_1 22 rfl rfl
theorem dksX6_laysRow_3 : cX6_laysRow.data.toList.drop 70 = dktX6_laysRow_3 := dk_seg dksX6_laysRow_2 24 rfl rfl
theorem dX6_laysRow_0 : decode cX6_laysRow 0 = .ok (.aload_n 0, 1) := dk_42 (dk_at dksX6_laysRow_0 0 rfl rfl)
theorem dX6_laysRow_1 : decode cX6_laysRow 1 = .ok (.invokevirtual 342, 3) := dk_182 1 86 (dk_at dksX6_laysRow_0 1 rfl rfl)
theorem dX6_laysRow_4 : decode cX6_laysRow 4 = .ok (.istore_n 1, 1) := dk_60 (dk_at dksX6_laysRow_0 4 rfl rfl)
theorem dX6_laysRow_5 : decode cX6_laysRow 5 = .ok (.aload_n 0, 1) := dk_42 (dk_at dksX6_laysRow_0 5 rfl rfl)
theorem dX6_laysRow_6 : decode cX6_laysRow 6 = .ok (.iconst 0, 1) := dk_3 (dk_at dksX6_laysRow_0 6 rfl rfl)
theorem dX6_laysRow_7 : decode cX6_laysRow 7 = .ok (.putfield 373, 3) := dk_181 1 117 (dk_at dksX6_laysRow_0 7 rfl rfl)
theorem dX6_laysRow_10 : decode cX6_laysRow 10 = .ok (.aload_n 0, 1) := dk_42 (dk_at dksX6_laysRow_0 10 rfl rfl)
theorem dX6_laysRow_11 : decode cX6_laysRow 11 = .ok (.getfield 63, 3) := dk_180 0 63 (dk_at dksX6_laysRow_0 11 rfl rfl)
theorem dX6_laysRow_14 : decode cX6_laysRow 14 = .ok (.iload_n 1, 1) := dk_27 (dk_at dksX6_laysRow_0 14 rfl rfl)
theorem dX6_laysRow_15 : decode cX6_laysRow 15 = .ok (.iaload, 1) := dk_46 (dk_at dksX6_laysRow_0 15 rfl rfl)
theorem dX6_laysRow_16 : decode cX6_laysRow 16 = .ok (.ifCond .eq 72, 3) := dk_153 0 72 (dk_at dksX6_laysRow_0 16 rfl rfl)
theorem dX6_laysRow_19 : decode cX6_laysRow 19 = .ok (.aload_n 0, 1) := dk_42 (dk_at dksX6_laysRow_0 19 rfl rfl)
theorem dX6_laysRow_20 : decode cX6_laysRow 20 = .ok (.iload_n 1, 1) := dk_27 (dk_at dksX6_laysRow_0 20 rfl rfl)
theorem dX6_laysRow_21 : decode cX6_laysRow 21 = .ok (.invokevirtual 288, 3) := dk_182 1 32 (dk_at dksX6_laysRow_0 21 rfl rfl)
theorem dX6_laysRow_24 : decode cX6_laysRow 24 = .ok (.aload_n 0, 1) := dk_42 (dk_at dksX6_laysRow_1 0 rfl rfl)
theorem dX6_laysRow_25 : decode cX6_laysRow 25 = .ok (.iconst 0, 1) := dk_3 (dk_at dksX6_laysRow_1 1 rfl rfl)
theorem dX6_laysRow_26 : decode cX6_laysRow 26 = .ok (.invokevirtual 336, 3) := dk_182 1 80 (dk_at dksX6_laysRow_1 2 rfl rfl)
theorem dX6_laysRow_29 : decode cX6_laysRow 29 = .ok (.istore_n 2, 1) := dk_61 (dk_at dksX6_laysRow_1 5 rfl rfl)
theorem dX6_laysRow_30 : decode cX6_laysRow 30 = .ok (.aload_n 0, 1) := dk_42 (dk_at dksX6_laysRow_1 6 rfl rfl)
theorem dX6_laysRow_31 : decode cX6_laysRow 31 = .ok (.iload_n 2, 1) := dk_28 (dk_at dksX6_laysRow_1 7 rfl rfl)
theorem dX6_laysRow_32 : decode cX6_laysRow 32 = .ok (.invokevirtual 361, 3) := dk_182 1 105 (dk_at dksX6_laysRow_1 8 rfl rfl)
theorem dX6_laysRow_35 : decode cX6_laysRow 35 = .ok (.aload_n 0, 1) := dk_42 (dk_at dksX6_laysRow_1 11 rfl rfl)
theorem dX6_laysRow_36 : decode cX6_laysRow 36 = .ok (.getfield 63, 3) := dk_180 0 63 (dk_at dksX6_laysRow_1 12 rfl rfl)
theorem dX6_laysRow_39 : decode cX6_laysRow 39 = .ok (.iload_n 1, 1) := dk_27 (dk_at dksX6_laysRow_1 15 rfl rfl)
theorem dX6_laysRow_40 : decode cX6_laysRow 40 = .ok (.iaload, 1) := dk_46 (dk_at dksX6_laysRow_1 16 rfl rfl)
theorem dX6_laysRow_41 : decode cX6_laysRow 41 = .ok (.if_icmp .eq 19, 3) := dk_159 0 19 (dk_at dksX6_laysRow_1 17 rfl rfl)
theorem dX6_laysRow_44 : decode cX6_laysRow 44 = .ok (.aload_n 0, 1) := dk_42 (dk_at dksX6_laysRow_1 20 rfl rfl)
theorem dX6_laysRow_45 : decode cX6_laysRow 45 = .ok (.iload_n 1, 1) := dk_27 (dk_at dksX6_laysRow_1 21 rfl rfl)
theorem dX6_laysRow_46 : decode cX6_laysRow 46 = .ok (.invokevirtual 288, 3) := dk_182 1 32 (dk_at dksX6_laysRow_2 0 rfl rfl)
theorem dX6_laysRow_49 : decode cX6_laysRow 49 = .ok (.aload_n 0, 1) := dk_42 (dk_at dksX6_laysRow_2 3 rfl rfl)
theorem dX6_laysRow_50 : decode cX6_laysRow 50 = .ok (.iload_n 2, 1) := dk_28 (dk_at dksX6_laysRow_2 4 rfl rfl)
theorem dX6_laysRow_51 : decode cX6_laysRow 51 = .ok (.iconst 1, 1) := dk_4 (dk_at dksX6_laysRow_2 5 rfl rfl)
theorem dX6_laysRow_52 : decode cX6_laysRow 52 = .ok (.iadd, 1) := dk_96 (dk_at dksX6_laysRow_2 6 rfl rfl)
theorem dX6_laysRow_53 : decode cX6_laysRow 53 = .ok (.invokevirtual 336, 3) := dk_182 1 80 (dk_at dksX6_laysRow_2 7 rfl rfl)
theorem dX6_laysRow_56 : decode cX6_laysRow 56 = .ok (.istore_n 2, 1) := dk_61 (dk_at dksX6_laysRow_2 10 rfl rfl)
theorem dX6_laysRow_57 : decode cX6_laysRow 57 = .ok (.goto (-27), 3) := dk_167 255 229 (dk_at dksX6_laysRow_2 11 rfl rfl)
theorem dX6_laysRow_60 : decode cX6_laysRow 60 = .ok (.aload_n 0, 1) := dk_42 (dk_at dksX6_laysRow_2 14 rfl rfl)
theorem dX6_laysRow_61 : decode cX6_laysRow 61 = .ok (.getfield 66, 3) := dk_180 0 66 (dk_at dksX6_laysRow_2 15 rfl rfl)
theorem dX6_laysRow_64 : decode cX6_laysRow 64 = .ok (.aload_n 0, 1) := dk_42 (dk_at dksX6_laysRow_2 18 rfl rfl)
theorem dX6_laysRow_65 : decode cX6_laysRow 65 = .ok (.getfield 373, 3) := dk_180 1 117 (dk_at dksX6_laysRow_2 19 rfl rfl)
theorem dX6_laysRow_68 : decode cX6_laysRow 68 = .ok (.iload_n 2, 1) := dk_28 (dk_at dksX6_laysRow_2 22 rfl rfl)
theorem dX6_laysRow_69 : decode cX6_laysRow 69 = .ok (.iastore, 1) := dk_79 (dk_at dksX6_laysRow_2 23 rfl rfl)
theorem dX6_laysRow_70 : decode cX6_laysRow 70 = .ok (.aload_n 0, 1) := dk_42 (dk_at dksX6_laysRow_3 0 rfl rfl)
theorem dX6_laysRow_71 : decode cX6_laysRow 71 = .ok (.dup, 1) := dk_89 (dk_at dksX6_laysRow_3 1 rfl rfl)
theorem dX6_laysRow_72 : decode cX6_laysRow 72 = .ok (.getfield 373, 3) := dk_180 1 117 (dk_at dksX6_laysRow_3 2 rfl rfl)
theorem dX6_laysRow_75 : decode cX6_laysRow 75 = .ok (.iconst 1, 1) := dk_4 (dk_at dksX6_laysRow_3 5 rfl rfl)
theorem dX6_laysRow_76 : decode cX6_laysRow 76 = .ok (.iadd, 1) := dk_96 (dk_at dksX6_laysRow_3 6 rfl rfl)
theorem dX6_laysRow_77 : decode cX6_laysRow 77 = .ok (.putfield 373, 3) := dk_181 1 117 (dk_at dksX6_laysRow_3 7 rfl rfl)
theorem dX6_laysRow_80 : decode cX6_laysRow 80 = .ok (.aload_n 0, 1) := dk_42 (dk_at dksX6_laysRow_3 10 rfl rfl)
theorem dX6_laysRow_81 : decode cX6_laysRow 81 = .ok (.invokevirtual 342, 3) := dk_182 1 86 (dk_at dksX6_laysRow_3 11 rfl rfl)
theorem dX6_laysRow_84 : decode cX6_laysRow 84 = .ok (.istore_n 1, 1) := dk_60 (dk_at dksX6_laysRow_3 14 rfl rfl)
theorem dX6_laysRow_85 : decode cX6_laysRow 85 = .ok (.goto (-75), 3) := dk_167 255 181 (dk_at dksX6_laysRow_3 15 rfl rfl)
theorem dX6_laysRow_88 : decode cX6_laysRow 88 = .ok (.return_, 1) := dk_177 (dk_at dksX6_laysRow_3 18 rfl rfl)
theorem gespM_0_39_X6 {p : Program} {l : Launch} {e : Env} {R : Room} {s : State} {m : MethodId} {args : Array Value} {below : List Frame} {meth : Method} {c : Code} {cc : ByteArray} {nL : Nat} {ret : Option FieldType} {D : va_G} {E : List wCell} {q : Nat → Nat} {ca : wCA} {A : Nat → Prop} {Q : State → Prop} {kc ks : Nat} {μ : wMem} {lv : List (Nat × Value)} {st : List Value} (pc : Nat) (C : wC p R s m args meth c cc "OnePassportModel" nL ret D vwCl (spM ++ E) q ca A) (hd : decode cc pc = .ok (.getfield 66, 3)) (k : wJ p l e R s m args below meth c nL D vwCl (spM ++ E) q ca A Q kc ks μ (pc + 3) lv (.ref (q 17) :: st)) : wJ p l e R s m args below meth c nL D vwCl (spM ++ E) q ca A Q kc ks μ pc lv (.ref (q 0) :: st) := wr_getR pc 39 C hd spM_0 rfl in_X6 (by decide) rfl q1438 k
theorem gespM_0_40_X6 {p : Program} {l : Launch} {e : Env} {R : Room} {s : State} {m : MethodId} {args : Array Value} {below : List Frame} {meth : Method} {c : Code} {cc : ByteArray} {nL : Nat} {ret : Option FieldType} {D : va_G} {E : List wCell} {q : Nat → Nat} {ca : wCA} {A : Nat → Prop} {Q : State → Prop} {kc ks : Nat} {μ : wMem} {lv : List (Nat × Value)} {st : List Value} (pc : Nat) (C : wC p R s m args meth c cc "OnePassportModel" nL ret D vwCl (spM ++ E) q ca A) (hd : decode cc pc = .ok (.getfield 373, 3)) (k : wJ p l e R s m args below meth c nL D vwCl (spM ++ E) q ca A Q kc ks μ (pc + 3) lv (.int (μ.1 0 40) :: st)) : wJ p l e R s m args below meth c nL D vwCl (spM ++ E) q ca A Q kc ks μ pc lv (.ref (q 0) :: st) := wr_getI pc 40 C hd spM_0 rfl in_X6 (by decide) rfl q1439 k
theorem puspM_0_40_X6 {p : Program} {l : Launch} {e : Env} {R : Room} {s : State} {m : MethodId} {args : Array Value} {below : List Frame} {meth : Method} {c : Code} {cc : ByteArray} {nL : Nat} {ret : Option FieldType} {D : va_G} {E : List wCell} {q : Nat → Nat} {ca : wCA} {A : Nat → Prop} {Q : State → Prop} {kc ks : Nat} {μ : wMem} {lv : List (Nat × Value)} {st : List Value} {v : Int32} {μ1 : wMem} (pc : Nat) (C : wC p R s m args meth c cc "OnePassportModel" nL ret D vwCl (spM ++ E) q ca A) (hd : decode cc pc = .ok (.putfield 373, 3)) (hμ : μ1 = wSI μ 0 40 v) (k : wJ p l e R s m args below meth c nL D vwCl (spM ++ E) q ca A Q kc ks μ1 (pc + 3) lv st) : wJ p l e R s m args below meth c nL D vwCl (spM ++ E) q ca A Q kc ks μ pc lv (.int v :: .ref (q 0) :: st) := wr_putI pc 40 C hd spM_0 rfl in_X6 tyX6 tyX6_ok nmX6 (by decide) rfl q1439 rfl rfl hμ k
theorem okX6_laysRow : wOkV yX6_laysRow cX6_laysRow 3 none 0 := ⟨q1880, qs118, q145, q1881, by decide, by decide, by decide +kernel⟩
def gbX6_laysRow_30 (N : Nat)  (x1_ : Int32) (K : (Int32 → wMem → Option wMem)) (rec : (Int32 → wMem → Option wMem)) (x2_ : Int32) (μ : wMem) : Option wMem :=
  wBind (fX6_costBy N  x2_ μ) fun v14 μ13 => wG (ok_in x1_ 94080) (if v14 = (μ13.1 16 (Int32.toNatClampNeg x1_)) then K x2_ μ13 else wBindV (fX6_begin N  x1_ μ13) fun μ18 => wBind (fX6_nextAct N  (x2_ + (1 : Int32)) μ18) fun v21 μ20 => rec v21 μ20)
def gX6_laysRow_30 (N : Nat)  (x1_ : Int32) (K : (Int32 → wMem → Option wMem)) : Nat → (Int32 → wMem → Option wMem)
  | 0 => fun _ _ => none
  | k + 1 => gbX6_laysRow_30 N  x1_ K (gX6_laysRow_30 N  x1_ K k)
set_option maxHeartbeats 4000000 in
set_option maxRecDepth 100000 in
theorem tX6_laysRow_30 {p : Program} {l : Launch} {e : Env} {s : State} {m : MethodId} {args : Array Value} {below : List Frame} {meth : Method} {c : Code} {D : va_G} {E : List wCell} {q : Nat → Nat} {ca : wCA} {A : Nat → Prop} (C : wC p ({ frames := 5, cells := 0, slots := 0, locals := 116 } : Room) s m args meth c cX6_laysRow yX6_laysRow.cls 3 none D vwCl (spM ++ E) q ca A) (N : Nat)   (x1_ : Int32) (K : (Int32 → wMem → Option wMem)) (r0 : wMem) (hK : ∀ (y2_ : Int32) (μ : wMem), K y2_ μ = some r0 → wJ p l e ({ frames := 5, cells := 0, slots := 0, locals := 116 } : Room) s m args below meth c 3 D vwCl (spM ++ E) q ca A (wQv ({ frames := 5, cells := 0, slots := 0, locals := 116 } : Room) D vwCl (spM ++ E) q ca below args s A r0) 0 0 μ 60 [(0, .ref (q 0)), (2, .int y2_)] []) : ∀ (k : Nat) (x2_ : Int32) (μ : wMem), gX6_laysRow_30 N  x1_ K k x2_ μ = some r0 → wJ p l e ({ frames := 5, cells := 0, slots := 0, locals := 116 } : Room) s m args below meth c 3 D vwCl (spM ++ E) q ca A (wQv ({ frames := 5, cells := 0, slots := 0, locals := 116 } : Room) D vwCl (spM ++ E) q ca below args s A r0) 0 0 μ 30 [(0, .ref (q 0)), (1, .int x1_), (2, .int x2_)] [] := by
  intro k
  induction k with
  | zero =>
    intro x2_ μ hf
    cases hf
  | succ k ih =>
    intro x2_ μ hf
    replace hf : gbX6_laysRow_30 N  x1_ K (gX6_laysRow_30 N  x1_ K k) x2_ μ = some r0 := hf
    unfold gbX6_laysRow_30 at hf
    refine wr_aload_n 30 C dX6_laysRow_30 0 rfl rfl ?_
    refine wr_iload_n 31 C dX6_laysRow_31 2 rfl rfl ?_
    obtain ⟨v14, μ13, h12, hf⟩ := o_bind hf
    refine wr_Vi (kc1 := 0) (ks1 := 0) 32 [] C dX6_laysRow_32 (tX6_costBy l N   x2_ μ (v14, μ13) h12) okX6_costBy q1862 (b := 0) spM_0 rfl ⟨rfl, rfl, Nat.le_of_ble_eq_true rfl, Nat.le_of_ble_eq_true rfl, Nat.zero_le _, Nat.zero_le _⟩ (Nat.le_of_ble_eq_true rfl) rfl ?_
    refine wr_aload_n 35 C dX6_laysRow_35 0 rfl rfl ?_
    refine gespM_0_35_X6 36 C dX6_laysRow_36 ?_
    refine wr_iload_n 39 C dX6_laysRow_39 1 rfl rfl ?_
    obtain ⟨g15, hf⟩ := o_g hf
    refine wr_iald 40 C dX6_laysRow_40 spM_16 g15 ?_
    refine wr_icmp_eq 41 60 C dX6_laysRow_41 (by decide) (fun c16 => ?_) (fun c16 => ?_)
    · replace hf := o_pos c16 hf
      refine wr_sub [(0, .ref (q 0)), (2, .int x2_)] [0, 2] rfl ?_
      exact hK x2_ μ13 hf
    · replace hf := o_neg c16 hf
      refine wr_aload_n 44 C dX6_laysRow_44 0 rfl rfl ?_
      refine wr_iload_n 45 C dX6_laysRow_45 1 rfl rfl ?_
      obtain ⟨μ18, h17, hf⟩ := o_bindV hf
      refine wr_Vv (kc1 := 0) (ks1 := 0) 46 [] C dX6_laysRow_46 (tX6_begin l N   x1_ μ13 μ18 h17) okX6_begin q1698 (b := 0) spM_0 rfl ⟨rfl, rfl, Nat.le_of_ble_eq_true rfl, Nat.le_of_ble_eq_true rfl, Nat.zero_le _, Nat.zero_le _⟩ (Nat.le_of_ble_eq_true rfl) rfl ?_
      refine wr_aload_n 49 C dX6_laysRow_49 0 rfl rfl ?_
      refine wr_iload_n 50 C dX6_laysRow_50 2 rfl rfl ?_
      refine wr_iconst 51 C dX6_laysRow_51 (v := 1) rfl ?_
      refine wr_iadd 52 C dX6_laysRow_52 ?_
      obtain ⟨v21, μ20, h19, hf⟩ := o_bind hf
      refine wr_Vi (kc1 := 0) (ks1 := 0) 53 [] C dX6_laysRow_53 (tX6_nextAct l N   (x2_ + (1 : Int32)) μ18 (v21, μ20) h19) okX6_nextAct q1814 (b := 0) spM_0 rfl ⟨rfl, rfl, Nat.le_of_ble_eq_true rfl, Nat.le_of_ble_eq_true rfl, Nat.zero_le _, Nat.zero_le _⟩ (Nat.le_of_ble_eq_true rfl) rfl ?_
      refine wr_istore_n 56 [(2, .int v21), (0, .ref (q 0)), (1, .int x1_)] C dX6_laysRow_56 rfl rfl (Nat.le_of_ble_eq_true rfl) rfl ?_
      refine wr_goto 57 C dX6_laysRow_57 (tgt := 30) (by decide) ?_
      refine wr_sub [(0, .ref (q 0)), (1, .int x1_), (2, .int v21)] [1, 2, 0] rfl ?_
      exact ih v21 μ20 hf
def gbX6_laysRow_10 (N : Nat)   (K : (wMem → Option wMem)) (rec : (Int32 → wMem → Option wMem)) (x1_ : Int32) (μ : wMem) : Option wMem :=
  wG (ok_in x1_ 94080) (if (μ.1 16 (Int32.toNatClampNeg x1_)) = 0 then K  μ else wBindV (fX6_begin N  x1_ μ) fun μ8 => wBind (fX6_nextAct N  0 μ8) fun v11 μ10 => gX6_laysRow_30 N  x1_ (fun (x23 : Int32) (μ22 : wMem) => wG (ok_in (μ22.1 0 40) 400) (wLet (wSI μ22 17 (Int32.toNatClampNeg (μ22.1 0 40)) x23) fun μ25 => wLet (wSI μ25 0 40 ((μ25.1 0 40) + (1 : Int32))) fun μ26 => wBind (fX6_numberOf N   μ26) fun v29 μ28 => rec v29 μ28)) N v11 μ10)
def gX6_laysRow_10 (N : Nat)   (K : (wMem → Option wMem)) : Nat → (Int32 → wMem → Option wMem)
  | 0 => fun _ _ => none
  | k + 1 => gbX6_laysRow_10 N   K (gX6_laysRow_10 N   K k)
set_option maxHeartbeats 4000000 in
set_option maxRecDepth 100000 in
theorem tX6_laysRow_10 {p : Program} {l : Launch} {e : Env} {s : State} {m : MethodId} {args : Array Value} {below : List Frame} {meth : Method} {c : Code} {D : va_G} {E : List wCell} {q : Nat → Nat} {ca : wCA} {A : Nat → Prop} (C : wC p ({ frames := 5, cells := 0, slots := 0, locals := 116 } : Room) s m args meth c cX6_laysRow yX6_laysRow.cls 3 none D vwCl (spM ++ E) q ca A) (N : Nat)    (K : (wMem → Option wMem)) (r0 : wMem) (hK : ∀  (μ : wMem), K  μ = some r0 → wJ p l e ({ frames := 5, cells := 0, slots := 0, locals := 116 } : Room) s m args below meth c 3 D vwCl (spM ++ E) q ca A (wQv ({ frames := 5, cells := 0, slots := 0, locals := 116 } : Room) D vwCl (spM ++ E) q ca below args s A r0) 0 0 μ 88 [] []) : ∀ (k : Nat) (x1_ : Int32) (μ : wMem), gX6_laysRow_10 N   K k x1_ μ = some r0 → wJ p l e ({ frames := 5, cells := 0, slots := 0, locals := 116 } : Room) s m args below meth c 3 D vwCl (spM ++ E) q ca A (wQv ({ frames := 5, cells := 0, slots := 0, locals := 116 } : Room) D vwCl (spM ++ E) q ca below args s A r0) 0 0 μ 10 [(0, .ref (q 0)), (1, .int x1_)] [] := by
  intro k
  induction k with
  | zero =>
    intro x1_ μ hf
    cases hf
  | succ k ih =>
    intro x1_ μ hf
    replace hf : gbX6_laysRow_10 N   K (gX6_laysRow_10 N   K k) x1_ μ = some r0 := hf
    unfold gbX6_laysRow_10 at hf
    refine wr_aload_n 10 C dX6_laysRow_10 0 rfl rfl ?_
    refine gespM_0_35_X6 11 C dX6_laysRow_11 ?_
    refine wr_iload_n 14 C dX6_laysRow_14 1 rfl rfl ?_
    obtain ⟨g5, hf⟩ := o_g hf
    refine wr_iald 15 C dX6_laysRow_15 spM_16 g5 ?_
    refine wr_if_eq 16 88 C dX6_laysRow_16 (by decide) (fun c6 => ?_) (fun c6 => ?_)
    · replace hf := o_pos c6 hf
      refine wr_sub [] [] rfl ?_
      exact hK  μ hf
    · replace hf := o_neg c6 hf
      refine wr_aload_n 19 C dX6_laysRow_19 0 rfl rfl ?_
      refine wr_iload_n 20 C dX6_laysRow_20 1 rfl rfl ?_
      obtain ⟨μ8, h7, hf⟩ := o_bindV hf
      refine wr_Vv (kc1 := 0) (ks1 := 0) 21 [] C dX6_laysRow_21 (tX6_begin l N   x1_ μ μ8 h7) okX6_begin q1698 (b := 0) spM_0 rfl ⟨rfl, rfl, Nat.le_of_ble_eq_true rfl, Nat.le_of_ble_eq_true rfl, Nat.zero_le _, Nat.zero_le _⟩ (Nat.le_of_ble_eq_true rfl) rfl ?_
      refine wr_aload_n 24 C dX6_laysRow_24 0 rfl rfl ?_
      refine wr_iconst 25 C dX6_laysRow_25 (v := 0) rfl ?_
      obtain ⟨v11, μ10, h9, hf⟩ := o_bind hf
      refine wr_Vi (kc1 := 0) (ks1 := 0) 26 [] C dX6_laysRow_26 (tX6_nextAct l N   0 μ8 (v11, μ10) h9) okX6_nextAct q1814 (b := 0) spM_0 rfl ⟨rfl, rfl, Nat.le_of_ble_eq_true rfl, Nat.le_of_ble_eq_true rfl, Nat.zero_le _, Nat.zero_le _⟩ (Nat.le_of_ble_eq_true rfl) rfl ?_
      refine wr_istore_n 29 [(2, .int v11), (0, .ref (q 0)), (1, .int x1_)] C dX6_laysRow_29 rfl rfl (Nat.le_of_ble_eq_true rfl) rfl ?_
      refine wr_sub [(0, .ref (q 0)), (1, .int x1_), (2, .int v11)] [1, 2, 0] rfl ?_
      refine tX6_laysRow_30 C N   x1_ _ r0 (fun x23 μ22 hf => ?_) N v11 μ10 hf
      · replace hf := hf
        refine wr_aload_n 60 C dX6_laysRow_60 0 rfl rfl ?_
        refine gespM_0_39_X6 61 C dX6_laysRow_61 ?_
        refine wr_aload_n 64 C dX6_laysRow_64 0 rfl rfl ?_
        refine gespM_0_40_X6 65 C dX6_laysRow_65 ?_
        refine wr_iload_n 68 C dX6_laysRow_68 1 rfl rfl ?_
        obtain ⟨g24, hf⟩ := o_g hf
        obtain ⟨μ25, eμ25, hf⟩ := o_let hf
        refine wr_iast 69 C dX6_laysRow_69 spM_17 g24 eμ25 ?_
        refine wr_aload_n 70 C dX6_laysRow_70 0 rfl rfl ?_
        refine wr_dup 71 C dX6_laysRow_71 rfl ?_
        refine gespM_0_40_X6 72 C dX6_laysRow_72 ?_
        refine wr_iconst 75 C dX6_laysRow_75 (v := 1) rfl ?_
        refine wr_iadd 76 C dX6_laysRow_76 ?_
        obtain ⟨μ26, eμ26, hf⟩ := o_let hf
        refine puspM_0_40_X6 77 C dX6_laysRow_77 eμ26 ?_
        refine wr_aload_n 80 C dX6_laysRow_80 0 rfl rfl ?_
        obtain ⟨v29, μ28, h27, hf⟩ := o_bind hf
        refine wr_Vi (kc1 := 0) (ks1 := 0) 81 [] C dX6_laysRow_81 (tX6_numberOf l N    μ26 (v29, μ28) h27) okX6_numberOf q1841 (b := 0) spM_0 rfl ⟨rfl, rfl, Nat.le_of_ble_eq_true rfl, Nat.le_of_ble_eq_true rfl, Nat.zero_le _, Nat.zero_le _⟩ (Nat.le_of_ble_eq_true rfl) rfl ?_
        refine wr_istore_n 84 [(1, .int v29), (0, .ref (q 0)), (2, .int x23)] C dX6_laysRow_84 rfl rfl (Nat.le_of_ble_eq_true rfl) rfl ?_
        refine wr_goto 85 C dX6_laysRow_85 (tgt := 10) (by decide) ?_
        refine wr_sub [(0, .ref (q 0)), (1, .int v29)] [1, 0] rfl ?_
        exact ih v29 μ28 hf
def fX6_laysRow (N : Nat)   (μ : wMem) : Option wMem :=
  wBind (fX6_numberOf N   μ) fun v3 μ2 => wLet (wSI μ2 0 40 (0 : Int32)) fun μ4 => gX6_laysRow_10 N   (fun  (μ30 : wMem) => some μ30) N v3 μ4
set_option maxHeartbeats 4000000 in
set_option maxRecDepth 100000 in
theorem tX6_laysRow (l : Launch) {D : va_G} {E : List wCell} {q : Nat → Nat} {ca : wCA} (N : Nat)    (μ : wMem) (r0 : wMem) (hf : fX6_laysRow N   μ = some r0) : wMv l yX6_laysRow cX6_laysRow 3 none ({ frames := 5, cells := 0, slots := 0, locals := 116 } : Room) D vwCl (spM ++ E) q ca [.ref (q 0)] μ r0 := by
  refine wMv_intro (by decide) (Nat.le_of_ble_eq_true rfl) ?_
  intro p e s m args below meth c A C
  unfold fX6_laysRow at hf
  refine wr_sub [(0, .ref (q 0))] [0] rfl ?_
  refine wr_aload_n 0 C dX6_laysRow_0 0 rfl rfl ?_
  obtain ⟨v3, μ2, h1, hf⟩ := o_bind hf
  refine wr_Vi (kc1 := 0) (ks1 := 0) 1 [] C dX6_laysRow_1 (tX6_numberOf l N    μ (v3, μ2) h1) okX6_numberOf q1841 (b := 0) spM_0 rfl ⟨rfl, rfl, Nat.le_of_ble_eq_true rfl, Nat.le_of_ble_eq_true rfl, Nat.zero_le _, Nat.zero_le _⟩ (Nat.le_of_ble_eq_true rfl) rfl ?_
  refine wr_istore_n 4 [(1, .int v3), (0, .ref (q 0))] C dX6_laysRow_4 rfl rfl (Nat.le_of_ble_eq_true rfl) rfl ?_
  refine wr_aload_n 5 C dX6_laysRow_5 1 rfl rfl ?_
  refine wr_iconst 6 C dX6_laysRow_6 (v := 0) rfl ?_
  obtain ⟨μ4, eμ4, hf⟩ := o_let hf
  refine puspM_0_40_X6 7 C dX6_laysRow_7 eμ4 ?_
  refine wr_sub [(0, .ref (q 0)), (1, .int v3)] [1, 0] rfl ?_
  refine tX6_laysRow_10 C N    _ r0 (fun  μ30 hf => ?_) N v3 μ4 hf
  · replace hf := hf
    exact wr_vret 88 C dX6_laysRow_88 ⟨Nat.zero_le _, Nat.zero_le _⟩ (Option.some.inj hf)
abbrev cX6_isRow : ByteArray := prog_11_method_82_code
def yX6_isRow : MethodName := ⟨RX6, "isRow", "(I)Z"⟩
def dkwX6_isRow_0 : List UInt8 := [42, 3, 3, 27, 182, 1, 120, 19, 1, 101, 160, 0, 5, 3, 172, 42, 182, 1, 123, 4, 172]
abbrev dktX6_isRow_0 : List UInt8 := dkwX6_isRow_0 ++ []
theorem dksX6_isRow_0 : cX6_isRow.data.toList.drop 0 = dktX6_isRow_0 := by decide +kernel
theorem dX6_isRow_0 : decode cX6_isRow 0 = .ok (.aload_n 0, 1) := dk_42 (dk_at dksX6_isRow_0 0 rfl rfl)
theorem dX6_isRow_1 : decode cX6_isRow 1 = .ok (.iconst 0, 1) := dk_3 (dk_at dksX6_isRow_0 1 rfl rfl)
theorem dX6_isRow_2 : decode cX6_isRow 2 = .ok (.iconst 0, 1) := dk_3 (dk_at dksX6_isRow_0 2 rfl rfl)
theorem dX6_isRow_3 : decode cX6_isRow 3 = .ok (.iload_n 1, 1) := dk_27 (dk_at dksX6_isRow_0 3 rfl rfl)
theorem dX6_isRow_4 : decode cX6_isRow 4 = .ok (.invokevirtual 376, 3) := dk_182 1 120 (dk_at dksX6_isRow_0 4 rfl rfl)
theorem dX6_isRow_7 : decode cX6_isRow 7 = .ok (.ldc_w 357, 3) := dk_19 1 101 (dk_at dksX6_isRow_0 7 rfl rfl)
theorem dX6_isRow_10 : decode cX6_isRow 10 = .ok (.if_icmp .ne 5, 3) := dk_160 0 5 (dk_at dksX6_isRow_0 10 rfl rfl)
theorem dX6_isRow_13 : decode cX6_isRow 13 = .ok (.iconst 0, 1) := dk_3 (dk_at dksX6_isRow_0 13 rfl rfl)
theorem dX6_isRow_14 : decode cX6_isRow 14 = .ok (.ireturn, 1) := dk_172 (dk_at dksX6_isRow_0 14 rfl rfl)
theorem dX6_isRow_15 : decode cX6_isRow 15 = .ok (.aload_n 0, 1) := dk_42 (dk_at dksX6_isRow_0 15 rfl rfl)
theorem dX6_isRow_16 : decode cX6_isRow 16 = .ok (.invokevirtual 379, 3) := dk_182 1 123 (dk_at dksX6_isRow_0 16 rfl rfl)
theorem dX6_isRow_19 : decode cX6_isRow 19 = .ok (.iconst 1, 1) := dk_4 (dk_at dksX6_isRow_0 19 rfl rfl)
theorem dX6_isRow_20 : decode cX6_isRow 20 = .ok (.ireturn, 1) := dk_172 (dk_at dksX6_isRow_0 20 rfl rfl)

theorem okX6_isRow : wOkV yX6_isRow cX6_isRow 2 (some .boolean) 1 := ⟨q1876, qs117, q145, q1877, by decide, by decide, by decide +kernel⟩
def fX6_isRow (N : Nat)  (a1 : Int32) (μ : wMem) : Option (Int32 × wMem) :=
  wBind (fX6_seeksNow N  0 0 a1 μ) fun v3 μ2 => if v3 = (2000000000 : Int32) then some (0, μ2) else wBindV (fX6_laysRow N   μ2) fun μ6 => some (1, μ6)
set_option maxHeartbeats 4000000 in
set_option maxRecDepth 100000 in
theorem tX6_isRow (l : Launch) {D : va_G} {E : List wCell} {q : Nat → Nat} {ca : wCA} (N : Nat)   (a1 : Int32) (μ : wMem) (r0 : (Int32 × wMem)) (hf : fX6_isRow N  a1 μ = some r0) : wMi l yX6_isRow cX6_isRow 2 (some .boolean) ({ frames := 8, cells := 0, slots := 0, locals := 189 } : Room) D vwCl (spM ++ E) q ca [.ref (q 0), .int a1] μ r0 := by
  refine wMi_intro (by decide) (Nat.le_of_ble_eq_true rfl) ?_
  intro p e s m args below meth c A C
  unfold fX6_isRow at hf
  refine wr_sub [(0, .ref (q 0)), (1, .int a1)] [0, 1] rfl ?_
  refine wr_aload_n 0 C dX6_isRow_0 0 rfl rfl ?_
  refine wr_iconst 1 C dX6_isRow_1 (v := 0) rfl ?_
  refine wr_iconst 2 C dX6_isRow_2 (v := 0) rfl ?_
  refine wr_iload_n 3 C dX6_isRow_3 1 rfl rfl ?_
  obtain ⟨v3, μ2, h1, hf⟩ := o_bind hf
  refine wr_Vi (kc1 := 0) (ks1 := 0) 4 [] C dX6_isRow_4 (tX6_seeksNow l N   0 0 a1 μ (v3, μ2) h1) okX6_seeksNow q1837 (b := 0) spM_0 rfl ⟨rfl, rfl, Nat.le_of_ble_eq_true rfl, Nat.le_of_ble_eq_true rfl, Nat.zero_le _, Nat.zero_le _⟩ (Nat.le_of_ble_eq_true rfl) rfl ?_
  refine wr_ldcw 7 C dX6_isRow_7 q1857 ?_
  refine wr_icmp_ne 10 15 C dX6_isRow_10 (by decide) (fun c4 => ?_) (fun c4 => ?_)
  · replace hf := o_neg c4 hf
    refine wr_aload_n 15 C dX6_isRow_15 0 rfl rfl ?_
    obtain ⟨μ6, h5, hf⟩ := o_bindV hf
    refine wr_Vv (kc1 := 0) (ks1 := 0) 16 [] C dX6_isRow_16 (tX6_laysRow l N    μ2 μ6 h5) okX6_laysRow q1878 (b := 0) spM_0 rfl ⟨rfl, rfl, Nat.le_of_ble_eq_true rfl, Nat.le_of_ble_eq_true rfl, Nat.zero_le _, Nat.zero_le _⟩ (Nat.le_of_ble_eq_true rfl) rfl ?_
    refine wr_iconst 19 C dX6_isRow_19 (v := 1) rfl ?_
    exact wr_zret 20 C dX6_isRow_20 rfl ⟨Nat.zero_le _, Nat.zero_le _⟩ (Option.some.inj hf)
  · replace hf := o_pos c4 hf
    refine wr_iconst 13 C dX6_isRow_13 (v := 0) rfl ?_
    exact wr_zret 14 C dX6_isRow_14 rfl ⟨Nat.zero_le _, Nat.zero_le _⟩ (Option.some.inj hf)
abbrev cX6_plan : ByteArray := prog_11_method_83_code
def yX6_plan : MethodName := ⟨RX6, "plan", "(I)I"⟩
def dkwX6_plan_2 : List UInt8 := [2, 172]
abbrev dktX6_plan_2 : List UInt8 := dkwX6_plan_2 ++ []
def dkwX6_plan_1 : List UInt8 := [133, 9, 42, 180, 1, 117, 4, 100, 133, 184, 0, 93, 153, 0, 12, 42, 180, 0, 66, 27, 46, 167, 0, 4]
abbrev dktX6_plan_1 : List UInt8 := dkwX6_plan_1 ++ dktX6_plan_2
def dkwX6_plan_0 : List UInt8 := [42, 3, 181, 0, 88, 42, 182, 1, 67, 154, 0, 6, 16, 254, 172, 42, 3, 182, 1, 126, 153, 0, 28, 27]
abbrev dktX6_plan_0 : List UInt8 := dkwX6_plan_0 ++ dktX6_plan_1
theorem dksX6_plan_0 : cX6_plan.data.toList.drop 0 = dktX6_plan_0 := by decide +kernel
theorem dksX6_plan_1 : cX6_plan.data.toList.drop 24 = dktX6_plan_1 := dk_seg dksX6_plan_0 24 rfl rfl
theorem dksX6_plan_2 : cX6_plan.data.toList.drop 48 = dktX6_plan_2 := dk_seg dksX6_plan_1 24 rfl rfl
theorem dX6_plan_0 : decode cX6_plan 0 = .ok (.aload_n 0, 1) := dk_42 (dk_at dksX6_plan_0 0 rfl rfl)
theorem dX6_plan_1 : decode cX6_plan 1 = .ok (.iconst 0, 1) := dk_3 (dk_at dksX6_plan_0 1 rfl rfl)
theorem dX6_plan_2 : decode cX6_plan 2 = .ok (.putfield 88, 3) := dk_181 0 88 (dk_at dksX6_plan_0 2 rfl rfl)
theorem dX6_plan_5 : decode cX6_plan 5 = .ok (.aload_n 0, 1) := dk_42 (dk_at dksX6_plan_0 5 rfl rfl)
theorem dX6_plan_6 : decode cX6_plan 6 = .ok (.invokevirtual 323, 3) := dk_182 1 67 (dk_at dksX6_plan_0 6 rfl rfl)
theorem dX6_plan_9 : decode cX6_plan 9 = .ok (.ifCond .ne 6, 3) := dk_154 0 6 (dk_at dksX6_plan_0 9 rfl rfl)
theorem dX6_plan_12 : decode cX6_plan 12 = .ok (.bipush (-2), 2) := dk_16 254 (dk_at dksX6_plan_0 12 rfl rfl)
theorem dX6_plan_14 : decode cX6_plan 14 = .ok (.ireturn, 1) := dk_172 (dk_at dksX6_plan_0 14 rfl rfl)
theorem dX6_plan_15 : decode cX6_plan 15 = .ok (.aload_n 0, 1) := dk_42 (dk_at dksX6_plan_0 15 rfl rfl)
theorem dX6_plan_16 : decode cX6_plan 16 = .ok (.iconst 0, 1) := dk_3 (dk_at dksX6_plan_0 16 rfl rfl)
theorem dX6_plan_17 : decode cX6_plan 17 = .ok (.invokevirtual 382, 3) := dk_182 1 126 (dk_at dksX6_plan_0 17 rfl rfl)
theorem dX6_plan_20 : decode cX6_plan 20 = .ok (.ifCond .eq 28, 3) := dk_153 0 28 (dk_at dksX6_plan_0 20 rfl rfl)
theorem dX6_plan_23 : decode cX6_plan 23 = .ok (.iload_n 1, 1) := dk_27 (dk_at dksX6_plan_0 23 rfl rfl)
theorem dX6_plan_24 : decode cX6_plan 24 = .ok (.i2l, 1) := dk_133 (dk_at dksX6_plan_1 0 rfl rfl)
theorem dX6_plan_25 : decode cX6_plan 25 = .ok (.lconst 0, 1) := dk_9 (dk_at dksX6_plan_1 1 rfl rfl)
theorem dX6_plan_26 : decode cX6_plan 26 = .ok (.aload_n 0, 1) := dk_42 (dk_at dksX6_plan_1 2 rfl rfl)
theorem dX6_plan_27 : decode cX6_plan 27 = .ok (.getfield 373, 3) := dk_180 1 117 (dk_at dksX6_plan_1 3 rfl rfl)
theorem dX6_plan_30 : decode cX6_plan 30 = .ok (.iconst 1, 1) := dk_4 (dk_at dksX6_plan_1 6 rfl rfl)
theorem dX6_plan_31 : decode cX6_plan 31 = .ok (.isub, 1) := dk_100 (dk_at dksX6_plan_1 7 rfl rfl)
theorem dX6_plan_32 : decode cX6_plan 32 = .ok (.i2l, 1) := dk_133 (dk_at dksX6_plan_1 8 rfl rfl)
theorem dX6_plan_33 : decode cX6_plan 33 = .ok (.invokestatic 93, 3) := dk_184 0 93 (dk_at dksX6_plan_1 9 rfl rfl)
theorem dX6_plan_36 : decode cX6_plan 36 = .ok (.ifCond .eq 12, 3) := dk_153 0 12 (dk_at dksX6_plan_1 12 rfl rfl)
theorem dX6_plan_39 : decode cX6_plan 39 = .ok (.aload_n 0, 1) := dk_42 (dk_at dksX6_plan_1 15 rfl rfl)
theorem dX6_plan_40 : decode cX6_plan 40 = .ok (.getfield 66, 3) := dk_180 0 66 (dk_at dksX6_plan_1 16 rfl rfl)
theorem dX6_plan_43 : decode cX6_plan 43 = .ok (.iload_n 1, 1) := dk_27 (dk_at dksX6_plan_1 19 rfl rfl)
theorem dX6_plan_44 : decode cX6_plan 44 = .ok (.iaload, 1) := dk_46 (dk_at dksX6_plan_1 20 rfl rfl)
theorem dX6_plan_45 : decode cX6_plan 45 = .ok (.goto 4, 3) := dk_167 0 4 (dk_at dksX6_plan_1 21 rfl rfl)
theorem dX6_plan_48 : decode cX6_plan 48 = .ok (.iconst (-1), 1) := dk_2 (dk_at dksX6_plan_2 0 rfl rfl)
theorem dX6_plan_49 : decode cX6_plan 49 = .ok (.ireturn, 1) := dk_172 (dk_at dksX6_plan_2 1 rfl rfl)

theorem okX6_plan : wOkV yX6_plan cX6_plan 2 (some .int) 1 := ⟨q1871, q1872, q145, q1873, by decide, by decide, by decide +kernel⟩
def fX6_plan (N : Nat)  (a1 : Int32) (μ : wMem) : Option (Int32 × wMem) :=
  wLet (wSI μ 0 0 (0 : Int32)) fun μ1 => wBind (fX6_isFamily N   μ1) fun v4 μ3 => if v4 = 0 then some ((-2), μ3) else wBind (fX6_isRow N  0 μ3) fun v8 μ7 => if v8 = 0 then some ((-1), μ7) else wBind (fX6_in N  (Int32.toInt64 a1) 0 (Int32.toInt64 ((μ7.1 0 40) - (1 : Int32))) μ7) fun v12 μ11 => if v12 = 0 then some ((-1), μ11) else wG (ok_in a1 400) (some (μ11.1 17 (Int32.toNatClampNeg a1), μ11))
set_option maxHeartbeats 4000000 in
set_option maxRecDepth 100000 in
theorem tX6_plan (l : Launch) {D : va_G} {E : List wCell} {q : Nat → Nat} {ca : wCA} (N : Nat)   (a1 : Int32) (μ : wMem) (r0 : (Int32 × wMem)) (hf : fX6_plan N  a1 μ = some r0) : wMi l yX6_plan cX6_plan 2 (some .int) ({ frames := 9, cells := 0, slots := 0, locals := 210 } : Room) D vwCl (spM ++ E) q ca [.ref (q 0), .int a1] μ r0 := by
  refine wMi_intro (by decide) (Nat.le_of_ble_eq_true rfl) ?_
  intro p e s m args below meth c A C
  unfold fX6_plan at hf
  refine wr_sub [(0, .ref (q 0)), (1, .int a1)] [0, 1] rfl ?_
  refine wr_aload_n 0 C dX6_plan_0 0 rfl rfl ?_
  refine wr_iconst 1 C dX6_plan_1 (v := 0) rfl ?_
  obtain ⟨μ1, eμ1, hf⟩ := o_let hf
  refine puspM_0_0_X6 2 C dX6_plan_2 eμ1 ?_
  refine wr_aload_n 5 C dX6_plan_5 0 rfl rfl ?_
  obtain ⟨v4, μ3, h2, hf⟩ := o_bind hf
  refine wr_Vi (kc1 := 0) (ks1 := 0) 6 [] C dX6_plan_6 (tX6_isFamily l N    μ1 (v4, μ3) h2) okX6_isFamily q1750 (b := 0) spM_0 rfl ⟨rfl, rfl, Nat.le_of_ble_eq_true rfl, Nat.le_of_ble_eq_true rfl, Nat.zero_le _, Nat.zero_le _⟩ (Nat.le_of_ble_eq_true rfl) rfl ?_
  refine wr_if_ne 9 15 C dX6_plan_9 (by decide) (fun c5 => ?_) (fun c5 => ?_)
  · replace hf := o_neg c5 hf
    refine wr_aload_n 15 C dX6_plan_15 0 rfl rfl ?_
    refine wr_iconst 16 C dX6_plan_16 (v := 0) rfl ?_
    obtain ⟨v8, μ7, h6, hf⟩ := o_bind hf
    refine wr_Vi (kc1 := 0) (ks1 := 0) 17 [] C dX6_plan_17 (tX6_isRow l N   0 μ3 (v8, μ7) h6) okX6_isRow q1874 (b := 0) spM_0 rfl ⟨rfl, rfl, Nat.le_of_ble_eq_true rfl, Nat.le_of_ble_eq_true rfl, Nat.zero_le _, Nat.zero_le _⟩ (Nat.le_of_ble_eq_true rfl) rfl ?_
    refine wr_if_eq 20 48 C dX6_plan_20 (by decide) (fun c9 => ?_) (fun c9 => ?_)
    · replace hf := o_pos c9 hf
      refine wr_iconst 48 C dX6_plan_48 (v := (-1)) rfl ?_
      exact wr_iret 49 C dX6_plan_49 ⟨Nat.zero_le _, Nat.zero_le _⟩ (Option.some.inj hf)
    · replace hf := o_neg c9 hf
      refine wr_iload_n 23 C dX6_plan_23 1 rfl rfl ?_
      refine wr_i2l 24 C dX6_plan_24 ?_
      refine wr_lconst 25 C dX6_plan_25 (v := 0) rfl ?_
      refine wr_aload_n 26 C dX6_plan_26 0 rfl rfl ?_
      refine gespM_0_40_X6 27 C dX6_plan_27 ?_
      refine wr_iconst 30 C dX6_plan_30 (v := 1) rfl ?_
      refine wr_isub 31 C dX6_plan_31 ?_
      refine wr_i2l 32 C dX6_plan_32 ?_
      obtain ⟨v12, μ11, h10, hf⟩ := o_bind hf
      refine wr_Si (kc1 := 0) (ks1 := 0) 33 [] C dX6_plan_33 (tX6_in l N   (Int32.toInt64 a1) 0 (Int32.toInt64 ((μ7.1 0 40) - (1 : Int32))) μ7 (v12, μ11) h10) okX6_in q1552 ⟨rfl, rfl, Nat.le_of_ble_eq_true rfl, Nat.le_of_ble_eq_true rfl, Nat.zero_le _, Nat.zero_le _⟩ (Nat.le_of_ble_eq_true rfl) rfl ?_
      refine wr_if_eq 36 48 C dX6_plan_36 (by decide) (fun c13 => ?_) (fun c13 => ?_)
      · replace hf := o_pos c13 hf
        refine wr_iconst 48 C dX6_plan_48 (v := (-1)) rfl ?_
        exact wr_iret 49 C dX6_plan_49 ⟨Nat.zero_le _, Nat.zero_le _⟩ (Option.some.inj hf)
      · replace hf := o_neg c13 hf
        refine wr_aload_n 39 C dX6_plan_39 0 rfl rfl ?_
        refine gespM_0_39_X6 40 C dX6_plan_40 ?_
        refine wr_iload_n 43 C dX6_plan_43 1 rfl rfl ?_
        obtain ⟨g14, hf⟩ := o_g hf
        refine wr_iald 44 C dX6_plan_44 spM_17 g14 ?_
        refine wr_goto 45 C dX6_plan_45 (tgt := 49) (by decide) ?_
        exact wr_iret 49 C dX6_plan_49 ⟨Nat.zero_le _, Nat.zero_le _⟩ (Option.some.inj hf)
  · replace hf := o_pos c5 hf
    refine wr_bipush 12 C dX6_plan_12 (v := (-2)) rfl ?_
    exact wr_iret 14 C dX6_plan_14 ⟨Nat.zero_le _, Nat.zero_le _⟩ (Option.some.inj hf)
abbrev cX6_surest : ByteArray := prog_11_method_84_code
def yX6_surest : MethodName := ⟨RX6, "surest", "()I"⟩
def dkwX6_surest_1 : List UInt8 := [19, 1, 101, 160, 0, 7, 2, 167, 0, 8, 27, 17, 39, 16, 108, 172]
abbrev dktX6_surest_1 : List UInt8 := dkwX6_surest_1 ++ []
def dkwX6_surest_0 : List UInt8 := [42, 3, 181, 0, 88, 42, 182, 1, 67, 154, 0, 6, 16, 254, 172, 42, 3, 3, 4, 182, 1, 120, 60, 27]
abbrev dktX6_surest_0 : List UInt8 := dkwX6_surest_0 ++ dktX6_surest_1
theorem dksX6_surest_0 : cX6_surest.data.toList.drop 0 = dktX6_surest_0 := by decide +kernel
theorem dksX6_surest_1 : cX6_surest.data.toList.drop 24 = dktX6_surest_1 := dk_seg dksX6_surest_0 24 rfl rfl
theorem dX6_surest_0 : decode cX6_surest 0 = .ok (.aload_n 0, 1) := dk_42 (dk_at dksX6_surest_0 0 rfl rfl)
theorem dX6_surest_1 : decode cX6_surest 1 = .ok (.iconst 0, 1) := dk_3 (dk_at dksX6_surest_0 1 rfl rfl)
theorem dX6_surest_2 : decode cX6_surest 2 = .ok (.putfield 88, 3) := dk_181 0 88 (dk_at dksX6_surest_0 2 rfl rfl)
theorem dX6_surest_5 : decode cX6_surest 5 = .ok (.aload_n 0, 1) := dk_42 (dk_at dksX6_surest_0 5 rfl rfl)
theorem dX6_surest_6 : decode cX6_surest 6 = .ok (.invokevirtual 323, 3) := dk_182 1 67 (dk_at dksX6_surest_0 6 rfl rfl)
theorem dX6_surest_9 : decode cX6_surest 9 = .ok (.ifCond .ne 6, 3) := dk_154 0 6 (dk_at dksX6_surest_0 9 rfl rfl)
theorem dX6_surest_12 : decode cX6_surest 12 = .ok (.bipush (-2), 2) := dk_16 254 (dk_at dksX6_surest_0 12 rfl rfl)
theorem dX6_surest_14 : decode cX6_surest 14 = .ok (.ireturn, 1) := dk_172 (dk_at dksX6_surest_0 14 rfl rfl)
theorem dX6_surest_15 : decode cX6_surest 15 = .ok (.aload_n 0, 1) := dk_42 (dk_at dksX6_surest_0 15 rfl rfl)
theorem dX6_surest_16 : decode cX6_surest 16 = .ok (.iconst 0, 1) := dk_3 (dk_at dksX6_surest_0 16 rfl rfl)
theorem dX6_surest_17 : decode cX6_surest 17 = .ok (.iconst 0, 1) := dk_3 (dk_at dksX6_surest_0 17 rfl rfl)
theorem dX6_surest_18 : decode cX6_surest 18 = .ok (.iconst 1, 1) := dk_4 (dk_at dksX6_surest_0 18 rfl rfl)
theorem dX6_surest_19 : decode cX6_surest 19 = .ok (.invokevirtual 376, 3) := dk_182 1 120 (dk_at dksX6_surest_0 19 rfl rfl)
theorem dX6_surest_22 : decode cX6_surest 22 = .ok (.istore_n 1, 1) := dk_60 (dk_at dksX6_surest_0 22 rfl rfl)
theorem dX6_surest_23 : decode cX6_surest 23 = .ok (.iload_n 1, 1) := dk_27 (dk_at dksX6_surest_0 23 rfl rfl)
theorem dX6_surest_24 : decode cX6_surest 24 = .ok (.ldc_w 357, 3) := dk_19 1 101 (dk_at dksX6_surest_1 0 rfl rfl)
theorem dX6_surest_27 : decode cX6_surest 27 = .ok (.if_icmp .ne 7, 3) := dk_160 0 7 (dk_at dksX6_surest_1 3 rfl rfl)
theorem dX6_surest_30 : decode cX6_surest 30 = .ok (.iconst (-1), 1) := dk_2 (dk_at dksX6_surest_1 6 rfl rfl)
theorem dX6_surest_31 : decode cX6_surest 31 = .ok (.goto 8, 3) := dk_167 0 8 (dk_at dksX6_surest_1 7 rfl rfl)
theorem dX6_surest_34 : decode cX6_surest 34 = .ok (.iload_n 1, 1) := dk_27 (dk_at dksX6_surest_1 10 rfl rfl)
theorem dX6_surest_35 : decode cX6_surest 35 = .ok (.sipush 10000, 3) := dk_17 39 16 (dk_at dksX6_surest_1 11 rfl rfl)
theorem dX6_surest_38 : decode cX6_surest 38 = .ok (.idiv, 1) := dk_108 (dk_at dksX6_surest_1 14 rfl rfl)
theorem dX6_surest_39 : decode cX6_surest 39 = .ok (.ireturn, 1) := dk_172 (dk_at dksX6_surest_1 15 rfl rfl)

theorem okX6_surest : wOkV yX6_surest cX6_surest 2 (some .int) 0 := ⟨q1883, q1884, q145, q1885, by decide, by decide, by decide +kernel⟩
def fX6_surest (N : Nat)   (μ : wMem) : Option (Int32 × wMem) :=
  wLet (wSI μ 0 0 (0 : Int32)) fun μ1 => wBind (fX6_isFamily N   μ1) fun v4 μ3 => if v4 = 0 then some ((-2), μ3) else wBind (fX6_seeksNow N  0 0 1 μ3) fun v8 μ7 => if v8 = (2000000000 : Int32) then some ((-1), μ7) else some (v8 / (10000 : Int32), μ7)
set_option maxHeartbeats 4000000 in
set_option maxRecDepth 100000 in
theorem tX6_surest (l : Launch) {D : va_G} {E : List wCell} {q : Nat → Nat} {ca : wCA} (N : Nat)    (μ : wMem) (r0 : (Int32 × wMem)) (hf : fX6_surest N   μ = some r0) : wMi l yX6_surest cX6_surest 2 (some .int) ({ frames := 8, cells := 0, slots := 0, locals := 189 } : Room) D vwCl (spM ++ E) q ca [.ref (q 0)] μ r0 := by
  refine wMi_intro (by decide) (Nat.le_of_ble_eq_true rfl) ?_
  intro p e s m args below meth c A C
  unfold fX6_surest at hf
  refine wr_sub [(0, .ref (q 0))] [0] rfl ?_
  refine wr_aload_n 0 C dX6_surest_0 0 rfl rfl ?_
  refine wr_iconst 1 C dX6_surest_1 (v := 0) rfl ?_
  obtain ⟨μ1, eμ1, hf⟩ := o_let hf
  refine puspM_0_0_X6 2 C dX6_surest_2 eμ1 ?_
  refine wr_aload_n 5 C dX6_surest_5 0 rfl rfl ?_
  obtain ⟨v4, μ3, h2, hf⟩ := o_bind hf
  refine wr_Vi (kc1 := 0) (ks1 := 0) 6 [] C dX6_surest_6 (tX6_isFamily l N    μ1 (v4, μ3) h2) okX6_isFamily q1750 (b := 0) spM_0 rfl ⟨rfl, rfl, Nat.le_of_ble_eq_true rfl, Nat.le_of_ble_eq_true rfl, Nat.zero_le _, Nat.zero_le _⟩ (Nat.le_of_ble_eq_true rfl) rfl ?_
  refine wr_if_ne 9 15 C dX6_surest_9 (by decide) (fun c5 => ?_) (fun c5 => ?_)
  · replace hf := o_neg c5 hf
    refine wr_aload_n 15 C dX6_surest_15 0 rfl rfl ?_
    refine wr_iconst 16 C dX6_surest_16 (v := 0) rfl ?_
    refine wr_iconst 17 C dX6_surest_17 (v := 0) rfl ?_
    refine wr_iconst 18 C dX6_surest_18 (v := 1) rfl ?_
    obtain ⟨v8, μ7, h6, hf⟩ := o_bind hf
    refine wr_Vi (kc1 := 0) (ks1 := 0) 19 [] C dX6_surest_19 (tX6_seeksNow l N   0 0 1 μ3 (v8, μ7) h6) okX6_seeksNow q1837 (b := 0) spM_0 rfl ⟨rfl, rfl, Nat.le_of_ble_eq_true rfl, Nat.le_of_ble_eq_true rfl, Nat.zero_le _, Nat.zero_le _⟩ (Nat.le_of_ble_eq_true rfl) rfl ?_
    refine wr_istore_n 22 [(1, .int v8), (0, .ref (q 0))] C dX6_surest_22 rfl rfl (Nat.le_of_ble_eq_true rfl) rfl ?_
    refine wr_iload_n 23 C dX6_surest_23 0 rfl rfl ?_
    refine wr_ldcw 24 C dX6_surest_24 q1857 ?_
    refine wr_icmp_ne 27 34 C dX6_surest_27 (by decide) (fun c9 => ?_) (fun c9 => ?_)
    · replace hf := o_neg c9 hf
      refine wr_iload_n 34 C dX6_surest_34 0 rfl rfl ?_
      refine wr_sipush 35 C dX6_surest_35 (v := 10000) rfl ?_
      refine wr_idiv 38 C dX6_surest_38 (by decide) ?_
      exact wr_iret 39 C dX6_surest_39 ⟨Nat.zero_le _, Nat.zero_le _⟩ (Option.some.inj hf)
    · replace hf := o_pos c9 hf
      refine wr_iconst 30 C dX6_surest_30 (v := (-1)) rfl ?_
      refine wr_goto 31 C dX6_surest_31 (tgt := 39) (by decide) ?_
      exact wr_iret 39 C dX6_surest_39 ⟨Nat.zero_le _, Nat.zero_le _⟩ (Option.some.inj hf)
  · replace hf := o_pos c5 hf
    refine wr_bipush 12 C dX6_surest_12 (v := (-2)) rfl ?_
    exact wr_iret 14 C dX6_surest_14 ⟨Nat.zero_le _, Nat.zero_le _⟩ (Option.some.inj hf)
abbrev cX6_surely : ByteArray := prog_11_method_85_code
def yX6_surely : MethodName := ⟨RX6, "surely", "(I)I"⟩
def dkwX6_surely_2 : List UInt8 := [2, 172]
abbrev dktX6_surely_2 : List UInt8 := dkwX6_surely_2 ++ []
def dkwX6_surely_1 : List UInt8 := [133, 9, 42, 180, 1, 117, 4, 100, 133, 184, 0, 93, 153, 0, 12, 42, 180, 0, 66, 27, 46, 167, 0, 4]
abbrev dktX6_surely_1 : List UInt8 := dkwX6_surely_1 ++ dktX6_surely_2
def dkwX6_surely_0 : List UInt8 := [42, 3, 181, 0, 88, 42, 182, 1, 67, 154, 0, 6, 16, 254, 172, 42, 4, 182, 1, 126, 153, 0, 28, 27]
abbrev dktX6_surely_0 : List UInt8 := dkwX6_surely_0 ++ dktX6_surely_1
theorem dksX6_surely_0 : cX6_surely.data.toList.drop 0 = dktX6_surely_0 := by decide +kernel
theorem dksX6_surely_1 : cX6_surely.data.toList.drop 24 = dktX6_surely_1 := dk_seg dksX6_surely_0 24 rfl rfl
theorem dksX6_surely_2 : cX6_surely.data.toList.drop 48 = dktX6_surely_2 := dk_seg dksX6_surely_1 24 rfl rfl
theorem dX6_surely_0 : decode cX6_surely 0 = .ok (.aload_n 0, 1) := dk_42 (dk_at dksX6_surely_0 0 rfl rfl)
theorem dX6_surely_1 : decode cX6_surely 1 = .ok (.iconst 0, 1) := dk_3 (dk_at dksX6_surely_0 1 rfl rfl)
theorem dX6_surely_2 : decode cX6_surely 2 = .ok (.putfield 88, 3) := dk_181 0 88 (dk_at dksX6_surely_0 2 rfl rfl)
theorem dX6_surely_5 : decode cX6_surely 5 = .ok (.aload_n 0, 1) := dk_42 (dk_at dksX6_surely_0 5 rfl rfl)
theorem dX6_surely_6 : decode cX6_surely 6 = .ok (.invokevirtual 323, 3) := dk_182 1 67 (dk_at dksX6_surely_0 6 rfl rfl)
theorem dX6_surely_9 : decode cX6_surely 9 = .ok (.ifCond .ne 6, 3) := dk_154 0 6 (dk_at dksX6_surely_0 9 rfl rfl)
theorem dX6_surely_12 : decode cX6_surely 12 = .ok (.bipush (-2), 2) := dk_16 254 (dk_at dksX6_surely_0 12 rfl rfl)
theorem dX6_surely_14 : decode cX6_surely 14 = .ok (.ireturn, 1) := dk_172 (dk_at dksX6_surely_0 14 rfl rfl)
theorem dX6_surely_15 : decode cX6_surely 15 = .ok (.aload_n 0, 1) := dk_42 (dk_at dksX6_surely_0 15 rfl rfl)
theorem dX6_surely_16 : decode cX6_surely 16 = .ok (.iconst 1, 1) := dk_4 (dk_at dksX6_surely_0 16 rfl rfl)
theorem dX6_surely_17 : decode cX6_surely 17 = .ok (.invokevirtual 382, 3) := dk_182 1 126 (dk_at dksX6_surely_0 17 rfl rfl)
theorem dX6_surely_20 : decode cX6_surely 20 = .ok (.ifCond .eq 28, 3) := dk_153 0 28 (dk_at dksX6_surely_0 20 rfl rfl)
theorem dX6_surely_23 : decode cX6_surely 23 = .ok (.iload_n 1, 1) := dk_27 (dk_at dksX6_surely_0 23 rfl rfl)
theorem dX6_surely_24 : decode cX6_surely 24 = .ok (.i2l, 1) := dk_133 (dk_at dksX6_surely_1 0 rfl rfl)
theorem dX6_surely_25 : decode cX6_surely 25 = .ok (.lconst 0, 1) := dk_9 (dk_at dksX6_surely_1 1 rfl rfl)
theorem dX6_surely_26 : decode cX6_surely 26 = .ok (.aload_n 0, 1) := dk_42 (dk_at dksX6_surely_1 2 rfl rfl)
theorem dX6_surely_27 : decode cX6_surely 27 = .ok (.getfield 373, 3) := dk_180 1 117 (dk_at dksX6_surely_1 3 rfl rfl)
theorem dX6_surely_30 : decode cX6_surely 30 = .ok (.iconst 1, 1) := dk_4 (dk_at dksX6_surely_1 6 rfl rfl)
theorem dX6_surely_31 : decode cX6_surely 31 = .ok (.isub, 1) := dk_100 (dk_at dksX6_surely_1 7 rfl rfl)
theorem dX6_surely_32 : decode cX6_surely 32 = .ok (.i2l, 1) := dk_133 (dk_at dksX6_surely_1 8 rfl rfl)
theorem dX6_surely_33 : decode cX6_surely 33 = .ok (.invokestatic 93, 3) := dk_184 0 93 (dk_at dksX6_surely_1 9 rfl rfl)
theorem dX6_surely_36 : decode cX6_surely 36 = .ok (.ifCond .eq 12, 3) := dk_153 0 12 (dk_at dksX6_surely_1 12 rfl rfl)
theorem dX6_surely_39 : decode cX6_surely 39 = .ok (.aload_n 0, 1) := dk_42 (dk_at dksX6_surely_1 15 rfl rfl)
theorem dX6_surely_40 : decode cX6_surely 40 = .ok (.getfield 66, 3) := dk_180 0 66 (dk_at dksX6_surely_1 16 rfl rfl)
theorem dX6_surely_43 : decode cX6_surely 43 = .ok (.iload_n 1, 1) := dk_27 (dk_at dksX6_surely_1 19 rfl rfl)
theorem dX6_surely_44 : decode cX6_surely 44 = .ok (.iaload, 1) := dk_46 (dk_at dksX6_surely_1 20 rfl rfl)
theorem dX6_surely_45 : decode cX6_surely 45 = .ok (.goto 4, 3) := dk_167 0 4 (dk_at dksX6_surely_1 21 rfl rfl)
theorem dX6_surely_48 : decode cX6_surely 48 = .ok (.iconst (-1), 1) := dk_2 (dk_at dksX6_surely_2 0 rfl rfl)
theorem dX6_surely_49 : decode cX6_surely 49 = .ok (.ireturn, 1) := dk_172 (dk_at dksX6_surely_2 1 rfl rfl)

theorem okX6_surely : wOkV yX6_surely cX6_surely 2 (some .int) 1 := ⟨q1887, q1888, q145, q1889, by decide, by decide, by decide +kernel⟩
def fX6_surely (N : Nat)  (a1 : Int32) (μ : wMem) : Option (Int32 × wMem) :=
  wLet (wSI μ 0 0 (0 : Int32)) fun μ1 => wBind (fX6_isFamily N   μ1) fun v4 μ3 => if v4 = 0 then some ((-2), μ3) else wBind (fX6_isRow N  1 μ3) fun v8 μ7 => if v8 = 0 then some ((-1), μ7) else wBind (fX6_in N  (Int32.toInt64 a1) 0 (Int32.toInt64 ((μ7.1 0 40) - (1 : Int32))) μ7) fun v12 μ11 => if v12 = 0 then some ((-1), μ11) else wG (ok_in a1 400) (some (μ11.1 17 (Int32.toNatClampNeg a1), μ11))
set_option maxHeartbeats 4000000 in
set_option maxRecDepth 100000 in
theorem tX6_surely (l : Launch) {D : va_G} {E : List wCell} {q : Nat → Nat} {ca : wCA} (N : Nat)   (a1 : Int32) (μ : wMem) (r0 : (Int32 × wMem)) (hf : fX6_surely N  a1 μ = some r0) : wMi l yX6_surely cX6_surely 2 (some .int) ({ frames := 9, cells := 0, slots := 0, locals := 210 } : Room) D vwCl (spM ++ E) q ca [.ref (q 0), .int a1] μ r0 := by
  refine wMi_intro (by decide) (Nat.le_of_ble_eq_true rfl) ?_
  intro p e s m args below meth c A C
  unfold fX6_surely at hf
  refine wr_sub [(0, .ref (q 0)), (1, .int a1)] [0, 1] rfl ?_
  refine wr_aload_n 0 C dX6_surely_0 0 rfl rfl ?_
  refine wr_iconst 1 C dX6_surely_1 (v := 0) rfl ?_
  obtain ⟨μ1, eμ1, hf⟩ := o_let hf
  refine puspM_0_0_X6 2 C dX6_surely_2 eμ1 ?_
  refine wr_aload_n 5 C dX6_surely_5 0 rfl rfl ?_
  obtain ⟨v4, μ3, h2, hf⟩ := o_bind hf
  refine wr_Vi (kc1 := 0) (ks1 := 0) 6 [] C dX6_surely_6 (tX6_isFamily l N    μ1 (v4, μ3) h2) okX6_isFamily q1750 (b := 0) spM_0 rfl ⟨rfl, rfl, Nat.le_of_ble_eq_true rfl, Nat.le_of_ble_eq_true rfl, Nat.zero_le _, Nat.zero_le _⟩ (Nat.le_of_ble_eq_true rfl) rfl ?_
  refine wr_if_ne 9 15 C dX6_surely_9 (by decide) (fun c5 => ?_) (fun c5 => ?_)
  · replace hf := o_neg c5 hf
    refine wr_aload_n 15 C dX6_surely_15 0 rfl rfl ?_
    refine wr_iconst 16 C dX6_surely_16 (v := 1) rfl ?_
    obtain ⟨v8, μ7, h6, hf⟩ := o_bind hf
    refine wr_Vi (kc1 := 0) (ks1 := 0) 17 [] C dX6_surely_17 (tX6_isRow l N   1 μ3 (v8, μ7) h6) okX6_isRow q1874 (b := 0) spM_0 rfl ⟨rfl, rfl, Nat.le_of_ble_eq_true rfl, Nat.le_of_ble_eq_true rfl, Nat.zero_le _, Nat.zero_le _⟩ (Nat.le_of_ble_eq_true rfl) rfl ?_
    refine wr_if_eq 20 48 C dX6_surely_20 (by decide) (fun c9 => ?_) (fun c9 => ?_)
    · replace hf := o_pos c9 hf
      refine wr_iconst 48 C dX6_surely_48 (v := (-1)) rfl ?_
      exact wr_iret 49 C dX6_surely_49 ⟨Nat.zero_le _, Nat.zero_le _⟩ (Option.some.inj hf)
    · replace hf := o_neg c9 hf
      refine wr_iload_n 23 C dX6_surely_23 1 rfl rfl ?_
      refine wr_i2l 24 C dX6_surely_24 ?_
      refine wr_lconst 25 C dX6_surely_25 (v := 0) rfl ?_
      refine wr_aload_n 26 C dX6_surely_26 0 rfl rfl ?_
      refine gespM_0_40_X6 27 C dX6_surely_27 ?_
      refine wr_iconst 30 C dX6_surely_30 (v := 1) rfl ?_
      refine wr_isub 31 C dX6_surely_31 ?_
      refine wr_i2l 32 C dX6_surely_32 ?_
      obtain ⟨v12, μ11, h10, hf⟩ := o_bind hf
      refine wr_Si (kc1 := 0) (ks1 := 0) 33 [] C dX6_surely_33 (tX6_in l N   (Int32.toInt64 a1) 0 (Int32.toInt64 ((μ7.1 0 40) - (1 : Int32))) μ7 (v12, μ11) h10) okX6_in q1552 ⟨rfl, rfl, Nat.le_of_ble_eq_true rfl, Nat.le_of_ble_eq_true rfl, Nat.zero_le _, Nat.zero_le _⟩ (Nat.le_of_ble_eq_true rfl) rfl ?_
      refine wr_if_eq 36 48 C dX6_surely_36 (by decide) (fun c13 => ?_) (fun c13 => ?_)
      · replace hf := o_pos c13 hf
        refine wr_iconst 48 C dX6_surely_48 (v := (-1)) rfl ?_
        exact wr_iret 49 C dX6_surely_49 ⟨Nat.zero_le _, Nat.zero_le _⟩ (Option.some.inj hf)
      · replace hf := o_neg c13 hf
        refine wr_aload_n 39 C dX6_surely_39 0 rfl rfl ?_
        refine gespM_0_39_X6 40 C dX6_surely_40 ?_
        refine wr_iload_n 43 C dX6_surely_43 1 rfl rfl ?_
        obtain ⟨g14, hf⟩ := o_g hf
        refine wr_iald 44 C dX6_surely_44 spM_17 g14 ?_
        refine wr_goto 45 C dX6_surely_45 (tgt := 49) (by decide) ?_
        exact wr_iret 49 C dX6_surely_49 ⟨Nat.zero_le _, Nat.zero_le _⟩ (Option.some.inj hf)
  · replace hf := o_pos c5 hf
    refine wr_bipush 12 C dX6_surely_12 (v := (-2)) rfl ?_
    exact wr_iret 14 C dX6_surely_14 ⟨Nat.zero_le _, Nat.zero_le _⟩ (Option.some.inj hf)
abbrev cX6_slowly : ByteArray := prog_11_method_86_code
def yX6_slowly : MethodName := ⟨RX6, "slowly", "()I"⟩
def dkwX6_slowly_1 : List UInt8 := [19, 1, 101, 160, 0, 7, 2, 167, 0, 8, 27, 17, 39, 16, 112, 172]
abbrev dktX6_slowly_1 : List UInt8 := dkwX6_slowly_1 ++ []
def dkwX6_slowly_0 : List UInt8 := [42, 3, 181, 0, 88, 42, 182, 1, 67, 154, 0, 6, 16, 254, 172, 42, 3, 3, 4, 182, 1, 120, 60, 27]
abbrev dktX6_slowly_0 : List UInt8 := dkwX6_slowly_0 ++ dktX6_slowly_1
theorem dksX6_slowly_0 : cX6_slowly.data.toList.drop 0 = dktX6_slowly_0 := by decide +kernel
theorem dksX6_slowly_1 : cX6_slowly.data.toList.drop 24 = dktX6_slowly_1 := dk_seg dksX6_slowly_0 24 rfl rfl
theorem dX6_slowly_0 : decode cX6_slowly 0 = .ok (.aload_n 0, 1) := dk_42 (dk_at dksX6_slowly_0 0 rfl rfl)
theorem dX6_slowly_1 : decode cX6_slowly 1 = .ok (.iconst 0, 1) := dk_3 (dk_at dksX6_slowly_0 1 rfl rfl)
theorem dX6_slowly_2 : decode cX6_slowly 2 = .ok (.putfield 88, 3) := dk_181 0 88 (dk_at dksX6_slowly_0 2 rfl rfl)
theorem dX6_slowly_5 : decode cX6_slowly 5 = .ok (.aload_n 0, 1) := dk_42 (dk_at dksX6_slowly_0 5 rfl rfl)
theorem dX6_slowly_6 : decode cX6_slowly 6 = .ok (.invokevirtual 323, 3) := dk_182 1 67 (dk_at dksX6_slowly_0 6 rfl rfl)
theorem dX6_slowly_9 : decode cX6_slowly 9 = .ok (.ifCond .ne 6, 3) := dk_154 0 6 (dk_at dksX6_slowly_0 9 rfl rfl)
theorem dX6_slowly_12 : decode cX6_slowly 12 = .ok (.bipush (-2), 2) := dk_16 254 (dk_at dksX6_slowly_0 12 rfl rfl)
theorem dX6_slowly_14 : decode cX6_slowly 14 = .ok (.ireturn, 1) := dk_172 (dk_at dksX6_slowly_0 14 rfl rfl)
theorem dX6_slowly_15 : decode cX6_slowly 15 = .ok (.aload_n 0, 1) := dk_42 (dk_at dksX6_slowly_0 15 rfl rfl)
theorem dX6_slowly_16 : decode cX6_slowly 16 = .ok (.iconst 0, 1) := dk_3 (dk_at dksX6_slowly_0 16 rfl rfl)
theorem dX6_slowly_17 : decode cX6_slowly 17 = .ok (.iconst 0, 1) := dk_3 (dk_at dksX6_slowly_0 17 rfl rfl)
theorem dX6_slowly_18 : decode cX6_slowly 18 = .ok (.iconst 1, 1) := dk_4 (dk_at dksX6_slowly_0 18 rfl rfl)
theorem dX6_slowly_19 : decode cX6_slowly 19 = .ok (.invokevirtual 376, 3) := dk_182 1 120 (dk_at dksX6_slowly_0 19 rfl rfl)
theorem dX6_slowly_22 : decode cX6_slowly 22 = .ok (.istore_n 1, 1) := dk_60 (dk_at dksX6_slowly_0 22 rfl rfl)
theorem dX6_slowly_23 : decode cX6_slowly 23 = .ok (.iload_n 1, 1) := dk_27 (dk_at dksX6_slowly_0 23 rfl rfl)
theorem dX6_slowly_24 : decode cX6_slowly 24 = .ok (.ldc_w 357, 3) := dk_19 1 101 (dk_at dksX6_slowly_1 0 rfl rfl)
theorem dX6_slowly_27 : decode cX6_slowly 27 = .ok (.if_icmp .ne 7, 3) := dk_160 0 7 (dk_at dksX6_slowly_1 3 rfl rfl)
theorem dX6_slowly_30 : decode cX6_slowly 30 = .ok (.iconst (-1), 1) := dk_2 (dk_at dksX6_slowly_1 6 rfl rfl)
theorem dX6_slowly_31 : decode cX6_slowly 31 = .ok (.goto 8, 3) := dk_167 0 8 (dk_at dksX6_slowly_1 7 rfl rfl)
theorem dX6_slowly_34 : decode cX6_slowly 34 = .ok (.iload_n 1, 1) := dk_27 (dk_at dksX6_slowly_1 10 rfl rfl)
theorem dX6_slowly_35 : decode cX6_slowly 35 = .ok (.sipush 10000, 3) := dk_17 39 16 (dk_at dksX6_slowly_1 11 rfl rfl)
theorem dX6_slowly_38 : decode cX6_slowly 38 = .ok (.irem, 1) := dk_112 (dk_at dksX6_slowly_1 14 rfl rfl)
theorem dX6_slowly_39 : decode cX6_slowly 39 = .ok (.ireturn, 1) := dk_172 (dk_at dksX6_slowly_1 15 rfl rfl)

theorem okX6_slowly : wOkV yX6_slowly cX6_slowly 2 (some .int) 0 := ⟨q1891, q1892, q145, q1893, by decide, by decide, by decide +kernel⟩
def fX6_slowly (N : Nat)   (μ : wMem) : Option (Int32 × wMem) :=
  wLet (wSI μ 0 0 (0 : Int32)) fun μ1 => wBind (fX6_isFamily N   μ1) fun v4 μ3 => if v4 = 0 then some ((-2), μ3) else wBind (fX6_seeksNow N  0 0 1 μ3) fun v8 μ7 => if v8 = (2000000000 : Int32) then some ((-1), μ7) else some (v8 - v8 / (10000 : Int32) * (10000 : Int32), μ7)
set_option maxHeartbeats 4000000 in
set_option maxRecDepth 100000 in
theorem tX6_slowly (l : Launch) {D : va_G} {E : List wCell} {q : Nat → Nat} {ca : wCA} (N : Nat)    (μ : wMem) (r0 : (Int32 × wMem)) (hf : fX6_slowly N   μ = some r0) : wMi l yX6_slowly cX6_slowly 2 (some .int) ({ frames := 8, cells := 0, slots := 0, locals := 189 } : Room) D vwCl (spM ++ E) q ca [.ref (q 0)] μ r0 := by
  refine wMi_intro (by decide) (Nat.le_of_ble_eq_true rfl) ?_
  intro p e s m args below meth c A C
  unfold fX6_slowly at hf
  refine wr_sub [(0, .ref (q 0))] [0] rfl ?_
  refine wr_aload_n 0 C dX6_slowly_0 0 rfl rfl ?_
  refine wr_iconst 1 C dX6_slowly_1 (v := 0) rfl ?_
  obtain ⟨μ1, eμ1, hf⟩ := o_let hf
  refine puspM_0_0_X6 2 C dX6_slowly_2 eμ1 ?_
  refine wr_aload_n 5 C dX6_slowly_5 0 rfl rfl ?_
  obtain ⟨v4, μ3, h2, hf⟩ := o_bind hf
  refine wr_Vi (kc1 := 0) (ks1 := 0) 6 [] C dX6_slowly_6 (tX6_isFamily l N    μ1 (v4, μ3) h2) okX6_isFamily q1750 (b := 0) spM_0 rfl ⟨rfl, rfl, Nat.le_of_ble_eq_true rfl, Nat.le_of_ble_eq_true rfl, Nat.zero_le _, Nat.zero_le _⟩ (Nat.le_of_ble_eq_true rfl) rfl ?_
  refine wr_if_ne 9 15 C dX6_slowly_9 (by decide) (fun c5 => ?_) (fun c5 => ?_)
  · replace hf := o_neg c5 hf
    refine wr_aload_n 15 C dX6_slowly_15 0 rfl rfl ?_
    refine wr_iconst 16 C dX6_slowly_16 (v := 0) rfl ?_
    refine wr_iconst 17 C dX6_slowly_17 (v := 0) rfl ?_
    refine wr_iconst 18 C dX6_slowly_18 (v := 1) rfl ?_
    obtain ⟨v8, μ7, h6, hf⟩ := o_bind hf
    refine wr_Vi (kc1 := 0) (ks1 := 0) 19 [] C dX6_slowly_19 (tX6_seeksNow l N   0 0 1 μ3 (v8, μ7) h6) okX6_seeksNow q1837 (b := 0) spM_0 rfl ⟨rfl, rfl, Nat.le_of_ble_eq_true rfl, Nat.le_of_ble_eq_true rfl, Nat.zero_le _, Nat.zero_le _⟩ (Nat.le_of_ble_eq_true rfl) rfl ?_
    refine wr_istore_n 22 [(1, .int v8), (0, .ref (q 0))] C dX6_slowly_22 rfl rfl (Nat.le_of_ble_eq_true rfl) rfl ?_
    refine wr_iload_n 23 C dX6_slowly_23 0 rfl rfl ?_
    refine wr_ldcw 24 C dX6_slowly_24 q1857 ?_
    refine wr_icmp_ne 27 34 C dX6_slowly_27 (by decide) (fun c9 => ?_) (fun c9 => ?_)
    · replace hf := o_neg c9 hf
      refine wr_iload_n 34 C dX6_slowly_34 0 rfl rfl ?_
      refine wr_sipush 35 C dX6_slowly_35 (v := 10000) rfl ?_
      refine wr_irem 38 C dX6_slowly_38 (by decide) ?_
      exact wr_iret 39 C dX6_slowly_39 ⟨Nat.zero_le _, Nat.zero_le _⟩ (Option.some.inj hf)
    · replace hf := o_pos c9 hf
      refine wr_iconst 30 C dX6_slowly_30 (v := (-1)) rfl ?_
      refine wr_goto 31 C dX6_slowly_31 (tgt := 39) (by decide) ?_
      exact wr_iret 39 C dX6_slowly_39 ⟨Nat.zero_le _, Nat.zero_le _⟩ (Option.some.inj hf)
  · replace hf := o_pos c5 hf
    refine wr_bipush 12 C dX6_slowly_12 (v := (-2)) rfl ?_
    exact wr_iret 14 C dX6_slowly_14 ⟨Nat.zero_le _, Nat.zero_le _⟩ (Option.some.inj hf)
abbrev cX6_crossings : ByteArray := prog_11_method_87_code
def yX6_crossings : MethodName := ⟨RX6, "crossings", "()I"⟩
def dkwX6_crossings_1 : List UInt8 := [19, 1, 101, 160, 0, 7, 2, 167, 0, 8, 27, 17, 39, 16, 108, 172]
abbrev dktX6_crossings_1 : List UInt8 := dkwX6_crossings_1 ++ []
def dkwX6_crossings_0 : List UInt8 := [42, 3, 181, 0, 88, 42, 182, 1, 67, 154, 0, 6, 16, 254, 172, 42, 3, 3, 5, 182, 1, 120, 60, 27]
abbrev dktX6_crossings_0 : List UInt8 := dkwX6_crossings_0 ++ dktX6_crossings_1
theorem dksX6_crossings_0 : cX6_crossings.data.toList.drop 0 = dktX6_crossings_0 := by decide +kernel
theorem dksX6_crossings_1 : cX6_crossings.data.toList.drop 24 = dktX6_crossings_1 := dk_seg dksX6_crossings_0 24 rfl rfl
theorem dX6_crossings_0 : decode cX6_crossings 0 = .ok (.aload_n 0, 1) := dk_42 (dk_at dksX6_crossings_0 0 rfl rfl)
theorem dX6_crossings_1 : decode cX6_crossings 1 = .ok (.iconst 0, 1) := dk_3 (dk_at dksX6_crossings_0 1 rfl rfl)
theorem dX6_crossings_2 : decode cX6_crossings 2 = .ok (.putfield 88, 3) := dk_181 0 88 (dk_at dksX6_crossings_0 2 rfl rfl)
theorem dX6_crossings_5 : decode cX6_crossings 5 = .ok (.aload_n 0, 1) := dk_42 (dk_at dksX6_crossings_0 5 rfl rfl)
theorem dX6_crossings_6 : decode cX6_crossings 6 = .ok (.invokevirtual 323, 3) := dk_182 1 67 (dk_at dksX6_crossings_0 6 rfl rfl)
theorem dX6_crossings_9 : decode cX6_crossings 9 = .ok (.ifCond .ne 6, 3) := dk_154 0 6 (dk_at dksX6_crossings_0 9 rfl rfl)
theorem dX6_crossings_12 : decode cX6_crossings 12 = .ok (.bipush (-2), 2) := dk_16 254 (dk_at dksX6_crossings_0 12 rfl rfl)
theorem dX6_crossings_14 : decode cX6_crossings 14 = .ok (.ireturn, 1) := dk_172 (dk_at dksX6_crossings_0 14 rfl rfl)
theorem dX6_crossings_15 : decode cX6_crossings 15 = .ok (.aload_n 0, 1) := dk_42 (dk_at dksX6_crossings_0 15 rfl rfl)
theorem dX6_crossings_16 : decode cX6_crossings 16 = .ok (.iconst 0, 1) := dk_3 (dk_at dksX6_crossings_0 16 rfl rfl)
theorem dX6_crossings_17 : decode cX6_crossings 17 = .ok (.iconst 0, 1) := dk_3 (dk_at dksX6_crossings_0 17 rfl rfl)
theorem dX6_crossings_18 : decode cX6_crossings 18 = .ok (.iconst 2, 1) := dk_5 (dk_at dksX6_crossings_0 18 rfl rfl)
theorem dX6_crossings_19 : decode cX6_crossings 19 = .ok (.invokevirtual 376, 3) := dk_182 1 120 (dk_at dksX6_crossings_0 19 rfl rfl)
theorem dX6_crossings_22 : decode cX6_crossings 22 = .ok (.istore_n 1, 1) := dk_60 (dk_at dksX6_crossings_0 22 rfl rfl)
theorem dX6_crossings_23 : decode cX6_crossings 23 = .ok (.iload_n 1, 1) := dk_27 (dk_at dksX6_crossings_0 23 rfl rfl)
theorem dX6_crossings_24 : decode cX6_crossings 24 = .ok (.ldc_w 357, 3) := dk_19 1 101 (dk_at dksX6_crossings_1 0 rfl rfl)
theorem dX6_crossings_27 : decode cX6_crossings 27 = .ok (.if_icmp .ne 7, 3) := dk_160 0 7 (dk_at dksX6_crossings_1 3 rfl rfl)
theorem dX6_crossings_30 : decode cX6_crossings 30 = .ok (.iconst (-1), 1) := dk_2 (dk_at dksX6_crossings_1 6 rfl rfl)
theorem dX6_crossings_31 : decode cX6_crossings 31 = .ok (.goto 8, 3) := dk_167 0 8 (dk_at dksX6_crossings_1 7 rfl rfl)
theorem dX6_crossings_34 : decode cX6_crossings 34 = .ok (.iload_n 1, 1) := dk_27 (dk_at dksX6_crossings_1 10 rfl rfl)
theorem dX6_crossings_35 : decode cX6_crossings 35 = .ok (.sipush 10000, 3) := dk_17 39 16 (dk_at dksX6_crossings_1 11 rfl rfl)
theorem dX6_crossings_38 : decode cX6_crossings 38 = .ok (.idiv, 1) := dk_108 (dk_at dksX6_crossings_1 14 rfl rfl)
theorem dX6_crossings_39 : decode cX6_crossings 39 = .ok (.ireturn, 1) := dk_172 (dk_at dksX6_crossings_1 15 rfl rfl)

theorem okX6_crossings : wOkV yX6_crossings cX6_crossings 2 (some .int) 0 := ⟨q1895, q1896, q145, q1897, by decide, by decide, by decide +kernel⟩
def fX6_crossings (N : Nat)   (μ : wMem) : Option (Int32 × wMem) :=
  wLet (wSI μ 0 0 (0 : Int32)) fun μ1 => wBind (fX6_isFamily N   μ1) fun v4 μ3 => if v4 = 0 then some ((-2), μ3) else wBind (fX6_seeksNow N  0 0 2 μ3) fun v8 μ7 => if v8 = (2000000000 : Int32) then some ((-1), μ7) else some (v8 / (10000 : Int32), μ7)
set_option maxHeartbeats 4000000 in
set_option maxRecDepth 100000 in
theorem tX6_crossings (l : Launch) {D : va_G} {E : List wCell} {q : Nat → Nat} {ca : wCA} (N : Nat)    (μ : wMem) (r0 : (Int32 × wMem)) (hf : fX6_crossings N   μ = some r0) : wMi l yX6_crossings cX6_crossings 2 (some .int) ({ frames := 8, cells := 0, slots := 0, locals := 189 } : Room) D vwCl (spM ++ E) q ca [.ref (q 0)] μ r0 := by
  refine wMi_intro (by decide) (Nat.le_of_ble_eq_true rfl) ?_
  intro p e s m args below meth c A C
  unfold fX6_crossings at hf
  refine wr_sub [(0, .ref (q 0))] [0] rfl ?_
  refine wr_aload_n 0 C dX6_crossings_0 0 rfl rfl ?_
  refine wr_iconst 1 C dX6_crossings_1 (v := 0) rfl ?_
  obtain ⟨μ1, eμ1, hf⟩ := o_let hf
  refine puspM_0_0_X6 2 C dX6_crossings_2 eμ1 ?_
  refine wr_aload_n 5 C dX6_crossings_5 0 rfl rfl ?_
  obtain ⟨v4, μ3, h2, hf⟩ := o_bind hf
  refine wr_Vi (kc1 := 0) (ks1 := 0) 6 [] C dX6_crossings_6 (tX6_isFamily l N    μ1 (v4, μ3) h2) okX6_isFamily q1750 (b := 0) spM_0 rfl ⟨rfl, rfl, Nat.le_of_ble_eq_true rfl, Nat.le_of_ble_eq_true rfl, Nat.zero_le _, Nat.zero_le _⟩ (Nat.le_of_ble_eq_true rfl) rfl ?_
  refine wr_if_ne 9 15 C dX6_crossings_9 (by decide) (fun c5 => ?_) (fun c5 => ?_)
  · replace hf := o_neg c5 hf
    refine wr_aload_n 15 C dX6_crossings_15 0 rfl rfl ?_
    refine wr_iconst 16 C dX6_crossings_16 (v := 0) rfl ?_
    refine wr_iconst 17 C dX6_crossings_17 (v := 0) rfl ?_
    refine wr_iconst 18 C dX6_crossings_18 (v := 2) rfl ?_
    obtain ⟨v8, μ7, h6, hf⟩ := o_bind hf
    refine wr_Vi (kc1 := 0) (ks1 := 0) 19 [] C dX6_crossings_19 (tX6_seeksNow l N   0 0 2 μ3 (v8, μ7) h6) okX6_seeksNow q1837 (b := 0) spM_0 rfl ⟨rfl, rfl, Nat.le_of_ble_eq_true rfl, Nat.le_of_ble_eq_true rfl, Nat.zero_le _, Nat.zero_le _⟩ (Nat.le_of_ble_eq_true rfl) rfl ?_
    refine wr_istore_n 22 [(1, .int v8), (0, .ref (q 0))] C dX6_crossings_22 rfl rfl (Nat.le_of_ble_eq_true rfl) rfl ?_
    refine wr_iload_n 23 C dX6_crossings_23 0 rfl rfl ?_
    refine wr_ldcw 24 C dX6_crossings_24 q1857 ?_
    refine wr_icmp_ne 27 34 C dX6_crossings_27 (by decide) (fun c9 => ?_) (fun c9 => ?_)
    · replace hf := o_neg c9 hf
      refine wr_iload_n 34 C dX6_crossings_34 0 rfl rfl ?_
      refine wr_sipush 35 C dX6_crossings_35 (v := 10000) rfl ?_
      refine wr_idiv 38 C dX6_crossings_38 (by decide) ?_
      exact wr_iret 39 C dX6_crossings_39 ⟨Nat.zero_le _, Nat.zero_le _⟩ (Option.some.inj hf)
    · replace hf := o_pos c9 hf
      refine wr_iconst 30 C dX6_crossings_30 (v := (-1)) rfl ?_
      refine wr_goto 31 C dX6_crossings_31 (tgt := 39) (by decide) ?_
      exact wr_iret 39 C dX6_crossings_39 ⟨Nat.zero_le _, Nat.zero_le _⟩ (Option.some.inj hf)
  · replace hf := o_pos c5 hf
    refine wr_bipush 12 C dX6_crossings_12 (v := (-2)) rfl ?_
    exact wr_iret 14 C dX6_crossings_14 ⟨Nat.zero_le _, Nat.zero_le _⟩ (Option.some.inj hf)
abbrev cX6_moves : ByteArray := prog_11_method_88_code
def yX6_moves : MethodName := ⟨RX6, "moves", "()I"⟩
def dkwX6_moves_1 : List UInt8 := [19, 1, 101, 160, 0, 7, 2, 167, 0, 8, 27, 17, 39, 16, 112, 172]
abbrev dktX6_moves_1 : List UInt8 := dkwX6_moves_1 ++ []
def dkwX6_moves_0 : List UInt8 := [42, 3, 181, 0, 88, 42, 182, 1, 67, 154, 0, 6, 16, 254, 172, 42, 3, 3, 5, 182, 1, 120, 60, 27]
abbrev dktX6_moves_0 : List UInt8 := dkwX6_moves_0 ++ dktX6_moves_1
theorem dksX6_moves_0 : cX6_moves.data.toList.drop 0 = dktX6_moves_0 := by decide +kernel
theorem dksX6_moves_1 : cX6_moves.data.toList.drop 24 = dktX6_moves_1 := dk_seg dksX6_moves_0 24 rfl rfl
theorem dX6_moves_0 : decode cX6_moves 0 = .ok (.aload_n 0, 1) := dk_42 (dk_at dksX6_moves_0 0 rfl rfl)
theorem dX6_moves_1 : decode cX6_moves 1 = .ok (.iconst 0, 1) := dk_3 (dk_at dksX6_moves_0 1 rfl rfl)
theorem dX6_moves_2 : decode cX6_moves 2 = .ok (.putfield 88, 3) := dk_181 0 88 (dk_at dksX6_moves_0 2 rfl rfl)
theorem dX6_moves_5 : decode cX6_moves 5 = .ok (.aload_n 0, 1) := dk_42 (dk_at dksX6_moves_0 5 rfl rfl)
theorem dX6_moves_6 : decode cX6_moves 6 = .ok (.invokevirtual 323, 3) := dk_182 1 67 (dk_at dksX6_moves_0 6 rfl rfl)
theorem dX6_moves_9 : decode cX6_moves 9 = .ok (.ifCond .ne 6, 3) := dk_154 0 6 (dk_at dksX6_moves_0 9 rfl rfl)
theorem dX6_moves_12 : decode cX6_moves 12 = .ok (.bipush (-2), 2) := dk_16 254 (dk_at dksX6_moves_0 12 rfl rfl)
theorem dX6_moves_14 : decode cX6_moves 14 = .ok (.ireturn, 1) := dk_172 (dk_at dksX6_moves_0 14 rfl rfl)
theorem dX6_moves_15 : decode cX6_moves 15 = .ok (.aload_n 0, 1) := dk_42 (dk_at dksX6_moves_0 15 rfl rfl)
theorem dX6_moves_16 : decode cX6_moves 16 = .ok (.iconst 0, 1) := dk_3 (dk_at dksX6_moves_0 16 rfl rfl)
theorem dX6_moves_17 : decode cX6_moves 17 = .ok (.iconst 0, 1) := dk_3 (dk_at dksX6_moves_0 17 rfl rfl)
theorem dX6_moves_18 : decode cX6_moves 18 = .ok (.iconst 2, 1) := dk_5 (dk_at dksX6_moves_0 18 rfl rfl)
theorem dX6_moves_19 : decode cX6_moves 19 = .ok (.invokevirtual 376, 3) := dk_182 1 120 (dk_at dksX6_moves_0 19 rfl rfl)
theorem dX6_moves_22 : decode cX6_moves 22 = .ok (.istore_n 1, 1) := dk_60 (dk_at dksX6_moves_0 22 rfl rfl)
theorem dX6_moves_23 : decode cX6_moves 23 = .ok (.iload_n 1, 1) := dk_27 (dk_at dksX6_moves_0 23 rfl rfl)
theorem dX6_moves_24 : decode cX6_moves 24 = .ok (.ldc_w 357, 3) := dk_19 1 101 (dk_at dksX6_moves_1 0 rfl rfl)
theorem dX6_moves_27 : decode cX6_moves 27 = .ok (.if_icmp .ne 7, 3) := dk_160 0 7 (dk_at dksX6_moves_1 3 rfl rfl)
theorem dX6_moves_30 : decode cX6_moves 30 = .ok (.iconst (-1), 1) := dk_2 (dk_at dksX6_moves_1 6 rfl rfl)
theorem dX6_moves_31 : decode cX6_moves 31 = .ok (.goto 8, 3) := dk_167 0 8 (dk_at dksX6_moves_1 7 rfl rfl)
theorem dX6_moves_34 : decode cX6_moves 34 = .ok (.iload_n 1, 1) := dk_27 (dk_at dksX6_moves_1 10 rfl rfl)
theorem dX6_moves_35 : decode cX6_moves 35 = .ok (.sipush 10000, 3) := dk_17 39 16 (dk_at dksX6_moves_1 11 rfl rfl)
theorem dX6_moves_38 : decode cX6_moves 38 = .ok (.irem, 1) := dk_112 (dk_at dksX6_moves_1 14 rfl rfl)
theorem dX6_moves_39 : decode cX6_moves 39 = .ok (.ireturn, 1) := dk_172 (dk_at dksX6_moves_1 15 rfl rfl)

theorem okX6_moves : wOkV yX6_moves cX6_moves 2 (some .int) 0 := ⟨q1899, q1900, q145, q1901, by decide, by decide, by decide +kernel⟩
def fX6_moves (N : Nat)   (μ : wMem) : Option (Int32 × wMem) :=
  wLet (wSI μ 0 0 (0 : Int32)) fun μ1 => wBind (fX6_isFamily N   μ1) fun v4 μ3 => if v4 = 0 then some ((-2), μ3) else wBind (fX6_seeksNow N  0 0 2 μ3) fun v8 μ7 => if v8 = (2000000000 : Int32) then some ((-1), μ7) else some (v8 - v8 / (10000 : Int32) * (10000 : Int32), μ7)
set_option maxHeartbeats 4000000 in
set_option maxRecDepth 100000 in
theorem tX6_moves (l : Launch) {D : va_G} {E : List wCell} {q : Nat → Nat} {ca : wCA} (N : Nat)    (μ : wMem) (r0 : (Int32 × wMem)) (hf : fX6_moves N   μ = some r0) : wMi l yX6_moves cX6_moves 2 (some .int) ({ frames := 8, cells := 0, slots := 0, locals := 189 } : Room) D vwCl (spM ++ E) q ca [.ref (q 0)] μ r0 := by
  refine wMi_intro (by decide) (Nat.le_of_ble_eq_true rfl) ?_
  intro p e s m args below meth c A C
  unfold fX6_moves at hf
  refine wr_sub [(0, .ref (q 0))] [0] rfl ?_
  refine wr_aload_n 0 C dX6_moves_0 0 rfl rfl ?_
  refine wr_iconst 1 C dX6_moves_1 (v := 0) rfl ?_
  obtain ⟨μ1, eμ1, hf⟩ := o_let hf
  refine puspM_0_0_X6 2 C dX6_moves_2 eμ1 ?_
  refine wr_aload_n 5 C dX6_moves_5 0 rfl rfl ?_
  obtain ⟨v4, μ3, h2, hf⟩ := o_bind hf
  refine wr_Vi (kc1 := 0) (ks1 := 0) 6 [] C dX6_moves_6 (tX6_isFamily l N    μ1 (v4, μ3) h2) okX6_isFamily q1750 (b := 0) spM_0 rfl ⟨rfl, rfl, Nat.le_of_ble_eq_true rfl, Nat.le_of_ble_eq_true rfl, Nat.zero_le _, Nat.zero_le _⟩ (Nat.le_of_ble_eq_true rfl) rfl ?_
  refine wr_if_ne 9 15 C dX6_moves_9 (by decide) (fun c5 => ?_) (fun c5 => ?_)
  · replace hf := o_neg c5 hf
    refine wr_aload_n 15 C dX6_moves_15 0 rfl rfl ?_
    refine wr_iconst 16 C dX6_moves_16 (v := 0) rfl ?_
    refine wr_iconst 17 C dX6_moves_17 (v := 0) rfl ?_
    refine wr_iconst 18 C dX6_moves_18 (v := 2) rfl ?_
    obtain ⟨v8, μ7, h6, hf⟩ := o_bind hf
    refine wr_Vi (kc1 := 0) (ks1 := 0) 19 [] C dX6_moves_19 (tX6_seeksNow l N   0 0 2 μ3 (v8, μ7) h6) okX6_seeksNow q1837 (b := 0) spM_0 rfl ⟨rfl, rfl, Nat.le_of_ble_eq_true rfl, Nat.le_of_ble_eq_true rfl, Nat.zero_le _, Nat.zero_le _⟩ (Nat.le_of_ble_eq_true rfl) rfl ?_
    refine wr_istore_n 22 [(1, .int v8), (0, .ref (q 0))] C dX6_moves_22 rfl rfl (Nat.le_of_ble_eq_true rfl) rfl ?_
    refine wr_iload_n 23 C dX6_moves_23 0 rfl rfl ?_
    refine wr_ldcw 24 C dX6_moves_24 q1857 ?_
    refine wr_icmp_ne 27 34 C dX6_moves_27 (by decide) (fun c9 => ?_) (fun c9 => ?_)
    · replace hf := o_neg c9 hf
      refine wr_iload_n 34 C dX6_moves_34 0 rfl rfl ?_
      refine wr_sipush 35 C dX6_moves_35 (v := 10000) rfl ?_
      refine wr_irem 38 C dX6_moves_38 (by decide) ?_
      exact wr_iret 39 C dX6_moves_39 ⟨Nat.zero_le _, Nat.zero_le _⟩ (Option.some.inj hf)
    · replace hf := o_pos c9 hf
      refine wr_iconst 30 C dX6_moves_30 (v := (-1)) rfl ?_
      refine wr_goto 31 C dX6_moves_31 (tgt := 39) (by decide) ?_
      exact wr_iret 39 C dX6_moves_39 ⟨Nat.zero_le _, Nat.zero_le _⟩ (Option.some.inj hf)
  · replace hf := o_pos c5 hf
    refine wr_bipush 12 C dX6_moves_12 (v := (-2)) rfl ?_
    exact wr_iret 14 C dX6_moves_14 ⟨Nat.zero_le _, Nat.zero_le _⟩ (Option.some.inj hf)
abbrev cX6_common : ByteArray := prog_11_method_89_code
def yX6_common : MethodName := ⟨RX6, "common", "(JJ)J"⟩
def dkwX6_common_0 : List UInt8 := [32, 9, 148, 154, 0, 7, 30, 167, 0, 10, 32, 30, 32, 113, 184, 1, 129, 173]
abbrev dktX6_common_0 : List UInt8 := dkwX6_common_0 ++ []
theorem dksX6_common_0 : cX6_common.data.toList.drop 0 = dktX6_common_0 := by decide +kernel
theorem dX6_common_0 : decode cX6_common 0 = .ok (.lload_n 2, 1) := dk_32 (dk_at dksX6_common_0 0 rfl rfl)
theorem dX6_common_1 : decode cX6_common 1 = .ok (.lconst 0, 1) := dk_9 (dk_at dksX6_common_0 1 rfl rfl)
theorem dX6_common_2 : decode cX6_common 2 = .ok (.lcmp, 1) := dk_148 (dk_at dksX6_common_0 2 rfl rfl)
theorem dX6_common_3 : decode cX6_common 3 = .ok (.ifCond .ne 7, 3) := dk_154 0 7 (dk_at dksX6_common_0 3 rfl rfl)
theorem dX6_common_6 : decode cX6_common 6 = .ok (.lload_n 0, 1) := dk_30 (dk_at dksX6_common_0 6 rfl rfl)
theorem dX6_common_7 : decode cX6_common 7 = .ok (.goto 10, 3) := dk_167 0 10 (dk_at dksX6_common_0 7 rfl rfl)
theorem dX6_common_10 : decode cX6_common 10 = .ok (.lload_n 2, 1) := dk_32 (dk_at dksX6_common_0 10 rfl rfl)
theorem dX6_common_11 : decode cX6_common 11 = .ok (.lload_n 0, 1) := dk_30 (dk_at dksX6_common_0 11 rfl rfl)
theorem dX6_common_12 : decode cX6_common 12 = .ok (.lload_n 2, 1) := dk_32 (dk_at dksX6_common_0 12 rfl rfl)
theorem dX6_common_13 : decode cX6_common 13 = .ok (.lrem, 1) := dk_113 (dk_at dksX6_common_0 13 rfl rfl)
theorem dX6_common_14 : decode cX6_common 14 = .ok (.invokestatic 385, 3) := dk_184 1 129 (dk_at dksX6_common_0 14 rfl rfl)
theorem dX6_common_17 : decode cX6_common 17 = .ok (.lreturn, 1) := dk_173 (dk_at dksX6_common_0 17 rfl rfl)

theorem okX6_common : wOkS yX6_common cX6_common 4 (some .long) 2 := ⟨q1908, q145, q1909, by decide, by decide, by decide +kernel⟩
def fbX6_common (N : Nat) (recF : (Int64 → Int64 → wMem → Option (Int64 × wMem))) (a0 : Int64) (a2 : Int64) (μ : wMem) : Option (Int64 × wMem) :=
  if a2 = (0 : Int64) then some (a0, μ) else wG (ok_nzL a2) (wBind (recF a2 (a0 - a0 / a2 * a2) μ) fun v5 μ4 => some (v5, μ4))
def fX6_common (N : Nat) : Nat → (Int64 → Int64 → wMem → Option (Int64 × wMem))
  | 0 => fun _ _ _ => none
  | d + 1 => fbX6_common N (fX6_common N d)
set_option maxHeartbeats 4000000 in
set_option maxRecDepth 100000 in
theorem tX6_common (l : Launch) {D : va_G} {E : List wCell} {q : Nat → Nat} {ca : wCA} (N : Nat) : ∀ (d : Nat) (a0 : Int64) (a2 : Int64) (μ : wMem) (r0 : (Int64 × wMem)), fX6_common N d a0 a2 μ = some r0 → wMl l yX6_common cX6_common 4 (some .long) ({ frames := d + 0, cells := 0, slots := 0, locals := d * 23 + 0 } : Room) D vwCl (spM ++ E) q ca [.long a0, .long a2] μ r0 := by
  intro d
  induction d with
  | zero =>
    intro a0 a2 μ r0 hf
    cases hf
  | succ d hrec =>
  intro a0 a2 μ r0 hf
  replace hf : fbX6_common N (fX6_common N d) a0 a2 μ = some r0 := hf
  refine wMl_intro (by decide) (Nat.le_of_ble_eq_true rfl) ?_
  intro p e s m args below meth c A C
  unfold fbX6_common at hf
  refine wr_sub [(0, .long a0), (2, .long a2)] [0, 1] rfl ?_
  refine wr_lload_n 0 C dX6_common_0 1 rfl rfl ?_
  refine wr_lconst 1 C dX6_common_1 (v := 0) rfl ?_
  refine wr_lcmp_ne 2 10 C dX6_common_2 dX6_common_3 (by decide) (fun c1 => ?_) (fun c1 => ?_)
  · replace hf := o_neg c1 hf
    refine wr_lload_n 10 C dX6_common_10 1 rfl rfl ?_
    refine wr_lload_n 11 C dX6_common_11 0 rfl rfl ?_
    refine wr_lload_n 12 C dX6_common_12 1 rfl rfl ?_
    obtain ⟨g2, hf⟩ := o_g hf
    refine wr_lrem 13 C dX6_common_13 (ok_nzL_ne g2) ?_
    obtain ⟨v5, μ4, h3, hf⟩ := o_bind hf
    refine wr_Sl (kc1 := 0) (ks1 := 0) 14 [] C dX6_common_14 (hrec a2 (a0 - a0 / a2 * a2) μ (v5, μ4) h3) okX6_common q1907 ⟨rfl, rfl, by dsimp only; omega, by dsimp only; omega, Nat.zero_le _, Nat.zero_le _⟩ (Nat.le_of_ble_eq_true rfl) rfl ?_
    exact wr_lret 17 C dX6_common_17 ⟨Nat.zero_le _, Nat.zero_le _⟩ (Option.some.inj hf)
  · replace hf := o_pos c1 hf
    refine wr_lload_n 6 C dX6_common_6 0 rfl rfl ?_
    refine wr_goto 7 C dX6_common_7 (tgt := 17) (by decide) ?_
    exact wr_lret 17 C dX6_common_17 ⟨Nat.zero_le _, Nat.zero_le _⟩ (Option.some.inj hf)
abbrev cX6_chance : ByteArray := prog_11_method_90_code
def yX6_chance : MethodName := ⟨RX6, "chance", "(I)J"⟩
def dkwX6_chance_7 : List UInt8 := [132, 7, 1, 167, 255, 189, 27, 154, 0, 7, 32, 167, 0, 5, 22, 4, 32, 22, 4, 184, 1, 129, 109, 173]
abbrev dktX6_chance_7 : List UInt8 := dkwX6_chance_7 ++ []
def dkwX6_chance_6 : List UInt8 := [180, 0, 66, 21, 7, 46, 16, 100, 108, 182, 1, 44, 100, 133, 105, 65, 22, 4, 20, 1, 14, 105, 55, 4]
abbrev dktX6_chance_6 : List UInt8 := dkwX6_chance_6 ++ dktX6_chance_7
def dkwX6_chance_5 : List UInt8 := [17, 0, 200, 160, 0, 6, 167, 0, 42, 32, 16, 100, 42, 42, 180, 0, 66, 21, 7, 46, 16, 10, 112, 42]
abbrev dktX6_chance_5 : List UInt8 := dkwX6_chance_5 ++ dktX6_chance_6
def dkwX6_chance_4 : List UInt8 := [20, 0, 132, 173, 3, 54, 7, 21, 7, 42, 180, 1, 117, 162, 0, 64, 42, 180, 0, 66, 21, 7, 46]
abbrev dktX6_chance_4 : List UInt8 := dkwX6_chance_4 ++ dktX6_chance_5
def dkwX6_chance_3 : List UInt8 := [160, 0, 7, 3, 167, 0, 4, 4, 96, 54, 6, 132, 7, 1, 167, 255, 221, 21, 6, 16, 9, 164, 0, 7]
abbrev dktX6_chance_3 : List UInt8 := dkwX6_chance_3 ++ dktX6_chance_4
def dkwX6_chance_2 : List UInt8 := [3, 54, 7, 21, 7, 42, 180, 1, 117, 162, 0, 32, 21, 6, 42, 180, 0, 66, 21, 7, 46, 17, 0, 200]
abbrev dktX6_chance_2 : List UInt8 := dkwX6_chance_2 ++ dktX6_chance_3
def dkwX6_chance_1 : List UInt8 := [20, 1, 133, 173, 42, 4, 182, 1, 126, 154, 0, 7, 20, 0, 132, 173, 10, 65, 10, 55, 4, 3, 54, 6]
abbrev dktX6_chance_1 : List UInt8 := dkwX6_chance_1 ++ dktX6_chance_2
def dkwX6_chance_0 : List UInt8 := [42, 3, 181, 0, 88, 42, 182, 1, 67, 153, 0, 13, 27, 133, 9, 10, 184, 0, 93, 154, 0, 7]
abbrev dktX6_chance_0 : List UInt8 := dkwX6_chance_0 ++ dktX6_chance_1
theorem dksX6_chance_0 : cX6_chance.data.toList.drop 0 = dktX6_chance_0 := by decide +kernel
theorem dksX6_chance_1 : cX6_chance.data.toList.drop 22 = dktX6_chance_1 := dk_seg dksX6_chance_0 22 rfl rfl
theorem dksX6_chance_2 : cX6_chance.data.toList.drop 46 = dktX6_chance_2 := dk_seg dksX6_chance_1 24 rfl rfl
theorem dksX6_chance_3 : cX6_chance.data.toList.drop 70 = dktX6_chance_3 := dk_seg dksX6_chance_2 24 rfl rfl
theorem dksX6_chance_4 : cX6_chance.data.toList.drop 94 = dktX6_chance_4 := dk_seg dksX6_chance_3 24 rfl rfl
theorem dksX6_chance_5 : cX6_chance.data.toList.drop 117 = dktX6_chance_5 := dk_seg dksX6_chance_4 23 rfl rfl
theorem dksX6_chance_6 : cX6_chance.data.toList.drop 141 = dktX6_chance_6 := dk_seg dksX6_chance_5 24 rfl rfl
theorem dksX6_chance_7 : cX6_chance.data.toList.drop 165 = dktX6_chance_7 := dk_seg dksX6_chance_6 24 rfl rfl
theorem dX6_chance_0 : decode cX6_chance 0 = .ok (.aload_n 0, 1) := dk_42 (dk_at dksX6_chance_0 0 rfl rfl)
theorem dX6_chance_1 : decode cX6_chance 1 = .ok (.iconst 0, 1) := dk_3 (dk_at dksX6_chance_0 1 rfl rfl)
theorem dX6_chance_2 : decode cX6_chance 2 = .ok (.putfield 88, 3) := dk_181 0 88 (dk_at dksX6_chance_0 2 rfl rfl)
theorem dX6_chance_5 : decode cX6_chance 5 = .ok (.aload_n 0, 1) := dk_42 (dk_at dksX6_chance_0 5 rfl rfl)
theorem dX6_chance_6 : decode cX6_chance 6 = .ok (.invokevirtual 323, 3) := dk_182 1 67 (dk_at dksX6_chance_0 6 rfl rfl)
theorem dX6_chance_9 : decode cX6_chance 9 = .ok (.ifCond .eq 13, 3) := dk_153 0 13 (dk_at dksX6_chance_0 9 rfl rfl)
theorem dX6_chance_12 : decode cX6_chance 12 = .ok (.iload_n 1, 1) := dk_27 (dk_at dksX6_chance_0 12 rfl rfl)
theorem dX6_chance_13 : decode cX6_chance 13 = .ok (.i2l, 1) := dk_133 (dk_at dksX6_chance_0 13 rfl rfl)
theorem dX6_chance_14 : decode cX6_chance 14 = .ok (.lconst 0, 1) := dk_9 (dk_at dksX6_chance_0 14 rfl rfl)
theorem dX6_chance_15 : decode cX6_chance 15 = .ok (.lconst 1, 1) := dk_10 (dk_at dksX6_chance_0 15 rfl rfl)
theorem dX6_chance_16 : decode cX6_chance 16 = .ok (.invokestatic 93, 3) := dk_184 0 93 (dk_at dksX6_chance_0 16 rfl rfl)
theorem dX6_chance_19 : decode cX6_chance 19 = .ok (.ifCond .ne 7, 3) := dk_154 0 7 (dk_at dksX6_chance_0 19 rfl rfl)
theorem dX6_chance_22 : decode cX6_chance 22 = .ok (.ldc2_w 389, 3) := dk_20 1 133 (dk_at dksX6_chance_1 0 rfl rfl)
theorem dX6_chance_25 : decode cX6_chance 25 = .ok (.lreturn, 1) := dk_173 (dk_at dksX6_chance_1 3 rfl rfl)
theorem dX6_chance_26 : decode cX6_chance 26 = .ok (.aload_n 0, 1) := dk_42 (dk_at dksX6_chance_1 4 rfl rfl)
theorem dX6_chance_27 : decode cX6_chance 27 = .ok (.iconst 1, 1) := dk_4 (dk_at dksX6_chance_1 5 rfl rfl)
theorem dX6_chance_28 : decode cX6_chance 28 = .ok (.invokevirtual 382, 3) := dk_182 1 126 (dk_at dksX6_chance_1 6 rfl rfl)
theorem dX6_chance_31 : decode cX6_chance 31 = .ok (.ifCond .ne 7, 3) := dk_154 0 7 (dk_at dksX6_chance_1 9 rfl rfl)
theorem dX6_chance_34 : decode cX6_chance 34 = .ok (.ldc2_w 132, 3) := dk_20 0 132 (dk_at dksX6_chance_1 12 rfl rfl)
theorem dX6_chance_37 : decode cX6_chance 37 = .ok (.lreturn, 1) := dk_173 (dk_at dksX6_chance_1 15 rfl rfl)
theorem dX6_chance_38 : decode cX6_chance 38 = .ok (.lconst 1, 1) := dk_10 (dk_at dksX6_chance_1 16 rfl rfl)
theorem dX6_chance_39 : decode cX6_chance 39 = .ok (.lstore_n 2, 1) := dk_65 (dk_at dksX6_chance_1 17 rfl rfl)
theorem dX6_chance_40 : decode cX6_chance 40 = .ok (.lconst 1, 1) := dk_10 (dk_at dksX6_chance_1 18 rfl rfl)
theorem dX6_chance_41 : decode cX6_chance 41 = .ok (.lstore 4, 2) := dk_55 4 (dk_at dksX6_chance_1 19 rfl rfl)
theorem dX6_chance_43 : decode cX6_chance 43 = .ok (.iconst 0, 1) := dk_3 (dk_at dksX6_chance_1 21 rfl rfl)
theorem dX6_chance_44 : decode cX6_chance 44 = .ok (.istore 6, 2) := dk_54 6 (dk_at dksX6_chance_1 22 rfl rfl)
theorem dX6_chance_46 : decode cX6_chance 46 = .ok (.iconst 0, 1) := dk_3 (dk_at dksX6_chance_2 0 rfl rfl)
theorem dX6_chance_47 : decode cX6_chance 47 = .ok (.istore 7, 2) := dk_54 7 (dk_at dksX6_chance_2 1 rfl rfl)
theorem dX6_chance_49 : decode cX6_chance 49 = .ok (.iload 7, 2) := dk_21 7 (dk_at dksX6_chance_2 3 rfl rfl)
theorem dX6_chance_51 : decode cX6_chance 51 = .ok (.aload_n 0, 1) := dk_42 (dk_at dksX6_chance_2 5 rfl rfl)
theorem dX6_chance_52 : decode cX6_chance 52 = .ok (.getfield 373, 3) := dk_180 1 117 (dk_at dksX6_chance_2 6 rfl rfl)
theorem dX6_chance_55 : decode cX6_chance 55 = .ok (.if_icmp .ge 32, 3) := dk_162 0 32 (dk_at dksX6_chance_2 9 rfl rfl)
theorem dX6_chance_58 : decode cX6_chance 58 = .ok (.iload 6, 2) := dk_21 6 (dk_at dksX6_chance_2 12 rfl rfl)
theorem dX6_chance_60 : decode cX6_chance 60 = .ok (.aload_n 0, 1) := dk_42 (dk_at dksX6_chance_2 14 rfl rfl)
theorem dX6_chance_61 : decode cX6_chance 61 = .ok (.getfield 66, 3) := dk_180 0 66 (dk_at dksX6_chance_2 15 rfl rfl)
theorem dX6_chance_64 : decode cX6_chance 64 = .ok (.iload 7, 2) := dk_21 7 (dk_at dksX6_chance_2 18 rfl rfl)
theorem dX6_chance_66 : decode cX6_chance 66 = .ok (.iaload, 1) := dk_46 (dk_at dksX6_chance_2 20 rfl rfl)
theorem dX6_chance_67 : decode cX6_chance 67 = .ok (.sipush 200, 3) := dk_17 0 200 (dk_at dksX6_chance_2 21 rfl rfl)
theorem dX6_chance_70 : decode cX6_chance 70 = .ok (.if_icmp .ne 7, 3) := dk_160 0 7 (dk_at dksX6_chance_3 0 rfl rfl)
theorem dX6_chance_73 : decode cX6_chance 73 = .ok (.iconst 0, 1) := dk_3 (dk_at dksX6_chance_3 3 rfl rfl)
theorem dX6_chance_74 : decode cX6_chance 74 = .ok (.goto 4, 3) := dk_167 0 4 (dk_at dksX6_chance_3 4 rfl rfl)
theorem dX6_chance_77 : decode cX6_chance 77 = .ok (.iconst 1, 1) := dk_4 (dk_at dksX6_chance_3 7 rfl rfl)
theorem dX6_chance_78 : decode cX6_chance 78 = .ok (.iadd, 1) := dk_96 (dk_at dksX6_chance_3 8 rfl rfl)
theorem dX6_chance_79 : decode cX6_chance 79 = .ok (.istore 6, 2) := dk_54 6 (dk_at dksX6_chance_3 9 rfl rfl)
theorem dX6_chance_81 : decode cX6_chance 81 = .ok (.iinc 7 1, 3) := dk_132 7 1 (dk_at dksX6_chance_3 11 rfl rfl)
theorem dX6_chance_84 : decode cX6_chance 84 = .ok (.goto (-35), 3) := dk_167 255 221 (dk_at dksX6_chance_3 14 rfl rfl)
theorem dX6_chance_87 : decode cX6_chance 87 = .ok (.iload 6, 2) := dk_21 6 (dk_at dksX6_chance_3 17 rfl rfl)
theorem dX6_chance_89 : decode cX6_chance 89 = .ok (.bipush 9, 2) := dk_16 9 (dk_at dksX6_chance_3 19 rfl rfl)
theorem dX6_chance_91 : decode cX6_chance 91 = .ok (.if_icmp .le 7, 3) := dk_164 0 7 (dk_at dksX6_chance_3 21 rfl rfl)
theorem dX6_chance_94 : decode cX6_chance 94 = .ok (.ldc2_w 132, 3) := dk_20 0 132 (dk_at dksX6_chance_4 0 rfl rfl)
theorem dX6_chance_97 : decode cX6_chance 97 = .ok (.lreturn, 1) := dk_173 (dk_at dksX6_chance_4 3 rfl rfl)
theorem dX6_chance_98 : decode cX6_chance 98 = .ok (.iconst 0, 1) := dk_3 (dk_at dksX6_chance_4 4 rfl rfl)
theorem dX6_chance_99 : decode cX6_chance 99 = .ok (.istore 7, 2) := dk_54 7 (dk_at dksX6_chance_4 5 rfl rfl)
theorem dX6_chance_101 : decode cX6_chance 101 = .ok (.iload 7, 2) := dk_21 7 (dk_at dksX6_chance_4 7 rfl rfl)
theorem dX6_chance_103 : decode cX6_chance 103 = .ok (.aload_n 0, 1) := dk_42 (dk_at dksX6_chance_4 9 rfl rfl)
theorem dX6_chance_104 : decode cX6_chance 104 = .ok (.getfield 373, 3) := dk_180 1 117 (dk_at dksX6_chance_4 10 rfl rfl)
theorem dX6_chance_107 : decode cX6_chance 107 = .ok (.if_icmp .ge 64, 3) := dk_162 0 64 (dk_at dksX6_chance_4 13 rfl rfl)
theorem dX6_chance_110 : decode cX6_chance 110 = .ok (.aload_n 0, 1) := dk_42 (dk_at dksX6_chance_4 16 rfl rfl)
theorem dX6_chance_111 : decode cX6_chance 111 = .ok (.getfield 66, 3) := dk_180 0 66 (dk_at dksX6_chance_4 17 rfl rfl)
theorem dX6_chance_114 : decode cX6_chance 114 = .ok (.iload 7, 2) := dk_21 7 (dk_at dksX6_chance_4 20 rfl rfl)
theorem dX6_chance_116 : decode cX6_chance 116 = .ok (.iaload, 1) := dk_46 (dk_at dksX6_chance_4 22 rfl rfl)
theorem dX6_chance_117 : decode cX6_chance 117 = .ok (.sipush 200, 3) := dk_17 0 200 (dk_at dksX6_chance_5 0 rfl rfl)
theorem dX6_chance_120 : decode cX6_chance 120 = .ok (.if_icmp .ne 6, 3) := dk_160 0 6 (dk_at dksX6_chance_5 3 rfl rfl)
theorem dX6_chance_123 : decode cX6_chance 123 = .ok (.goto 42, 3) := dk_167 0 42 (dk_at dksX6_chance_5 6 rfl rfl)
theorem dX6_chance_126 : decode cX6_chance 126 = .ok (.lload_n 2, 1) := dk_32 (dk_at dksX6_chance_5 9 rfl rfl)
theorem dX6_chance_127 : decode cX6_chance 127 = .ok (.bipush 100, 2) := dk_16 100 (dk_at dksX6_chance_5 10 rfl rfl)
theorem dX6_chance_129 : decode cX6_chance 129 = .ok (.aload_n 0, 1) := dk_42 (dk_at dksX6_chance_5 12 rfl rfl)
theorem dX6_chance_130 : decode cX6_chance 130 = .ok (.aload_n 0, 1) := dk_42 (dk_at dksX6_chance_5 13 rfl rfl)
theorem dX6_chance_131 : decode cX6_chance 131 = .ok (.getfield 66, 3) := dk_180 0 66 (dk_at dksX6_chance_5 14 rfl rfl)
theorem dX6_chance_134 : decode cX6_chance 134 = .ok (.iload 7, 2) := dk_21 7 (dk_at dksX6_chance_5 17 rfl rfl)
theorem dX6_chance_136 : decode cX6_chance 136 = .ok (.iaload, 1) := dk_46 (dk_at dksX6_chance_5 19 rfl rfl)
theorem dX6_chance_137 : decode cX6_chance 137 = .ok (.bipush 10, 2) := dk_16 10 (dk_at dksX6_chance_5 20 rfl rfl)
theorem dX6_chance_139 : decode cX6_chance 139 = .ok (.irem, 1) := dk_112 (dk_at dksX6_chance_5 22 rfl rfl)
theorem dX6_chance_140 : decode cX6_chance 140 = .ok (.aload_n 0, 1) := dk_42 (dk_at dksX6_chance_5 23 rfl rfl)
theorem dX6_chance_141 : decode cX6_chance 141 = .ok (.getfield 66, 3) := dk_180 0 66 (dk_at dksX6_chance_6 0 rfl rfl)
theorem dX6_chance_144 : decode cX6_chance 144 = .ok (.iload 7, 2) := dk_21 7 (dk_at dksX6_chance_6 3 rfl rfl)
theorem dX6_chance_146 : decode cX6_chance 146 = .ok (.iaload, 1) := dk_46 (dk_at dksX6_chance_6 5 rfl rfl)
theorem dX6_chance_147 : decode cX6_chance 147 = .ok (.bipush 100, 2) := dk_16 100 (dk_at dksX6_chance_6 6 rfl rfl)
theorem dX6_chance_149 : decode cX6_chance 149 = .ok (.idiv, 1) := dk_108 (dk_at dksX6_chance_6 8 rfl rfl)
theorem dX6_chance_150 : decode cX6_chance 150 = .ok (.invokevirtual 300, 3) := dk_182 1 44 (dk_at dksX6_chance_6 9 rfl rfl)
theorem dX6_chance_153 : decode cX6_chance 153 = .ok (.isub, 1) := dk_100 (dk_at dksX6_chance_6 12 rfl rfl)
theorem dX6_chance_154 : decode cX6_chance 154 = .ok (.i2l, 1) := dk_133 (dk_at dksX6_chance_6 13 rfl rfl)
theorem dX6_chance_155 : decode cX6_chance 155 = .ok (.lmul, 1) := dk_105 (dk_at dksX6_chance_6 14 rfl rfl)
theorem dX6_chance_156 : decode cX6_chance 156 = .ok (.lstore_n 2, 1) := dk_65 (dk_at dksX6_chance_6 15 rfl rfl)
theorem dX6_chance_157 : decode cX6_chance 157 = .ok (.lload 4, 2) := dk_22 4 (dk_at dksX6_chance_6 16 rfl rfl)
theorem dX6_chance_159 : decode cX6_chance 159 = .ok (.ldc2_w 270, 3) := dk_20 1 14 (dk_at dksX6_chance_6 18 rfl rfl)
theorem dX6_chance_162 : decode cX6_chance 162 = .ok (.lmul, 1) := dk_105 (dk_at dksX6_chance_6 21 rfl rfl)
theorem dX6_chance_163 : decode cX6_chance 163 = .ok (.lstore 4, 2) := dk_55 4 (dk_at dksX6_chance_6 22 rfl rfl)
theorem dX6_chance_165 : decode cX6_chance 165 = .ok (.iinc 7 1, 3) := dk_132 7 1 (dk_at dksX6_chance_7 0 rfl rfl)
theorem dX6_chance_168 : decode cX6_chance 168 = .ok (.goto (-67), 3) := dk_167 255 189 (dk_at dksX6_chance_7 3 rfl rfl)
theorem dX6_chance_171 : decode cX6_chance 171 = .ok (.iload_n 1, 1) := dk_27 (dk_at dksX6_chance_7 6 rfl rfl)
theorem dX6_chance_172 : decode cX6_chance 172 = .ok (.ifCond .ne 7, 3) := dk_154 0 7 (dk_at dksX6_chance_7 7 rfl rfl)
theorem dX6_chance_175 : decode cX6_chance 175 = .ok (.lload_n 2, 1) := dk_32 (dk_at dksX6_chance_7 10 rfl rfl)
theorem dX6_chance_176 : decode cX6_chance 176 = .ok (.goto 5, 3) := dk_167 0 5 (dk_at dksX6_chance_7 11 rfl rfl)
theorem dX6_chance_179 : decode cX6_chance 179 = .ok (.lload 4, 2) := dk_22 4 (dk_at dksX6_chance_7 14 rfl rfl)
theorem dX6_chance_181 : decode cX6_chance 181 = .ok (.lload_n 2, 1) := dk_32 (dk_at dksX6_chance_7 16 rfl rfl)
theorem dX6_chance_182 : decode cX6_chance 182 = .ok (.lload 4, 2) := dk_22 4 (dk_at dksX6_chance_7 17 rfl rfl)
theorem dX6_chance_184 : decode cX6_chance 184 = .ok (.invokestatic 385, 3) := dk_184 1 129 (dk_at dksX6_chance_7 19 rfl rfl)
theorem dX6_chance_187 : decode cX6_chance 187 = .ok (.ldiv, 1) := dk_109 (dk_at dksX6_chance_7 22 rfl rfl)
theorem dX6_chance_188 : decode cX6_chance 188 = .ok (.lreturn, 1) := dk_173 (dk_at dksX6_chance_7 23 rfl rfl)

theorem okX6_chance : wOkV yX6_chance cX6_chance 8 (some .long) 1 := ⟨q1903, q1904, q145, q1905, by decide, by decide, by decide +kernel⟩
def gbX6_chance_49 (N : Nat)  (x1_ : Int32) (x2_ : Int64) (x4_ : Int64) (K : (Int32 → wMem → Option (Int64 × wMem))) (rec : (Int32 → Int32 → wMem → Option (Int64 × wMem))) (x6_ : Int32) (x7_ : Int32) (μ : wMem) : Option (Int64 × wMem) :=
  if (μ.1 0 40) ≤ x7_ then K x6_ μ else wG (ok_in x7_ 400) (wLet (fun (v18 : Int32) (v19 : Int32) (μ17 : wMem) => wLet (v19 + v18 : Int32) fun x20 => wLet (x7_ + 1 : Int32) fun x21 => rec x20 x21 μ17) fun Jchance78 => if (μ.1 17 (Int32.toNatClampNeg x7_)) = (200 : Int32) then Jchance78 0 x6_ μ else Jchance78 1 x6_ μ)
def gX6_chance_49 (N : Nat)  (x1_ : Int32) (x2_ : Int64) (x4_ : Int64) (K : (Int32 → wMem → Option (Int64 × wMem))) : Nat → (Int32 → Int32 → wMem → Option (Int64 × wMem))
  | 0 => fun _ _ _ => none
  | k + 1 => gbX6_chance_49 N  x1_ x2_ x4_ K (gX6_chance_49 N  x1_ x2_ x4_ K k)
set_option maxHeartbeats 4000000 in
set_option maxRecDepth 100000 in
theorem tX6_chance_49 {p : Program} {l : Launch} {e : Env} {s : State} {m : MethodId} {args : Array Value} {below : List Frame} {meth : Method} {c : Code} {D : va_G} {E : List wCell} {q : Nat → Nat} {ca : wCA} {A : Nat → Prop} (C : wC p ({ frames := 129, cells := 0, slots := 0, locals := 2967 } : Room) s m args meth c cX6_chance yX6_chance.cls 8 (some .long) D vwCl (spM ++ E) q ca A) (N : Nat)   (x1_ : Int32) (x2_ : Int64) (x4_ : Int64) (K : (Int32 → wMem → Option (Int64 × wMem))) (r0 : (Int64 × wMem)) (hK : ∀ (y6_ : Int32) (μ : wMem), K y6_ μ = some r0 → wJ p l e ({ frames := 129, cells := 0, slots := 0, locals := 2967 } : Room) s m args below meth c 8 D vwCl (spM ++ E) q ca A (wQl ({ frames := 129, cells := 0, slots := 0, locals := 2967 } : Room) D vwCl (spM ++ E) q ca below args s A r0) 0 0 μ 87 [(0, .ref (q 0)), (1, .int x1_), (2, .long x2_), (4, .long x4_), (6, .int y6_)] []) : ∀ (k : Nat) (x6_ : Int32) (x7_ : Int32) (μ : wMem), gX6_chance_49 N  x1_ x2_ x4_ K k x6_ x7_ μ = some r0 → wJ p l e ({ frames := 129, cells := 0, slots := 0, locals := 2967 } : Room) s m args below meth c 8 D vwCl (spM ++ E) q ca A (wQl ({ frames := 129, cells := 0, slots := 0, locals := 2967 } : Room) D vwCl (spM ++ E) q ca below args s A r0) 0 0 μ 49 [(0, .ref (q 0)), (1, .int x1_), (2, .long x2_), (4, .long x4_), (6, .int x6_), (7, .int x7_)] [] := by
  intro k
  induction k with
  | zero =>
    intro x6_ x7_ μ hf
    cases hf
  | succ k ih =>
    intro x6_ x7_ μ hf
    replace hf : gbX6_chance_49 N  x1_ x2_ x4_ K (gX6_chance_49 N  x1_ x2_ x4_ K k) x6_ x7_ μ = some r0 := hf
    unfold gbX6_chance_49 at hf
    refine wr_iload 49 C dX6_chance_49 5 rfl ?_
    refine wr_aload_n 51 C dX6_chance_51 0 rfl rfl ?_
    refine gespM_0_40_X6 52 C dX6_chance_52 ?_
    refine wr_icmp_ge 55 87 C dX6_chance_55 (by decide) (fun c15 => ?_) (fun c15 => ?_)
    · replace hf := o_pos c15 hf
      refine wr_sub [(0, .ref (q 0)), (1, .int x1_), (2, .long x2_), (4, .long x4_), (6, .int x6_)] [0, 1, 2, 3, 4] rfl ?_
      exact hK x6_ μ hf
    · replace hf := o_neg c15 hf
      refine wr_iload 58 C dX6_chance_58 4 rfl ?_
      refine wr_aload_n 60 C dX6_chance_60 0 rfl rfl ?_
      refine gespM_0_39_X6 61 C dX6_chance_61 ?_
      refine wr_iload 64 C dX6_chance_64 5 rfl ?_
      obtain ⟨g16, hf⟩ := o_g hf
      refine wr_iald 66 C dX6_chance_66 spM_17 g16 ?_
      refine wr_sipush 67 C dX6_chance_67 (v := 200) rfl ?_
      obtain ⟨Jchance78, eJchance78, hf⟩ := o_let hf
      have hJchance78 : ∀ (v18 : Int32) (v19 : Int32) (μ17 : wMem), Jchance78 v18 v19 μ17 = some r0 → wJ p l e ({ frames := 129, cells := 0, slots := 0, locals := 2967 } : Room) s m args below meth c 8 D vwCl (spM ++ E) q ca A (wQl ({ frames := 129, cells := 0, slots := 0, locals := 2967 } : Room) D vwCl (spM ++ E) q ca below args s A r0) 0 0 μ17 78 [(0, .ref (q 0)), (1, .int x1_), (2, .long x2_), (4, .long x4_), (7, .int x7_)] [.int v18, .int v19] := by
        intro v18 v19 μ17 hf
        rw [eJchance78] at hf
        refine wr_iadd 78 C dX6_chance_78 ?_
        obtain ⟨x20, ex20, hf⟩ := o_let hf
        refine wr_istore 79 [(6, .int x20), (0, .ref (q 0)), (1, .int x1_), (2, .long x2_), (4, .long x4_), (7, .int x7_)] C dX6_chance_79 ex20 (Nat.le_of_ble_eq_true rfl) rfl ?_
        obtain ⟨x21, ex21, hf⟩ := o_let hf
        refine wr_iinc 81 [(7, .int x21), (6, .int x20), (0, .ref (q 0)), (1, .int x1_), (2, .long x2_), (4, .long x4_)] C dX6_chance_81 5 rfl (ex21.trans rfl) (Nat.le_of_ble_eq_true rfl) rfl ?_
        refine wr_goto 84 C dX6_chance_84 (tgt := 49) (by decide) ?_
        refine wr_sub [(0, .ref (q 0)), (1, .int x1_), (2, .long x2_), (4, .long x4_), (6, .int x20), (7, .int x21)] [2, 3, 4, 5, 1, 0] rfl ?_
        exact ih x20 x21 μ17 hf
      refine wr_icmp_ne 70 77 C dX6_chance_70 (by decide) (fun c22 => ?_) (fun c22 => ?_)
      · replace hf := o_neg c22 hf
        refine wr_iconst 77 C dX6_chance_77 (v := 1) rfl ?_
        refine wr_sub [(0, .ref (q 0)), (1, .int x1_), (2, .long x2_), (4, .long x4_), (7, .int x7_)] [0, 1, 2, 3, 5] rfl ?_
        exact hJchance78 1 x6_ μ hf
      · replace hf := o_pos c22 hf
        refine wr_iconst 73 C dX6_chance_73 (v := 0) rfl ?_
        refine wr_goto 74 C dX6_chance_74 (tgt := 78) (by decide) ?_
        refine wr_sub [(0, .ref (q 0)), (1, .int x1_), (2, .long x2_), (4, .long x4_), (7, .int x7_)] [0, 1, 2, 3, 5] rfl ?_
        exact hJchance78 0 x6_ μ hf
def gbX6_chance_101 (N : Nat)  (x1_ : Int32) (K : (Int64 → Int64 → wMem → Option (Int64 × wMem))) (rec : (Int64 → Int64 → Int32 → wMem → Option (Int64 × wMem))) (x2_ : Int64) (x4_ : Int64) (x7_ : Int32) (μ : wMem) : Option (Int64 × wMem) :=
  if (μ.1 0 40) ≤ x7_ then K x2_ x4_ μ else wG (ok_in x7_ 400) (wLet (fun (x29 : Int64) (x30 : Int64) (μ28 : wMem) => wLet (x7_ + 1 : Int32) fun x31 => rec x29 x30 x31 μ28) fun Jchance165 => if (μ.1 17 (Int32.toNatClampNeg x7_)) = (200 : Int32) then Jchance165 x2_ x4_ μ else wG (ok_in x7_ 400) (wG (ok_in x7_ 400) (wBind (fX6_riskOf N  ((μ.1 17 (Int32.toNatClampNeg x7_)) - (μ.1 17 (Int32.toNatClampNeg x7_)) / (10 : Int32) * (10 : Int32)) ((μ.1 17 (Int32.toNatClampNeg x7_)) / (100 : Int32)) μ) fun v37 μ36 => wLet (x2_ * (Int32.toInt64 ((100 : Int32) - v37)) : Int64) fun x38 => wLet (x4_ * (100 : Int64) : Int64) fun x39 => Jchance165 x38 x39 μ36)))
def gX6_chance_101 (N : Nat)  (x1_ : Int32) (K : (Int64 → Int64 → wMem → Option (Int64 × wMem))) : Nat → (Int64 → Int64 → Int32 → wMem → Option (Int64 × wMem))
  | 0 => fun _ _ _ _ => none
  | k + 1 => gbX6_chance_101 N  x1_ K (gX6_chance_101 N  x1_ K k)
set_option maxHeartbeats 4000000 in
set_option maxRecDepth 100000 in
theorem tX6_chance_101 {p : Program} {l : Launch} {e : Env} {s : State} {m : MethodId} {args : Array Value} {below : List Frame} {meth : Method} {c : Code} {D : va_G} {E : List wCell} {q : Nat → Nat} {ca : wCA} {A : Nat → Prop} (C : wC p ({ frames := 129, cells := 0, slots := 0, locals := 2967 } : Room) s m args meth c cX6_chance yX6_chance.cls 8 (some .long) D vwCl (spM ++ E) q ca A) (N : Nat)   (x1_ : Int32) (K : (Int64 → Int64 → wMem → Option (Int64 × wMem))) (r0 : (Int64 × wMem)) (hK : ∀ (y2_ : Int64) (y4_ : Int64) (μ : wMem), K y2_ y4_ μ = some r0 → wJ p l e ({ frames := 129, cells := 0, slots := 0, locals := 2967 } : Room) s m args below meth c 8 D vwCl (spM ++ E) q ca A (wQl ({ frames := 129, cells := 0, slots := 0, locals := 2967 } : Room) D vwCl (spM ++ E) q ca below args s A r0) 0 0 μ 171 [(1, .int x1_), (2, .long y2_), (4, .long y4_)] []) : ∀ (k : Nat) (x2_ : Int64) (x4_ : Int64) (x7_ : Int32) (μ : wMem), gX6_chance_101 N  x1_ K k x2_ x4_ x7_ μ = some r0 → wJ p l e ({ frames := 129, cells := 0, slots := 0, locals := 2967 } : Room) s m args below meth c 8 D vwCl (spM ++ E) q ca A (wQl ({ frames := 129, cells := 0, slots := 0, locals := 2967 } : Room) D vwCl (spM ++ E) q ca below args s A r0) 0 0 μ 101 [(0, .ref (q 0)), (1, .int x1_), (2, .long x2_), (4, .long x4_), (7, .int x7_)] [] := by
  intro k
  induction k with
  | zero =>
    intro x2_ x4_ x7_ μ hf
    cases hf
  | succ k ih =>
    intro x2_ x4_ x7_ μ hf
    replace hf : gbX6_chance_101 N  x1_ K (gX6_chance_101 N  x1_ K k) x2_ x4_ x7_ μ = some r0 := hf
    unfold gbX6_chance_101 at hf
    refine wr_iload 101 C dX6_chance_101 4 rfl ?_
    refine wr_aload_n 103 C dX6_chance_103 0 rfl rfl ?_
    refine gespM_0_40_X6 104 C dX6_chance_104 ?_
    refine wr_icmp_ge 107 171 C dX6_chance_107 (by decide) (fun c26 => ?_) (fun c26 => ?_)
    · replace hf := o_pos c26 hf
      refine wr_sub [(1, .int x1_), (2, .long x2_), (4, .long x4_)] [1, 2, 3] rfl ?_
      exact hK x2_ x4_ μ hf
    · replace hf := o_neg c26 hf
      refine wr_aload_n 110 C dX6_chance_110 0 rfl rfl ?_
      refine gespM_0_39_X6 111 C dX6_chance_111 ?_
      refine wr_iload 114 C dX6_chance_114 4 rfl ?_
      obtain ⟨g27, hf⟩ := o_g hf
      refine wr_iald 116 C dX6_chance_116 spM_17 g27 ?_
      refine wr_sipush 117 C dX6_chance_117 (v := 200) rfl ?_
      obtain ⟨Jchance165, eJchance165, hf⟩ := o_let hf
      have hJchance165 : ∀ (x29 : Int64) (x30 : Int64) (μ28 : wMem), Jchance165 x29 x30 μ28 = some r0 → wJ p l e ({ frames := 129, cells := 0, slots := 0, locals := 2967 } : Room) s m args below meth c 8 D vwCl (spM ++ E) q ca A (wQl ({ frames := 129, cells := 0, slots := 0, locals := 2967 } : Room) D vwCl (spM ++ E) q ca below args s A r0) 0 0 μ28 165 [(0, .ref (q 0)), (1, .int x1_), (2, .long x29), (4, .long x30), (7, .int x7_)] [] := by
        intro x29 x30 μ28 hf
        rw [eJchance165] at hf
        obtain ⟨x31, ex31, hf⟩ := o_let hf
        refine wr_iinc 165 [(7, .int x31), (0, .ref (q 0)), (1, .int x1_), (2, .long x29), (4, .long x30)] C dX6_chance_165 4 rfl (ex31.trans rfl) (Nat.le_of_ble_eq_true rfl) rfl ?_
        refine wr_goto 168 C dX6_chance_168 (tgt := 101) (by decide) ?_
        refine wr_sub [(0, .ref (q 0)), (1, .int x1_), (2, .long x29), (4, .long x30), (7, .int x31)] [1, 2, 3, 4, 0] rfl ?_
        exact ih x29 x30 x31 μ28 hf
      refine wr_icmp_ne 120 126 C dX6_chance_120 (by decide) (fun c32 => ?_) (fun c32 => ?_)
      · replace hf := o_neg c32 hf
        refine wr_lload_n 126 C dX6_chance_126 2 rfl rfl ?_
        refine wr_bipush 127 C dX6_chance_127 (v := 100) rfl ?_
        refine wr_aload_n 129 C dX6_chance_129 0 rfl rfl ?_
        refine wr_aload_n 130 C dX6_chance_130 0 rfl rfl ?_
        refine gespM_0_39_X6 131 C dX6_chance_131 ?_
        refine wr_iload 134 C dX6_chance_134 4 rfl ?_
        obtain ⟨g33, hf⟩ := o_g hf
        refine wr_iald 136 C dX6_chance_136 spM_17 g33 ?_
        refine wr_bipush 137 C dX6_chance_137 (v := 10) rfl ?_
        refine wr_irem 139 C dX6_chance_139 (by decide) ?_
        refine wr_aload_n 140 C dX6_chance_140 0 rfl rfl ?_
        refine gespM_0_39_X6 141 C dX6_chance_141 ?_
        refine wr_iload 144 C dX6_chance_144 4 rfl ?_
        obtain ⟨g34, hf⟩ := o_g hf
        refine wr_iald 146 C dX6_chance_146 spM_17 g34 ?_
        refine wr_bipush 147 C dX6_chance_147 (v := 100) rfl ?_
        refine wr_idiv 149 C dX6_chance_149 (by decide) ?_
        obtain ⟨v37, μ36, h35, hf⟩ := o_bind hf
        refine wr_Vi (kc1 := 0) (ks1 := 0) 150 [.int 100, .long x2_] C dX6_chance_150 (tX6_riskOf l N   ((μ.1 17 (Int32.toNatClampNeg x7_)) - (μ.1 17 (Int32.toNatClampNeg x7_)) / (10 : Int32) * (10 : Int32)) ((μ.1 17 (Int32.toNatClampNeg x7_)) / (100 : Int32)) μ (v37, μ36) h35) okX6_riskOf q1706 (b := 0) spM_0 rfl ⟨rfl, rfl, Nat.le_of_ble_eq_true rfl, Nat.le_of_ble_eq_true rfl, Nat.zero_le _, Nat.zero_le _⟩ (Nat.le_of_ble_eq_true rfl) rfl ?_
        refine wr_isub 153 C dX6_chance_153 ?_
        refine wr_i2l 154 C dX6_chance_154 ?_
        refine wr_lmul 155 C dX6_chance_155 ?_
        obtain ⟨x38, ex38, hf⟩ := o_let hf
        refine wr_lstore_n 156 [(2, .long x38), (0, .ref (q 0)), (1, .int x1_), (4, .long x4_), (7, .int x7_)] C dX6_chance_156 ex38 rfl (Nat.le_of_ble_eq_true rfl) rfl ?_
        refine wr_lload 157 C dX6_chance_157 3 rfl ?_
        refine wr_ldc2 159 C dX6_chance_159 q1823 ?_
        refine wr_lmul 162 C dX6_chance_162 ?_
        obtain ⟨x39, ex39, hf⟩ := o_let hf
        refine wr_lstore 163 [(4, .long x39), (2, .long x38), (0, .ref (q 0)), (1, .int x1_), (7, .int x7_)] C dX6_chance_163 ex39 (Nat.le_of_ble_eq_true rfl) rfl ?_
        refine wr_sub [(0, .ref (q 0)), (1, .int x1_), (2, .long x38), (4, .long x39), (7, .int x7_)] [2, 3, 1, 0, 4] rfl ?_
        exact hJchance165 x38 x39 μ36 hf
      · replace hf := o_pos c32 hf
        refine wr_goto 123 C dX6_chance_123 (tgt := 165) (by decide) ?_
        exact hJchance165 x2_ x4_ μ hf
def fX6_chance (N : Nat)  (a1 : Int32) (μ : wMem) : Option (Int64 × wMem) :=
  wLet (wSI μ 0 0 (0 : Int32)) fun μ1 => wBind (fX6_isFamily N   μ1) fun v4 μ3 => wLet (fun  (μ5 : wMem) => some ((-2), μ5)) fun Jchance22 => if v4 = 0 then Jchance22  μ3 else wBind (fX6_in N  (Int32.toInt64 a1) 0 1 μ3) fun v9 μ8 => if v9 = 0 then Jchance22  μ8 else wBind (fX6_isRow N  1 μ8) fun v13 μ12 => if v13 = 0 then some ((-1), μ12) else gX6_chance_49 N  a1 1 1 (fun (x24 : Int32) (μ23 : wMem) => if x24 ≤ (9 : Int32) then gX6_chance_101 N  a1 (fun (x41 : Int64) (x42 : Int64) (μ40 : wMem) => wLet (fun (v44 : Int64) (μ43 : wMem) => wBind (fX6_common N 128  x41 x42 μ43) fun v47 μ46 => wG (ok_nzL v47) (some (v44 / v47, μ46))) fun Jchance181 => if a1 = 0 then Jchance181 x41 μ40 else Jchance181 x42 μ40) N 1 1 0 μ23 else some ((-1), μ23)) N 0 0 μ12
set_option maxHeartbeats 4000000 in
set_option maxRecDepth 100000 in
theorem tX6_chance (l : Launch) {D : va_G} {E : List wCell} {q : Nat → Nat} {ca : wCA} (N : Nat)   (a1 : Int32) (μ : wMem) (r0 : (Int64 × wMem)) (hf : fX6_chance N  a1 μ = some r0) : wMl l yX6_chance cX6_chance 8 (some .long) ({ frames := 129, cells := 0, slots := 0, locals := 2967 } : Room) D vwCl (spM ++ E) q ca [.ref (q 0), .int a1] μ r0 := by
  refine wMl_intro (by decide) (Nat.le_of_ble_eq_true rfl) ?_
  intro p e s m args below meth c A C
  unfold fX6_chance at hf
  refine wr_sub [(0, .ref (q 0)), (1, .int a1)] [0, 1] rfl ?_
  refine wr_aload_n 0 C dX6_chance_0 0 rfl rfl ?_
  refine wr_iconst 1 C dX6_chance_1 (v := 0) rfl ?_
  obtain ⟨μ1, eμ1, hf⟩ := o_let hf
  refine puspM_0_0_X6 2 C dX6_chance_2 eμ1 ?_
  refine wr_aload_n 5 C dX6_chance_5 0 rfl rfl ?_
  obtain ⟨v4, μ3, h2, hf⟩ := o_bind hf
  refine wr_Vi (kc1 := 0) (ks1 := 0) 6 [] C dX6_chance_6 (tX6_isFamily l N    μ1 (v4, μ3) h2) okX6_isFamily q1750 (b := 0) spM_0 rfl ⟨rfl, rfl, Nat.le_of_ble_eq_true rfl, Nat.le_of_ble_eq_true rfl, Nat.zero_le _, Nat.zero_le _⟩ (Nat.le_of_ble_eq_true rfl) rfl ?_
  obtain ⟨Jchance22, eJchance22, hf⟩ := o_let hf
  have hJchance22 : ∀  (μ5 : wMem), Jchance22  μ5 = some r0 → wJ p l e ({ frames := 129, cells := 0, slots := 0, locals := 2967 } : Room) s m args below meth c 8 D vwCl (spM ++ E) q ca A (wQl ({ frames := 129, cells := 0, slots := 0, locals := 2967 } : Room) D vwCl (spM ++ E) q ca below args s A r0) 0 0 μ5 22 [] [] := by
    intro  μ5 hf
    rw [eJchance22] at hf
    refine wr_ldc2 22 C dX6_chance_22 q1906 ?_
    exact wr_lret 25 C dX6_chance_25 ⟨Nat.zero_le _, Nat.zero_le _⟩ (Option.some.inj hf)
  refine wr_if_eq 9 22 C dX6_chance_9 (by decide) (fun c6 => ?_) (fun c6 => ?_)
  · replace hf := o_pos c6 hf
    refine wr_sub [] [] rfl ?_
    exact hJchance22  μ3 hf
  · replace hf := o_neg c6 hf
    refine wr_iload_n 12 C dX6_chance_12 1 rfl rfl ?_
    refine wr_i2l 13 C dX6_chance_13 ?_
    refine wr_lconst 14 C dX6_chance_14 (v := 0) rfl ?_
    refine wr_lconst 15 C dX6_chance_15 (v := 1) rfl ?_
    obtain ⟨v9, μ8, h7, hf⟩ := o_bind hf
    refine wr_Si (kc1 := 0) (ks1 := 0) 16 [] C dX6_chance_16 (tX6_in l N   (Int32.toInt64 a1) 0 1 μ3 (v9, μ8) h7) okX6_in q1552 ⟨rfl, rfl, Nat.le_of_ble_eq_true rfl, Nat.le_of_ble_eq_true rfl, Nat.zero_le _, Nat.zero_le _⟩ (Nat.le_of_ble_eq_true rfl) rfl ?_
    refine wr_if_ne 19 26 C dX6_chance_19 (by decide) (fun c10 => ?_) (fun c10 => ?_)
    · replace hf := o_neg c10 hf
      refine wr_aload_n 26 C dX6_chance_26 0 rfl rfl ?_
      refine wr_iconst 27 C dX6_chance_27 (v := 1) rfl ?_
      obtain ⟨v13, μ12, h11, hf⟩ := o_bind hf
      refine wr_Vi (kc1 := 0) (ks1 := 0) 28 [] C dX6_chance_28 (tX6_isRow l N   1 μ8 (v13, μ12) h11) okX6_isRow q1874 (b := 0) spM_0 rfl ⟨rfl, rfl, Nat.le_of_ble_eq_true rfl, Nat.le_of_ble_eq_true rfl, Nat.zero_le _, Nat.zero_le _⟩ (Nat.le_of_ble_eq_true rfl) rfl ?_
      refine wr_if_ne 31 38 C dX6_chance_31 (by decide) (fun c14 => ?_) (fun c14 => ?_)
      · replace hf := o_neg c14 hf
        refine wr_lconst 38 C dX6_chance_38 (v := 1) rfl ?_
        refine wr_lstore_n 39 [(2, .long 1), (0, .ref (q 0)), (1, .int a1)] C dX6_chance_39 rfl rfl (Nat.le_of_ble_eq_true rfl) rfl ?_
        refine wr_lconst 40 C dX6_chance_40 (v := 1) rfl ?_
        refine wr_lstore 41 [(4, .long 1), (2, .long 1), (0, .ref (q 0)), (1, .int a1)] C dX6_chance_41 rfl (Nat.le_of_ble_eq_true rfl) rfl ?_
        refine wr_iconst 43 C dX6_chance_43 (v := 0) rfl ?_
        refine wr_istore 44 [(6, .int 0), (4, .long 1), (2, .long 1), (0, .ref (q 0)), (1, .int a1)] C dX6_chance_44 rfl (Nat.le_of_ble_eq_true rfl) rfl ?_
        refine wr_iconst 46 C dX6_chance_46 (v := 0) rfl ?_
        refine wr_istore 47 [(7, .int 0), (6, .int 0), (4, .long 1), (2, .long 1), (0, .ref (q 0)), (1, .int a1)] C dX6_chance_47 rfl (Nat.le_of_ble_eq_true rfl) rfl ?_
        refine wr_sub [(0, .ref (q 0)), (1, .int a1), (2, .long 1), (4, .long 1), (6, .int 0), (7, .int 0)] [4, 5, 3, 2, 1, 0] rfl ?_
        refine tX6_chance_49 C N   a1 1 1 _ r0 (fun x24 μ23 hf => ?_) N 0 0 μ12 hf
        · replace hf := hf
          refine wr_iload 87 C dX6_chance_87 4 rfl ?_
          refine wr_bipush 89 C dX6_chance_89 (v := 9) rfl ?_
          refine wr_icmp_le 91 98 C dX6_chance_91 (by decide) (fun c25 => ?_) (fun c25 => ?_)
          · replace hf := o_pos c25 hf
            refine wr_iconst 98 C dX6_chance_98 (v := 0) rfl ?_
            refine wr_istore 99 [(7, .int 0), (0, .ref (q 0)), (1, .int a1), (2, .long 1), (4, .long 1), (6, .int x24)] C dX6_chance_99 rfl (Nat.le_of_ble_eq_true rfl) rfl ?_
            refine wr_sub [(0, .ref (q 0)), (1, .int a1), (2, .long 1), (4, .long 1), (7, .int 0)] [1, 2, 3, 4, 0] rfl ?_
            refine tX6_chance_101 C N   a1 _ r0 (fun x41 x42 μ40 hf => ?_) N 1 1 0 μ23 hf
            · replace hf := hf
              refine wr_iload_n 171 C dX6_chance_171 0 rfl rfl ?_
              obtain ⟨Jchance181, eJchance181, hf⟩ := o_let hf
              have hJchance181 : ∀ (v44 : Int64) (μ43 : wMem), Jchance181 v44 μ43 = some r0 → wJ p l e ({ frames := 129, cells := 0, slots := 0, locals := 2967 } : Room) s m args below meth c 8 D vwCl (spM ++ E) q ca A (wQl ({ frames := 129, cells := 0, slots := 0, locals := 2967 } : Room) D vwCl (spM ++ E) q ca below args s A r0) 0 0 μ43 181 [(2, .long x41), (4, .long x42)] [.long v44] := by
                intro v44 μ43 hf
                rw [eJchance181] at hf
                refine wr_lload_n 181 C dX6_chance_181 0 rfl rfl ?_
                refine wr_lload 182 C dX6_chance_182 1 rfl ?_
                obtain ⟨v47, μ46, h45, hf⟩ := o_bind hf
                refine wr_Sl (kc1 := 0) (ks1 := 0) 184 [.long v44] C dX6_chance_184 (tX6_common l N 128   x41 x42 μ43 (v47, μ46) h45) okX6_common q1907 ⟨rfl, rfl, Nat.le_of_ble_eq_true rfl, Nat.le_of_ble_eq_true rfl, Nat.zero_le _, Nat.zero_le _⟩ (Nat.le_of_ble_eq_true rfl) rfl ?_
                obtain ⟨g48, hf⟩ := o_g hf
                refine wr_ldiv 187 C dX6_chance_187 (ok_nzL_ne g48) ?_
                exact wr_lret 188 C dX6_chance_188 ⟨Nat.zero_le _, Nat.zero_le _⟩ (Option.some.inj hf)
              refine wr_if_ne 172 179 C dX6_chance_172 (by decide) (fun c49 => ?_) (fun c49 => ?_)
              · replace hf := o_neg c49 hf
                refine wr_lload 179 C dX6_chance_179 2 rfl ?_
                refine wr_sub [(2, .long x41), (4, .long x42)] [1, 2] rfl ?_
                exact hJchance181 x42 μ40 hf
              · replace hf := o_pos c49 hf
                refine wr_lload_n 175 C dX6_chance_175 1 rfl rfl ?_
                refine wr_goto 176 C dX6_chance_176 (tgt := 181) (by decide) ?_
                refine wr_sub [(2, .long x41), (4, .long x42)] [1, 2] rfl ?_
                exact hJchance181 x41 μ40 hf
          · replace hf := o_neg c25 hf
            refine wr_ldc2 94 C dX6_chance_94 q1606 ?_
            exact wr_lret 97 C dX6_chance_97 ⟨Nat.zero_le _, Nat.zero_le _⟩ (Option.some.inj hf)
      · replace hf := o_pos c14 hf
        refine wr_ldc2 34 C dX6_chance_34 q1606 ?_
        exact wr_lret 37 C dX6_chance_37 ⟨Nat.zero_le _, Nat.zero_le _⟩ (Option.some.inj hf)
    · replace hf := o_pos c10 hf
      refine wr_sub [] [] rfl ?_
      exact hJchance22  μ8 hf
abbrev cX6_states : ByteArray := prog_11_method_91_code
def yX6_states : MethodName := ⟨RX6, "states", "()I"⟩
def dkwX6_states_1 : List UInt8 := [172]
abbrev dktX6_states_1 : List UInt8 := dkwX6_states_1 ++ []
def dkwX6_states_0 : List UInt8 := [42, 3, 181, 0, 88, 42, 182, 1, 67, 154, 0, 6, 16, 254, 172, 42, 3, 182, 1, 111, 42, 180, 1, 83]
abbrev dktX6_states_0 : List UInt8 := dkwX6_states_0 ++ dktX6_states_1
theorem dksX6_states_0 : cX6_states.data.toList.drop 0 = dktX6_states_0 := by decide +kernel
theorem dksX6_states_1 : cX6_states.data.toList.drop 24 = dktX6_states_1 := dk_seg dksX6_states_0 24 rfl rfl
theorem dX6_states_0 : decode cX6_states 0 = .ok (.aload_n 0, 1) := dk_42 (dk_at dksX6_states_0 0 rfl rfl)
theorem dX6_states_1 : decode cX6_states 1 = .ok (.iconst 0, 1) := dk_3 (dk_at dksX6_states_0 1 rfl rfl)
theorem dX6_states_2 : decode cX6_states 2 = .ok (.putfield 88, 3) := dk_181 0 88 (dk_at dksX6_states_0 2 rfl rfl)
theorem dX6_states_5 : decode cX6_states 5 = .ok (.aload_n 0, 1) := dk_42 (dk_at dksX6_states_0 5 rfl rfl)
theorem dX6_states_6 : decode cX6_states 6 = .ok (.invokevirtual 323, 3) := dk_182 1 67 (dk_at dksX6_states_0 6 rfl rfl)
theorem dX6_states_9 : decode cX6_states 9 = .ok (.ifCond .ne 6, 3) := dk_154 0 6 (dk_at dksX6_states_0 9 rfl rfl)
theorem dX6_states_12 : decode cX6_states 12 = .ok (.bipush (-2), 2) := dk_16 254 (dk_at dksX6_states_0 12 rfl rfl)
theorem dX6_states_14 : decode cX6_states 14 = .ok (.ireturn, 1) := dk_172 (dk_at dksX6_states_0 14 rfl rfl)
theorem dX6_states_15 : decode cX6_states 15 = .ok (.aload_n 0, 1) := dk_42 (dk_at dksX6_states_0 15 rfl rfl)
theorem dX6_states_16 : decode cX6_states 16 = .ok (.iconst 0, 1) := dk_3 (dk_at dksX6_states_0 16 rfl rfl)
theorem dX6_states_17 : decode cX6_states 17 = .ok (.invokevirtual 367, 3) := dk_182 1 111 (dk_at dksX6_states_0 17 rfl rfl)
theorem dX6_states_20 : decode cX6_states 20 = .ok (.aload_n 0, 1) := dk_42 (dk_at dksX6_states_0 20 rfl rfl)
theorem dX6_states_21 : decode cX6_states 21 = .ok (.getfield 339, 3) := dk_180 1 83 (dk_at dksX6_states_0 21 rfl rfl)
theorem dX6_states_24 : decode cX6_states 24 = .ok (.ireturn, 1) := dk_172 (dk_at dksX6_states_1 0 rfl rfl)

theorem okX6_states : wOkV yX6_states cX6_states 1 (some .int) 0 := ⟨q1911, q1912, q145, q1913, by decide, by decide, by decide +kernel⟩
def fX6_states (N : Nat)   (μ : wMem) : Option (Int32 × wMem) :=
  wLet (wSI μ 0 0 (0 : Int32)) fun μ1 => wBind (fX6_isFamily N   μ1) fun v4 μ3 => if v4 = 0 then some ((-2), μ3) else wBindV (fX6_explores N  0 μ3) fun μ7 => some (μ7.1 0 34, μ7)
set_option maxHeartbeats 4000000 in
set_option maxRecDepth 100000 in
theorem tX6_states (l : Launch) {D : va_G} {E : List wCell} {q : Nat → Nat} {ca : wCA} (N : Nat)    (μ : wMem) (r0 : (Int32 × wMem)) (hf : fX6_states N   μ = some r0) : wMi l yX6_states cX6_states 1 (some .int) ({ frames := 6, cells := 0, slots := 0, locals := 140 } : Room) D vwCl (spM ++ E) q ca [.ref (q 0)] μ r0 := by
  refine wMi_intro (by decide) (Nat.le_of_ble_eq_true rfl) ?_
  intro p e s m args below meth c A C
  unfold fX6_states at hf
  refine wr_sub [(0, .ref (q 0))] [0] rfl ?_
  refine wr_aload_n 0 C dX6_states_0 0 rfl rfl ?_
  refine wr_iconst 1 C dX6_states_1 (v := 0) rfl ?_
  obtain ⟨μ1, eμ1, hf⟩ := o_let hf
  refine puspM_0_0_X6 2 C dX6_states_2 eμ1 ?_
  refine wr_aload_n 5 C dX6_states_5 0 rfl rfl ?_
  obtain ⟨v4, μ3, h2, hf⟩ := o_bind hf
  refine wr_Vi (kc1 := 0) (ks1 := 0) 6 [] C dX6_states_6 (tX6_isFamily l N    μ1 (v4, μ3) h2) okX6_isFamily q1750 (b := 0) spM_0 rfl ⟨rfl, rfl, Nat.le_of_ble_eq_true rfl, Nat.le_of_ble_eq_true rfl, Nat.zero_le _, Nat.zero_le _⟩ (Nat.le_of_ble_eq_true rfl) rfl ?_
  refine wr_if_ne 9 15 C dX6_states_9 (by decide) (fun c5 => ?_) (fun c5 => ?_)
  · replace hf := o_neg c5 hf
    refine wr_aload_n 15 C dX6_states_15 0 rfl rfl ?_
    refine wr_iconst 16 C dX6_states_16 (v := 0) rfl ?_
    obtain ⟨μ7, h6, hf⟩ := o_bindV hf
    refine wr_Vv (kc1 := 0) (ks1 := 0) 17 [] C dX6_states_17 (tX6_explores l N   0 μ3 μ7 h6) okX6_explores q1845 (b := 0) spM_0 rfl ⟨rfl, rfl, Nat.le_of_ble_eq_true rfl, Nat.le_of_ble_eq_true rfl, Nat.zero_le _, Nat.zero_le _⟩ (Nat.le_of_ble_eq_true rfl) rfl ?_
    refine wr_aload_n 20 C dX6_states_20 0 rfl rfl ?_
    refine gespM_0_34_X6 21 C dX6_states_21 ?_
    exact wr_iret 24 C dX6_states_24 ⟨Nat.zero_le _, Nat.zero_le _⟩ (Option.some.inj hf)
  · replace hf := o_pos c5 hf
    refine wr_bipush 12 C dX6_states_12 (v := (-2)) rfl ?_
    exact wr_iret 14 C dX6_states_14 ⟨Nat.zero_le _, Nat.zero_le _⟩ (Option.some.inj hf)
abbrev cX6_hopeful : ByteArray := prog_11_method_92_code
def yX6_hopeful : MethodName := ⟨RX6, "hopeful", "()I"⟩
def dkwX6_hopeful_2 : List UInt8 := [28, 46, 46, 19, 1, 101, 159, 0, 7, 4, 167, 0, 4, 3, 96, 60, 132, 2, 1, 167, 255, 220, 27, 172]
abbrev dktX6_hopeful_2 : List UInt8 := dkwX6_hopeful_2 ++ []
def dkwX6_hopeful_1 : List UInt8 := [182, 1, 114, 3, 60, 3, 61, 28, 42, 180, 1, 83, 162, 0, 34, 27, 42, 180, 0, 63, 42, 180, 0, 60]
abbrev dktX6_hopeful_1 : List UInt8 := dkwX6_hopeful_1 ++ dktX6_hopeful_2
def dkwX6_hopeful_0 : List UInt8 := [42, 3, 181, 0, 88, 42, 182, 1, 67, 154, 0, 6, 16, 254, 172, 42, 3, 182, 1, 111, 42, 3, 3, 3]
abbrev dktX6_hopeful_0 : List UInt8 := dkwX6_hopeful_0 ++ dktX6_hopeful_1
theorem dksX6_hopeful_0 : cX6_hopeful.data.toList.drop 0 = dktX6_hopeful_0 := by decide +kernel
theorem dksX6_hopeful_1 : cX6_hopeful.data.toList.drop 24 = dktX6_hopeful_1 := dk_seg dksX6_hopeful_0 24 rfl rfl
theorem dksX6_hopeful_2 : cX6_hopeful.data.toList.drop 48 = dktX6_hopeful_2 := dk_seg dksX6_hopeful_1 24 rfl rfl
theorem dX6_hopeful_0 : decode cX6_hopeful 0 = .ok (.aload_n 0, 1) := dk_42 (dk_at dksX6_hopeful_0 0 rfl rfl)
theorem dX6_hopeful_1 : decode cX6_hopeful 1 = .ok (.iconst 0, 1) := dk_3 (dk_at dksX6_hopeful_0 1 rfl rfl)
theorem dX6_hopeful_2 : decode cX6_hopeful 2 = .ok (.putfield 88, 3) := dk_181 0 88 (dk_at dksX6_hopeful_0 2 rfl rfl)
theorem dX6_hopeful_5 : decode cX6_hopeful 5 = .ok (.aload_n 0, 1) := dk_42 (dk_at dksX6_hopeful_0 5 rfl rfl)
theorem dX6_hopeful_6 : decode cX6_hopeful 6 = .ok (.invokevirtual 323, 3) := dk_182 1 67 (dk_at dksX6_hopeful_0 6 rfl rfl)
theorem dX6_hopeful_9 : decode cX6_hopeful 9 = .ok (.ifCond .ne 6, 3) := dk_154 0 6 (dk_at dksX6_hopeful_0 9 rfl rfl)
theorem dX6_hopeful_12 : decode cX6_hopeful 12 = .ok (.bipush (-2), 2) := dk_16 254 (dk_at dksX6_hopeful_0 12 rfl rfl)
theorem dX6_hopeful_14 : decode cX6_hopeful 14 = .ok (.ireturn, 1) := dk_172 (dk_at dksX6_hopeful_0 14 rfl rfl)
theorem dX6_hopeful_15 : decode cX6_hopeful 15 = .ok (.aload_n 0, 1) := dk_42 (dk_at dksX6_hopeful_0 15 rfl rfl)
theorem dX6_hopeful_16 : decode cX6_hopeful 16 = .ok (.iconst 0, 1) := dk_3 (dk_at dksX6_hopeful_0 16 rfl rfl)
theorem dX6_hopeful_17 : decode cX6_hopeful 17 = .ok (.invokevirtual 367, 3) := dk_182 1 111 (dk_at dksX6_hopeful_0 17 rfl rfl)
theorem dX6_hopeful_20 : decode cX6_hopeful 20 = .ok (.aload_n 0, 1) := dk_42 (dk_at dksX6_hopeful_0 20 rfl rfl)
theorem dX6_hopeful_21 : decode cX6_hopeful 21 = .ok (.iconst 0, 1) := dk_3 (dk_at dksX6_hopeful_0 21 rfl rfl)
theorem dX6_hopeful_22 : decode cX6_hopeful 22 = .ok (.iconst 0, 1) := dk_3 (dk_at dksX6_hopeful_0 22 rfl rfl)
theorem dX6_hopeful_23 : decode cX6_hopeful 23 = .ok (.iconst 0, 1) := dk_3 (dk_at dksX6_hopeful_0 23 rfl rfl)
theorem dX6_hopeful_24 : decode cX6_hopeful 24 = .ok (.invokevirtual 370, 3) := dk_182 1 114 (dk_at dksX6_hopeful_1 0 rfl rfl)
theorem dX6_hopeful_27 : decode cX6_hopeful 27 = .ok (.iconst 0, 1) := dk_3 (dk_at dksX6_hopeful_1 3 rfl rfl)
theorem dX6_hopeful_28 : decode cX6_hopeful 28 = .ok (.istore_n 1, 1) := dk_60 (dk_at dksX6_hopeful_1 4 rfl rfl)
theorem dX6_hopeful_29 : decode cX6_hopeful 29 = .ok (.iconst 0, 1) := dk_3 (dk_at dksX6_hopeful_1 5 rfl rfl)
theorem dX6_hopeful_30 : decode cX6_hopeful 30 = .ok (.istore_n 2, 1) := dk_61 (dk_at dksX6_hopeful_1 6 rfl rfl)
theorem dX6_hopeful_31 : decode cX6_hopeful 31 = .ok (.iload_n 2, 1) := dk_28 (dk_at dksX6_hopeful_1 7 rfl rfl)
theorem dX6_hopeful_32 : decode cX6_hopeful 32 = .ok (.aload_n 0, 1) := dk_42 (dk_at dksX6_hopeful_1 8 rfl rfl)
theorem dX6_hopeful_33 : decode cX6_hopeful 33 = .ok (.getfield 339, 3) := dk_180 1 83 (dk_at dksX6_hopeful_1 9 rfl rfl)
theorem dX6_hopeful_36 : decode cX6_hopeful 36 = .ok (.if_icmp .ge 34, 3) := dk_162 0 34 (dk_at dksX6_hopeful_1 12 rfl rfl)
theorem dX6_hopeful_39 : decode cX6_hopeful 39 = .ok (.iload_n 1, 1) := dk_27 (dk_at dksX6_hopeful_1 15 rfl rfl)
theorem dX6_hopeful_40 : decode cX6_hopeful 40 = .ok (.aload_n 0, 1) := dk_42 (dk_at dksX6_hopeful_1 16 rfl rfl)
theorem dX6_hopeful_41 : decode cX6_hopeful 41 = .ok (.getfield 63, 3) := dk_180 0 63 (dk_at dksX6_hopeful_1 17 rfl rfl)
theorem dX6_hopeful_44 : decode cX6_hopeful 44 = .ok (.aload_n 0, 1) := dk_42 (dk_at dksX6_hopeful_1 20 rfl rfl)
theorem dX6_hopeful_45 : decode cX6_hopeful 45 = .ok (.getfield 60, 3) := dk_180 0 60 (dk_at dksX6_hopeful_1 21 rfl rfl)
theorem dX6_hopeful_48 : decode cX6_hopeful 48 = .ok (.iload_n 2, 1) := dk_28 (dk_at dksX6_hopeful_2 0 rfl rfl)
theorem dX6_hopeful_49 : decode cX6_hopeful 49 = .ok (.iaload, 1) := dk_46 (dk_at dksX6_hopeful_2 1 rfl rfl)
theorem dX6_hopeful_50 : decode cX6_hopeful 50 = .ok (.iaload, 1) := dk_46 (dk_at dksX6_hopeful_2 2 rfl rfl)
theorem dX6_hopeful_51 : decode cX6_hopeful 51 = .ok (.ldc_w 357, 3) := dk_19 1 101 (dk_at dksX6_hopeful_2 3 rfl rfl)
theorem dX6_hopeful_54 : decode cX6_hopeful 54 = .ok (.if_icmp .eq 7, 3) := dk_159 0 7 (dk_at dksX6_hopeful_2 6 rfl rfl)
theorem dX6_hopeful_57 : decode cX6_hopeful 57 = .ok (.iconst 1, 1) := dk_4 (dk_at dksX6_hopeful_2 9 rfl rfl)
theorem dX6_hopeful_58 : decode cX6_hopeful 58 = .ok (.goto 4, 3) := dk_167 0 4 (dk_at dksX6_hopeful_2 10 rfl rfl)
theorem dX6_hopeful_61 : decode cX6_hopeful 61 = .ok (.iconst 0, 1) := dk_3 (dk_at dksX6_hopeful_2 13 rfl rfl)
theorem dX6_hopeful_62 : decode cX6_hopeful 62 = .ok (.iadd, 1) := dk_96 (dk_at dksX6_hopeful_2 14 rfl rfl)
theorem dX6_hopeful_63 : decode cX6_hopeful 63 = .ok (.istore_n 1, 1) := dk_60 (dk_at dksX6_hopeful_2 15 rfl rfl)
theorem dX6_hopeful_64 : decode cX6_hopeful 64 = .ok (.iinc 2 1, 3) := dk_132 2 1 (dk_at dksX6_hopeful_2 16 rfl rfl)
theorem dX6_hopeful_67 : decode cX6_hopeful 67 = .ok (.goto (-36), 3) := dk_167 255 220 (dk_at dksX6_hopeful_2 19 rfl rfl)
theorem dX6_hopeful_70 : decode cX6_hopeful 70 = .ok (.iload_n 1, 1) := dk_27 (dk_at dksX6_hopeful_2 22 rfl rfl)
theorem dX6_hopeful_71 : decode cX6_hopeful 71 = .ok (.ireturn, 1) := dk_172 (dk_at dksX6_hopeful_2 23 rfl rfl)

theorem okX6_hopeful : wOkV yX6_hopeful cX6_hopeful 3 (some .int) 0 := ⟨q1915, q1916, q145, q1917, by decide, by decide, by decide +kernel⟩
def gbX6_hopeful_31 (N : Nat)   (K : (Int32 → wMem → Option (Int32 × wMem))) (rec : (Int32 → Int32 → wMem → Option (Int32 × wMem))) (x1_ : Int32) (x2_ : Int32) (μ : wMem) : Option (Int32 × wMem) :=
  if (μ.1 0 34) ≤ x2_ then K x1_ μ else wG (ok_in x2_ 94080) (wG (ok_in (μ.1 15 (Int32.toNatClampNeg x2_)) 94080) (wLet (fun (v14 : Int32) (v15 : Int32) (μ13 : wMem) => wLet (v15 + v14 : Int32) fun x16 => wLet (x2_ + 1 : Int32) fun x17 => rec x16 x17 μ13) fun Jhopeful62 => if (μ.1 16 (Int32.toNatClampNeg (μ.1 15 (Int32.toNatClampNeg x2_)))) = (2000000000 : Int32) then Jhopeful62 0 x1_ μ else Jhopeful62 1 x1_ μ))
def gX6_hopeful_31 (N : Nat)   (K : (Int32 → wMem → Option (Int32 × wMem))) : Nat → (Int32 → Int32 → wMem → Option (Int32 × wMem))
  | 0 => fun _ _ _ => none
  | k + 1 => gbX6_hopeful_31 N   K (gX6_hopeful_31 N   K k)
set_option maxHeartbeats 4000000 in
set_option maxRecDepth 100000 in
theorem tX6_hopeful_31 {p : Program} {l : Launch} {e : Env} {s : State} {m : MethodId} {args : Array Value} {below : List Frame} {meth : Method} {c : Code} {D : va_G} {E : List wCell} {q : Nat → Nat} {ca : wCA} {A : Nat → Prop} (C : wC p ({ frames := 7, cells := 0, slots := 0, locals := 165 } : Room) s m args meth c cX6_hopeful yX6_hopeful.cls 3 (some .int) D vwCl (spM ++ E) q ca A) (N : Nat)    (K : (Int32 → wMem → Option (Int32 × wMem))) (r0 : (Int32 × wMem)) (hK : ∀ (y1_ : Int32) (μ : wMem), K y1_ μ = some r0 → wJ p l e ({ frames := 7, cells := 0, slots := 0, locals := 165 } : Room) s m args below meth c 3 D vwCl (spM ++ E) q ca A (wQi ({ frames := 7, cells := 0, slots := 0, locals := 165 } : Room) D vwCl (spM ++ E) q ca below args s A r0) 0 0 μ 70 [(1, .int y1_)] []) : ∀ (k : Nat) (x1_ : Int32) (x2_ : Int32) (μ : wMem), gX6_hopeful_31 N   K k x1_ x2_ μ = some r0 → wJ p l e ({ frames := 7, cells := 0, slots := 0, locals := 165 } : Room) s m args below meth c 3 D vwCl (spM ++ E) q ca A (wQi ({ frames := 7, cells := 0, slots := 0, locals := 165 } : Room) D vwCl (spM ++ E) q ca below args s A r0) 0 0 μ 31 [(0, .ref (q 0)), (1, .int x1_), (2, .int x2_)] [] := by
  intro k
  induction k with
  | zero =>
    intro x1_ x2_ μ hf
    cases hf
  | succ k ih =>
    intro x1_ x2_ μ hf
    replace hf : gbX6_hopeful_31 N   K (gX6_hopeful_31 N   K k) x1_ x2_ μ = some r0 := hf
    unfold gbX6_hopeful_31 at hf
    refine wr_iload_n 31 C dX6_hopeful_31 2 rfl rfl ?_
    refine wr_aload_n 32 C dX6_hopeful_32 0 rfl rfl ?_
    refine gespM_0_34_X6 33 C dX6_hopeful_33 ?_
    refine wr_icmp_ge 36 70 C dX6_hopeful_36 (by decide) (fun c10 => ?_) (fun c10 => ?_)
    · replace hf := o_pos c10 hf
      refine wr_sub [(1, .int x1_)] [1] rfl ?_
      exact hK x1_ μ hf
    · replace hf := o_neg c10 hf
      refine wr_iload_n 39 C dX6_hopeful_39 1 rfl rfl ?_
      refine wr_aload_n 40 C dX6_hopeful_40 0 rfl rfl ?_
      refine gespM_0_35_X6 41 C dX6_hopeful_41 ?_
      refine wr_aload_n 44 C dX6_hopeful_44 0 rfl rfl ?_
      refine gespM_0_33_X6 45 C dX6_hopeful_45 ?_
      refine wr_iload_n 48 C dX6_hopeful_48 2 rfl rfl ?_
      obtain ⟨g11, hf⟩ := o_g hf
      refine wr_iald 49 C dX6_hopeful_49 spM_15 g11 ?_
      obtain ⟨g12, hf⟩ := o_g hf
      refine wr_iald 50 C dX6_hopeful_50 spM_16 g12 ?_
      refine wr_ldcw 51 C dX6_hopeful_51 q1857 ?_
      obtain ⟨Jhopeful62, eJhopeful62, hf⟩ := o_let hf
      have hJhopeful62 : ∀ (v14 : Int32) (v15 : Int32) (μ13 : wMem), Jhopeful62 v14 v15 μ13 = some r0 → wJ p l e ({ frames := 7, cells := 0, slots := 0, locals := 165 } : Room) s m args below meth c 3 D vwCl (spM ++ E) q ca A (wQi ({ frames := 7, cells := 0, slots := 0, locals := 165 } : Room) D vwCl (spM ++ E) q ca below args s A r0) 0 0 μ13 62 [(0, .ref (q 0)), (2, .int x2_)] [.int v14, .int v15] := by
        intro v14 v15 μ13 hf
        rw [eJhopeful62] at hf
        refine wr_iadd 62 C dX6_hopeful_62 ?_
        obtain ⟨x16, ex16, hf⟩ := o_let hf
        refine wr_istore_n 63 [(1, .int x16), (0, .ref (q 0)), (2, .int x2_)] C dX6_hopeful_63 ex16 rfl (Nat.le_of_ble_eq_true rfl) rfl ?_
        obtain ⟨x17, ex17, hf⟩ := o_let hf
        refine wr_iinc 64 [(2, .int x17), (1, .int x16), (0, .ref (q 0))] C dX6_hopeful_64 2 rfl (ex17.trans rfl) (Nat.le_of_ble_eq_true rfl) rfl ?_
        refine wr_goto 67 C dX6_hopeful_67 (tgt := 31) (by decide) ?_
        refine wr_sub [(0, .ref (q 0)), (1, .int x16), (2, .int x17)] [2, 1, 0] rfl ?_
        exact ih x16 x17 μ13 hf
      refine wr_icmp_eq 54 61 C dX6_hopeful_54 (by decide) (fun c18 => ?_) (fun c18 => ?_)
      · replace hf := o_pos c18 hf
        refine wr_iconst 61 C dX6_hopeful_61 (v := 0) rfl ?_
        refine wr_sub [(0, .ref (q 0)), (2, .int x2_)] [0, 2] rfl ?_
        exact hJhopeful62 0 x1_ μ hf
      · replace hf := o_neg c18 hf
        refine wr_iconst 57 C dX6_hopeful_57 (v := 1) rfl ?_
        refine wr_goto 58 C dX6_hopeful_58 (tgt := 62) (by decide) ?_
        refine wr_sub [(0, .ref (q 0)), (2, .int x2_)] [0, 2] rfl ?_
        exact hJhopeful62 1 x1_ μ hf
def fX6_hopeful (N : Nat)   (μ : wMem) : Option (Int32 × wMem) :=
  wLet (wSI μ 0 0 (0 : Int32)) fun μ1 => wBind (fX6_isFamily N   μ1) fun v4 μ3 => if v4 = 0 then some ((-2), μ3) else wBindV (fX6_explores N  0 μ3) fun μ7 => wBindV (fX6_seeks N  0 0 0 μ7) fun μ9 => gX6_hopeful_31 N   (fun (x20 : Int32) (μ19 : wMem) => some (x20, μ19)) N 0 0 μ9
set_option maxHeartbeats 4000000 in
set_option maxRecDepth 100000 in
theorem tX6_hopeful (l : Launch) {D : va_G} {E : List wCell} {q : Nat → Nat} {ca : wCA} (N : Nat)    (μ : wMem) (r0 : (Int32 × wMem)) (hf : fX6_hopeful N   μ = some r0) : wMi l yX6_hopeful cX6_hopeful 3 (some .int) ({ frames := 7, cells := 0, slots := 0, locals := 165 } : Room) D vwCl (spM ++ E) q ca [.ref (q 0)] μ r0 := by
  refine wMi_intro (by decide) (Nat.le_of_ble_eq_true rfl) ?_
  intro p e s m args below meth c A C
  unfold fX6_hopeful at hf
  refine wr_sub [(0, .ref (q 0))] [0] rfl ?_
  refine wr_aload_n 0 C dX6_hopeful_0 0 rfl rfl ?_
  refine wr_iconst 1 C dX6_hopeful_1 (v := 0) rfl ?_
  obtain ⟨μ1, eμ1, hf⟩ := o_let hf
  refine puspM_0_0_X6 2 C dX6_hopeful_2 eμ1 ?_
  refine wr_aload_n 5 C dX6_hopeful_5 0 rfl rfl ?_
  obtain ⟨v4, μ3, h2, hf⟩ := o_bind hf
  refine wr_Vi (kc1 := 0) (ks1 := 0) 6 [] C dX6_hopeful_6 (tX6_isFamily l N    μ1 (v4, μ3) h2) okX6_isFamily q1750 (b := 0) spM_0 rfl ⟨rfl, rfl, Nat.le_of_ble_eq_true rfl, Nat.le_of_ble_eq_true rfl, Nat.zero_le _, Nat.zero_le _⟩ (Nat.le_of_ble_eq_true rfl) rfl ?_
  refine wr_if_ne 9 15 C dX6_hopeful_9 (by decide) (fun c5 => ?_) (fun c5 => ?_)
  · replace hf := o_neg c5 hf
    refine wr_aload_n 15 C dX6_hopeful_15 0 rfl rfl ?_
    refine wr_iconst 16 C dX6_hopeful_16 (v := 0) rfl ?_
    obtain ⟨μ7, h6, hf⟩ := o_bindV hf
    refine wr_Vv (kc1 := 0) (ks1 := 0) 17 [] C dX6_hopeful_17 (tX6_explores l N   0 μ3 μ7 h6) okX6_explores q1845 (b := 0) spM_0 rfl ⟨rfl, rfl, Nat.le_of_ble_eq_true rfl, Nat.le_of_ble_eq_true rfl, Nat.zero_le _, Nat.zero_le _⟩ (Nat.le_of_ble_eq_true rfl) rfl ?_
    refine wr_aload_n 20 C dX6_hopeful_20 0 rfl rfl ?_
    refine wr_iconst 21 C dX6_hopeful_21 (v := 0) rfl ?_
    refine wr_iconst 22 C dX6_hopeful_22 (v := 0) rfl ?_
    refine wr_iconst 23 C dX6_hopeful_23 (v := 0) rfl ?_
    obtain ⟨μ9, h8, hf⟩ := o_bindV hf
    refine wr_Vv (kc1 := 0) (ks1 := 0) 24 [] C dX6_hopeful_24 (tX6_seeks l N   0 0 0 μ7 μ9 h8) okX6_seeks q1849 (b := 0) spM_0 rfl ⟨rfl, rfl, Nat.le_of_ble_eq_true rfl, Nat.le_of_ble_eq_true rfl, Nat.zero_le _, Nat.zero_le _⟩ (Nat.le_of_ble_eq_true rfl) rfl ?_
    refine wr_iconst 27 C dX6_hopeful_27 (v := 0) rfl ?_
    refine wr_istore_n 28 [(1, .int 0), (0, .ref (q 0))] C dX6_hopeful_28 rfl rfl (Nat.le_of_ble_eq_true rfl) rfl ?_
    refine wr_iconst 29 C dX6_hopeful_29 (v := 0) rfl ?_
    refine wr_istore_n 30 [(2, .int 0), (1, .int 0), (0, .ref (q 0))] C dX6_hopeful_30 rfl rfl (Nat.le_of_ble_eq_true rfl) rfl ?_
    refine wr_sub [(0, .ref (q 0)), (1, .int 0), (2, .int 0)] [2, 1, 0] rfl ?_
    refine tX6_hopeful_31 C N    _ r0 (fun x20 μ19 hf => ?_) N 0 0 μ9 hf
    · replace hf := hf
      refine wr_iload_n 70 C dX6_hopeful_70 0 rfl rfl ?_
      exact wr_iret 71 C dX6_hopeful_71 ⟨Nat.zero_le _, Nat.zero_le _⟩ (Option.some.inj hf)
  · replace hf := o_pos c5 hf
    refine wr_bipush 12 C dX6_hopeful_12 (v := (-2)) rfl ?_
    exact wr_iret 14 C dX6_hopeful_14 ⟨Nat.zero_le _, Nat.zero_le _⟩ (Option.some.inj hf)
abbrev cX6_isSet : ByteArray := prog_11_method_93_code
def yX6_isSet : MethodName := ⟨RX6, "isSet", "(I)Z"⟩
def dkwX6_isSet_1 : List UInt8 := [153, 0, 7, 4, 167, 0, 4, 3, 172]
abbrev dktX6_isSet_1 : List UInt8 := dkwX6_isSet_1 ++ []
def dkwX6_isSet_0 : List UInt8 := [42, 182, 1, 67, 153, 0, 27, 27, 133, 9, 4, 42, 180, 0, 34, 5, 46, 120, 4, 100, 133, 184, 0, 93]
abbrev dktX6_isSet_0 : List UInt8 := dkwX6_isSet_0 ++ dktX6_isSet_1
theorem dksX6_isSet_0 : cX6_isSet.data.toList.drop 0 = dktX6_isSet_0 := by decide +kernel
theorem dksX6_isSet_1 : cX6_isSet.data.toList.drop 24 = dktX6_isSet_1 := dk_seg dksX6_isSet_0 24 rfl rfl
theorem dX6_isSet_0 : decode cX6_isSet 0 = .ok (.aload_n 0, 1) := dk_42 (dk_at dksX6_isSet_0 0 rfl rfl)
theorem dX6_isSet_1 : decode cX6_isSet 1 = .ok (.invokevirtual 323, 3) := dk_182 1 67 (dk_at dksX6_isSet_0 1 rfl rfl)
theorem dX6_isSet_4 : decode cX6_isSet 4 = .ok (.ifCond .eq 27, 3) := dk_153 0 27 (dk_at dksX6_isSet_0 4 rfl rfl)
theorem dX6_isSet_7 : decode cX6_isSet 7 = .ok (.iload_n 1, 1) := dk_27 (dk_at dksX6_isSet_0 7 rfl rfl)
theorem dX6_isSet_8 : decode cX6_isSet 8 = .ok (.i2l, 1) := dk_133 (dk_at dksX6_isSet_0 8 rfl rfl)
theorem dX6_isSet_9 : decode cX6_isSet 9 = .ok (.lconst 0, 1) := dk_9 (dk_at dksX6_isSet_0 9 rfl rfl)
theorem dX6_isSet_10 : decode cX6_isSet 10 = .ok (.iconst 1, 1) := dk_4 (dk_at dksX6_isSet_0 10 rfl rfl)
theorem dX6_isSet_11 : decode cX6_isSet 11 = .ok (.aload_n 0, 1) := dk_42 (dk_at dksX6_isSet_0 11 rfl rfl)
theorem dX6_isSet_12 : decode cX6_isSet 12 = .ok (.getfield 34, 3) := dk_180 0 34 (dk_at dksX6_isSet_0 12 rfl rfl)
theorem dX6_isSet_15 : decode cX6_isSet 15 = .ok (.iconst 2, 1) := dk_5 (dk_at dksX6_isSet_0 15 rfl rfl)
theorem dX6_isSet_16 : decode cX6_isSet 16 = .ok (.iaload, 1) := dk_46 (dk_at dksX6_isSet_0 16 rfl rfl)
theorem dX6_isSet_17 : decode cX6_isSet 17 = .ok (.ishl, 1) := dk_120 (dk_at dksX6_isSet_0 17 rfl rfl)
theorem dX6_isSet_18 : decode cX6_isSet 18 = .ok (.iconst 1, 1) := dk_4 (dk_at dksX6_isSet_0 18 rfl rfl)
theorem dX6_isSet_19 : decode cX6_isSet 19 = .ok (.isub, 1) := dk_100 (dk_at dksX6_isSet_0 19 rfl rfl)
theorem dX6_isSet_20 : decode cX6_isSet 20 = .ok (.i2l, 1) := dk_133 (dk_at dksX6_isSet_0 20 rfl rfl)
theorem dX6_isSet_21 : decode cX6_isSet 21 = .ok (.invokestatic 93, 3) := dk_184 0 93 (dk_at dksX6_isSet_0 21 rfl rfl)
theorem dX6_isSet_24 : decode cX6_isSet 24 = .ok (.ifCond .eq 7, 3) := dk_153 0 7 (dk_at dksX6_isSet_1 0 rfl rfl)
theorem dX6_isSet_27 : decode cX6_isSet 27 = .ok (.iconst 1, 1) := dk_4 (dk_at dksX6_isSet_1 3 rfl rfl)
theorem dX6_isSet_28 : decode cX6_isSet 28 = .ok (.goto 4, 3) := dk_167 0 4 (dk_at dksX6_isSet_1 4 rfl rfl)
theorem dX6_isSet_31 : decode cX6_isSet 31 = .ok (.iconst 0, 1) := dk_3 (dk_at dksX6_isSet_1 7 rfl rfl)
theorem dX6_isSet_32 : decode cX6_isSet 32 = .ok (.ireturn, 1) := dk_172 (dk_at dksX6_isSet_1 8 rfl rfl)

theorem okX6_isSet : wOkV yX6_isSet cX6_isSet 2 (some .boolean) 1 := ⟨q1924, qs119, q145, q1925, by decide, by decide, by decide +kernel⟩
def fX6_isSet (N : Nat)  (a1 : Int32) (μ : wMem) : Option (Int32 × wMem) :=
  wBind (fX6_isFamily N   μ) fun v3 μ2 => if v3 = 0 then some (0, μ2) else wG (ok_in (2 : Int32) 35) (wBind (fX6_in N  (Int32.toInt64 a1) 0 (Int32.toInt64 (((1 : Int32) <<< ((μ2.1 7 (Int32.toNatClampNeg (2 : Int32))) &&& 31)) - (1 : Int32))) μ2) fun v8 μ7 => if v8 = 0 then some (0, μ7) else some (1, μ7))
set_option maxHeartbeats 4000000 in
set_option maxRecDepth 100000 in
theorem tX6_isSet (l : Launch) {D : va_G} {E : List wCell} {q : Nat → Nat} {ca : wCA} (N : Nat)   (a1 : Int32) (μ : wMem) (r0 : (Int32 × wMem)) (hf : fX6_isSet N  a1 μ = some r0) : wMi l yX6_isSet cX6_isSet 2 (some .boolean) ({ frames := 1, cells := 0, slots := 0, locals := 25 } : Room) D vwCl (spM ++ E) q ca [.ref (q 0), .int a1] μ r0 := by
  refine wMi_intro (by decide) (Nat.le_of_ble_eq_true rfl) ?_
  intro p e s m args below meth c A C
  unfold fX6_isSet at hf
  refine wr_sub [(0, .ref (q 0)), (1, .int a1)] [0, 1] rfl ?_
  refine wr_aload_n 0 C dX6_isSet_0 0 rfl rfl ?_
  obtain ⟨v3, μ2, h1, hf⟩ := o_bind hf
  refine wr_Vi (kc1 := 0) (ks1 := 0) 1 [] C dX6_isSet_1 (tX6_isFamily l N    μ (v3, μ2) h1) okX6_isFamily q1750 (b := 0) spM_0 rfl ⟨rfl, rfl, Nat.le_of_ble_eq_true rfl, Nat.le_of_ble_eq_true rfl, Nat.zero_le _, Nat.zero_le _⟩ (Nat.le_of_ble_eq_true rfl) rfl ?_
  refine wr_if_eq 4 31 C dX6_isSet_4 (by decide) (fun c4 => ?_) (fun c4 => ?_)
  · replace hf := o_pos c4 hf
    refine wr_iconst 31 C dX6_isSet_31 (v := 0) rfl ?_
    exact wr_zret 32 C dX6_isSet_32 rfl ⟨Nat.zero_le _, Nat.zero_le _⟩ (Option.some.inj hf)
  · replace hf := o_neg c4 hf
    refine wr_iload_n 7 C dX6_isSet_7 1 rfl rfl ?_
    refine wr_i2l 8 C dX6_isSet_8 ?_
    refine wr_lconst 9 C dX6_isSet_9 (v := 0) rfl ?_
    refine wr_iconst 10 C dX6_isSet_10 (v := 1) rfl ?_
    refine wr_aload_n 11 C dX6_isSet_11 0 rfl rfl ?_
    refine gespM_0_17_X6 12 C dX6_isSet_12 ?_
    refine wr_iconst 15 C dX6_isSet_15 (v := 2) rfl ?_
    obtain ⟨g5, hf⟩ := o_g hf
    refine wr_iald 16 C dX6_isSet_16 spM_7 g5 ?_
    refine wr_ishl 17 C dX6_isSet_17 ?_
    refine wr_iconst 18 C dX6_isSet_18 (v := 1) rfl ?_
    refine wr_isub 19 C dX6_isSet_19 ?_
    refine wr_i2l 20 C dX6_isSet_20 ?_
    obtain ⟨v8, μ7, h6, hf⟩ := o_bind hf
    refine wr_Si (kc1 := 0) (ks1 := 0) 21 [] C dX6_isSet_21 (tX6_in l N   (Int32.toInt64 a1) 0 (Int32.toInt64 (((1 : Int32) <<< ((μ2.1 7 (Int32.toNatClampNeg (2 : Int32))) &&& 31)) - (1 : Int32))) μ2 (v8, μ7) h6) okX6_in q1552 ⟨rfl, rfl, Nat.le_of_ble_eq_true rfl, Nat.le_of_ble_eq_true rfl, Nat.zero_le _, Nat.zero_le _⟩ (Nat.le_of_ble_eq_true rfl) rfl ?_
    refine wr_if_eq 24 31 C dX6_isSet_24 (by decide) (fun c9 => ?_) (fun c9 => ?_)
    · replace hf := o_pos c9 hf
      refine wr_iconst 31 C dX6_isSet_31 (v := 0) rfl ?_
      exact wr_zret 32 C dX6_isSet_32 rfl ⟨Nat.zero_le _, Nat.zero_le _⟩ (Option.some.inj hf)
    · replace hf := o_neg c9 hf
      refine wr_iconst 27 C dX6_isSet_27 (v := 1) rfl ?_
      refine wr_goto 28 C dX6_isSet_28 (tgt := 32) (by decide) ?_
      exact wr_zret 32 C dX6_isSet_32 rfl ⟨Nat.zero_le _, Nat.zero_le _⟩ (Option.some.inj hf)
