set_option maxRecDepth 100000
abbrev cX0_write : ByteArray := prog_1_method_122_code
def yX0_write : MethodName := ⟨RX0, "write", "(IIJ)I"⟩
def dkwX0_write_1 : List UInt8 := [58, 5, 16, 250, 172, 58, 5, 16, 249, 172]
abbrev dktX0_write_1 : List UInt8 := dkwX0_write_1 ++ []
def dkwX0_write_0 : List UInt8 := [27, 184, 1, 123, 154, 0, 6, 16, 254, 172, 42, 180, 0, 85, 27, 50, 28, 33, 182, 1, 235, 3, 172]
abbrev dktX0_write_0 : List UInt8 := dkwX0_write_0 ++ dktX0_write_1
theorem dksX0_write_0 : cX0_write.data.toList.drop 0 = dktX0_write_0 := by decide +kernel
theorem dksX0_write_1 : cX0_write.data.toList.drop 23 = dktX0_write_1 := dk_seg dksX0_write_0 23 rfl rfl
theorem dX0_write_0 : decode cX0_write 0 = .ok (.iload_n 1, 1) := dk_27 (dk_at dksX0_write_0 0 rfl rfl)
theorem dX0_write_1 : decode cX0_write 1 = .ok (.invokestatic 379, 3) := dk_184 1 123 (dk_at dksX0_write_0 1 rfl rfl)
theorem dX0_write_4 : decode cX0_write 4 = .ok (.ifCond .ne 6, 3) := dk_154 0 6 (dk_at dksX0_write_0 4 rfl rfl)
theorem dX0_write_7 : decode cX0_write 7 = .ok (.bipush (-2), 2) := dk_16 254 (dk_at dksX0_write_0 7 rfl rfl)
theorem dX0_write_9 : decode cX0_write 9 = .ok (.ireturn, 1) := dk_172 (dk_at dksX0_write_0 9 rfl rfl)
theorem dX0_write_10 : decode cX0_write 10 = .ok (.aload_n 0, 1) := dk_42 (dk_at dksX0_write_0 10 rfl rfl)
theorem dX0_write_11 : decode cX0_write 11 = .ok (.getfield 85, 3) := dk_180 0 85 (dk_at dksX0_write_0 11 rfl rfl)
theorem dX0_write_14 : decode cX0_write 14 = .ok (.iload_n 1, 1) := dk_27 (dk_at dksX0_write_0 14 rfl rfl)
theorem dX0_write_15 : decode cX0_write 15 = .ok (.aaload, 1) := dk_50 (dk_at dksX0_write_0 15 rfl rfl)
theorem dX0_write_16 : decode cX0_write 16 = .ok (.iload_n 2, 1) := dk_28 (dk_at dksX0_write_0 16 rfl rfl)
theorem dX0_write_17 : decode cX0_write 17 = .ok (.lload_n 3, 1) := dk_33 (dk_at dksX0_write_0 17 rfl rfl)
theorem dX0_write_18 : decode cX0_write 18 = .ok (.invokevirtual 491, 3) := dk_182 1 235 (dk_at dksX0_write_0 18 rfl rfl)
theorem dX0_write_21 : decode cX0_write 21 = .ok (.iconst 0, 1) := dk_3 (dk_at dksX0_write_0 21 rfl rfl)
theorem dX0_write_22 : decode cX0_write 22 = .ok (.ireturn, 1) := dk_172 (dk_at dksX0_write_0 22 rfl rfl)
theorem dX0_write_23 : decode cX0_write 23 = .ok (.astore 5, 2) := dk_58 5 (dk_at dksX0_write_1 0 rfl rfl)
theorem dX0_write_25 : decode cX0_write 25 = .ok (.bipush (-6), 2) := dk_16 250 (dk_at dksX0_write_1 2 rfl rfl)
theorem dX0_write_27 : decode cX0_write 27 = .ok (.ireturn, 1) := dk_172 (dk_at dksX0_write_1 4 rfl rfl)
theorem dX0_write_28 : decode cX0_write 28 = .ok (.astore 5, 2) := dk_58 5 (dk_at dksX0_write_1 5 rfl rfl)
theorem dX0_write_30 : decode cX0_write 30 = .ok (.bipush (-7), 2) := dk_16 249 (dk_at dksX0_write_1 7 rfl rfl)
theorem dX0_write_32 : decode cX0_write 32 = .ok (.ireturn, 1) := dk_172 (dk_at dksX0_write_1 9 rfl rfl)

abbrev hhX0_write : List (Nat × Nat × Nat × Nat) := [(10, 22, 23, 385), (10, 22, 28, 495)]
theorem okX0_write : wOkVW yX0_write cX0_write 6 (some .int) hhX0_write 3 := ⟨q1345, q1346, q136, q1347, by decide, by decide, by decide +kernel⟩
def fX0_write (N : Nat) (c0 t n : Nat)  (a1 : Int32) (a2 : Int32) (a3 : Int64) (μ : wMem) : Option (Int32 × wMem) :=
  wBind (fX0_isSlot N  a1 μ) fun v3 μ2 => if v3 = 0 then some ((-2), μ2) else wG (ok_in a2 n) (some (0, (wPut μ2 c0 t (Int32.toNatClampNeg a2) a3)))
set_option maxHeartbeats 4000000 in
set_option maxRecDepth 100000 in
theorem tX0_write (l : Launch) {D : va_G} {E : List wCell} {q : Nat → Nat} {ca : wCA} (hE : wSlots ca (spX ++ E)) (N : Nat) (c0 t n : Nat)   (a1 : Int32) (a2 : Int32) (a3 : Int64) (μ : wMem) (r0 : (Int32 × wMem)) (hi1 : ok_in a1 4 = true) (hb : (spX ++ E)[24 + a1.toNatClampNeg]? = some (.inl (5, [(2, c0)]))) (hr : wRow (spX ++ E) c0 t n) (hf : fX0_write N c0 t n  a1 a2 a3 μ = some r0) : wMiW l yX0_write cX0_write 6 (some .int) hhX0_write ({ frames := 2, cells := 0, slots := 0, locals := 45 } : Room) D vwCl (spX ++ E) q ca [.ref (q 0), .int a1, .int a2, .long a3] μ r0 := by
  refine wMiW_intro (by decide) (Nat.le_of_ble_eq_true rfl) ?_
  intro p e s m args below meth c A C hX
  unfold fX0_write at hf
  refine wr_sub [(0, .ref (q 0)), (1, .int a1), (2, .int a2), (3, .long a3)] [0, 1, 2, 3] rfl ?_
  refine wr_iload_n 0 C dX0_write_0 1 rfl rfl ?_
  obtain ⟨v3, μ2, h1, hf⟩ := o_bind hf
  refine wr_Si (kc1 := 0) (ks1 := 0) 1 [] C dX0_write_1 (tX0_isSlot l N   a1 μ (v3, μ2) h1) okX0_isSlot q1058 ⟨rfl, rfl, Nat.le_of_ble_eq_true rfl, Nat.le_of_ble_eq_true rfl, Nat.zero_le _, Nat.zero_le _⟩ (Nat.le_of_ble_eq_true rfl) rfl ?_
  refine wr_if_ne 4 10 C dX0_write_4 (by decide) (fun c4 => ?_) (fun c4 => ?_)
  · replace hf := o_neg c4 hf
    refine wr_aload_n 10 C dX0_write_10 0 rfl rfl ?_
    refine geX_slots 11 C dX0_write_11 ?_
    refine wr_iload_n 14 C dX0_write_14 1 rfl rfl ?_
    refine wr_aaldD 15 C dX0_write_15 5 hE.1 wRc_slots hE.2 hi1 (wRd_slots (ok_in4 hi1)) ?_
    refine wr_iload_n 16 C dX0_write_16 2 rfl rfl ?_
    refine wr_lload_n 17 C dX0_write_17 3 rfl rfl ?_
    obtain ⟨g5, hf⟩ := o_g hf
    refine wr_Vv (kc1 := 0) (ks1 := 0) (As := [.int a2, .long a3]) 18 [] C dX0_write_18 (tX5_put l hb hr g5 μ2) okX5_put q1367 (b := (24 + a1.toNatClampNeg)) hb rfl ⟨rfl, rfl, Nat.le_of_ble_eq_true rfl, Nat.le_of_ble_eq_true rfl, Nat.zero_le _, Nat.zero_le _⟩ (Nat.le_of_ble_eq_true rfl) rfl ?_
    refine wr_iconst 21 C dX0_write_21 (v := 0) rfl ?_
    exact wr_iret 22 C dX0_write_22 ⟨Nat.zero_le _, Nat.zero_le _⟩ (Option.some.inj hf)
  · replace hf := o_pos c4 hf
    refine wr_bipush 7 C dX0_write_7 (v := (-2)) rfl ?_
    exact wr_iret 9 C dX0_write_9 ⟨Nat.zero_le _, Nat.zero_le _⟩ (Option.some.inj hf)
