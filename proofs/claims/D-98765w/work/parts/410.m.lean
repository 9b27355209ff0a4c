set_option maxRecDepth 100000
abbrev cX0_row : ByteArray := prog_1_method_121_code
def yX0_row : MethodName := ⟨RX0, "row", "(III)I"⟩
def dkwX0_row_1 : List UInt8 := [164, 0, 6, 16, 254, 172, 42, 180, 0, 85, 27, 50, 28, 29, 182, 1, 230, 3, 172, 58, 4, 16, 253, 172]
abbrev dktX0_row_1 : List UInt8 := dkwX0_row_1 ++ []
def dkwX0_row_0 : List UInt8 := [27, 184, 1, 123, 153, 0, 21, 28, 133, 9, 20, 1, 203, 184, 0, 103, 153, 0, 9, 29, 16, 60]
abbrev dktX0_row_0 : List UInt8 := dkwX0_row_0 ++ dktX0_row_1
theorem dksX0_row_0 : cX0_row.data.toList.drop 0 = dktX0_row_0 := by decide +kernel
theorem dksX0_row_1 : cX0_row.data.toList.drop 22 = dktX0_row_1 := dk_seg dksX0_row_0 22 rfl rfl
theorem dX0_row_0 : decode cX0_row 0 = .ok (.iload_n 1, 1) := dk_27 (dk_at dksX0_row_0 0 rfl rfl)
theorem dX0_row_1 : decode cX0_row 1 = .ok (.invokestatic 379, 3) := dk_184 1 123 (dk_at dksX0_row_0 1 rfl rfl)
theorem dX0_row_4 : decode cX0_row 4 = .ok (.ifCond .eq 21, 3) := dk_153 0 21 (dk_at dksX0_row_0 4 rfl rfl)
theorem dX0_row_7 : decode cX0_row 7 = .ok (.iload_n 2, 1) := dk_28 (dk_at dksX0_row_0 7 rfl rfl)
theorem dX0_row_8 : decode cX0_row 8 = .ok (.i2l, 1) := dk_133 (dk_at dksX0_row_0 8 rfl rfl)
theorem dX0_row_9 : decode cX0_row 9 = .ok (.lconst 0, 1) := dk_9 (dk_at dksX0_row_0 9 rfl rfl)
theorem dX0_row_10 : decode cX0_row 10 = .ok (.ldc2_w 459, 3) := dk_20 1 203 (dk_at dksX0_row_0 10 rfl rfl)
theorem dX0_row_13 : decode cX0_row 13 = .ok (.invokestatic 103, 3) := dk_184 0 103 (dk_at dksX0_row_0 13 rfl rfl)
theorem dX0_row_16 : decode cX0_row 16 = .ok (.ifCond .eq 9, 3) := dk_153 0 9 (dk_at dksX0_row_0 16 rfl rfl)
theorem dX0_row_19 : decode cX0_row 19 = .ok (.iload_n 3, 1) := dk_29 (dk_at dksX0_row_0 19 rfl rfl)
theorem dX0_row_20 : decode cX0_row 20 = .ok (.bipush 60, 2) := dk_16 60 (dk_at dksX0_row_0 20 rfl rfl)
theorem dX0_row_22 : decode cX0_row 22 = .ok (.if_icmp .le 6, 3) := dk_164 0 6 (dk_at dksX0_row_1 0 rfl rfl)
theorem dX0_row_25 : decode cX0_row 25 = .ok (.bipush (-2), 2) := dk_16 254 (dk_at dksX0_row_1 3 rfl rfl)
theorem dX0_row_27 : decode cX0_row 27 = .ok (.ireturn, 1) := dk_172 (dk_at dksX0_row_1 5 rfl rfl)
theorem dX0_row_28 : decode cX0_row 28 = .ok (.aload_n 0, 1) := dk_42 (dk_at dksX0_row_1 6 rfl rfl)
theorem dX0_row_29 : decode cX0_row 29 = .ok (.getfield 85, 3) := dk_180 0 85 (dk_at dksX0_row_1 7 rfl rfl)
theorem dX0_row_32 : decode cX0_row 32 = .ok (.iload_n 1, 1) := dk_27 (dk_at dksX0_row_1 10 rfl rfl)
theorem dX0_row_33 : decode cX0_row 33 = .ok (.aaload, 1) := dk_50 (dk_at dksX0_row_1 11 rfl rfl)
theorem dX0_row_34 : decode cX0_row 34 = .ok (.iload_n 2, 1) := dk_28 (dk_at dksX0_row_1 12 rfl rfl)
theorem dX0_row_35 : decode cX0_row 35 = .ok (.iload_n 3, 1) := dk_29 (dk_at dksX0_row_1 13 rfl rfl)
theorem dX0_row_36 : decode cX0_row 36 = .ok (.invokevirtual 486, 3) := dk_182 1 230 (dk_at dksX0_row_1 14 rfl rfl)
theorem dX0_row_39 : decode cX0_row 39 = .ok (.iconst 0, 1) := dk_3 (dk_at dksX0_row_1 17 rfl rfl)
theorem dX0_row_40 : decode cX0_row 40 = .ok (.ireturn, 1) := dk_172 (dk_at dksX0_row_1 18 rfl rfl)
theorem dX0_row_41 : decode cX0_row 41 = .ok (.astore 4, 2) := dk_58 4 (dk_at dksX0_row_1 19 rfl rfl)
theorem dX0_row_43 : decode cX0_row 43 = .ok (.bipush (-3), 2) := dk_16 253 (dk_at dksX0_row_1 21 rfl rfl)
theorem dX0_row_45 : decode cX0_row 45 = .ok (.ireturn, 1) := dk_172 (dk_at dksX0_row_1 23 rfl rfl)

abbrev hhX0_row : List (Nat × Nat × Nat × Nat) := [(28, 40, 41, 489)]
theorem okX0_row : wOkVW yX0_row cX0_row 5 (some .int) hhX0_row 3 := ⟨q1309, q1310, q136, q1311, by decide, by decide, by decide +kernel⟩
def foX0_row (N : Nat)  (a1 : Int32) (a2 : Int32) (a3 : Int32) (μ : wMem) : Option (Int32 × wMem) :=
  wBind (fX0_isSlot N  a1 μ) fun v3 μ2 => wLet (fun  (μ4 : wMem) => some ((-2), μ4)) fun Jrow25 => if v3 = 0 then Jrow25  μ2 else wBind (fX0_isIn N  (Int32.toInt64 a2) 0 3 μ2) fun v8 μ7 => if v8 = 0 then Jrow25  μ7 else if a3 ≤ (60 : Int32) then wG (ok_w a2) (wG (ok_neg a3) (some ((-3), μ7))) else Jrow25  μ7
set_option maxHeartbeats 4000000 in
set_option maxRecDepth 100000 in
theorem toX0_row (l : Launch) {D : va_G} {E : List wCell} {q : Nat → Nat} {ca : wCA} (hl : l.stackTraces = false) (hE : wSlots ca (spX ++ E)) (N : Nat)   (a1 : Int32) (a2 : Int32) (a3 : Int32) (μ : wMem) (r0 : (Int32 × wMem)) {f0 : Nat × Nat} (hi1 : ok_in a1 4 = true) (hb : (spX ++ E)[24 + a1.toNatClampNeg]? = some (.inl (5, [f0]))) (hf : foX0_row N  a1 a2 a3 μ = some r0) : wMiWZ l yX0_row cX0_row 5 (some .int) hhX0_row ({ frames := 9, cells := 3, slots := 54, locals := 10270 } : Room) D vwCl (spX ++ E) q ca [.ref (q 0), .int a1, .int a2, .int a3] μ r0 := by
  refine wMiWZ_intro (by decide) (Nat.le_of_ble_eq_true rfl) ?_
  intro p e s m args below meth c A C hZ hX
  unfold foX0_row at hf
  refine wr_sub [(0, .ref (q 0)), (1, .int a1), (2, .int a2), (3, .int a3)] [0, 1, 2, 3] rfl ?_
  refine wr_iload_n 0 C dX0_row_0 1 rfl rfl ?_
  obtain ⟨v3, μ2, h1, hf⟩ := o_bind hf
  refine wr_Si (kc1 := 0) (ks1 := 0) 1 [] C dX0_row_1 (tX0_isSlot l N   a1 μ (v3, μ2) h1) okX0_isSlot q1058 ⟨rfl, rfl, Nat.le_of_ble_eq_true rfl, Nat.le_of_ble_eq_true rfl, Nat.zero_le _, Nat.zero_le _⟩ (Nat.le_of_ble_eq_true rfl) rfl ?_
  obtain ⟨Jrow25, eJrow25, hf⟩ := o_let hf
  have hJrow25 : ∀  (μ4 : wMem), Jrow25  μ4 = some r0 → wJ p l e ({ frames := 9, cells := 3, slots := 54, locals := 10270 } : Room) s m args below meth c 5 D vwCl (spX ++ E) q ca A (wQi ({ frames := 9, cells := 3, slots := 54, locals := 10270 } : Room) D vwCl (spX ++ E) q ca below args s A r0) 0 0 μ4 25 [] [] := by
    intro  μ4 hf
    rw [eJrow25] at hf
    refine wr_bipush 25 C dX0_row_25 (v := (-2)) rfl ?_
    exact wr_iret 27 C dX0_row_27 ⟨Nat.le_of_ble_eq_true rfl, Nat.le_of_ble_eq_true rfl⟩ (Option.some.inj hf)
  refine wr_if_eq 4 25 C dX0_row_4 (by decide) (fun c5 => ?_) (fun c5 => ?_)
  · replace hf := o_pos c5 hf
    refine wr_sub [] [] rfl ?_
    exact hJrow25  μ2 hf
  · replace hf := o_neg c5 hf
    refine wr_iload_n 7 C dX0_row_7 2 rfl rfl ?_
    refine wr_i2l 8 C dX0_row_8 ?_
    refine wr_lconst 9 C dX0_row_9 (v := 0) rfl ?_
    refine wr_ldc2 10 C dX0_row_10 q1061 ?_
    obtain ⟨v8, μ7, h6, hf⟩ := o_bind hf
    refine wr_Si (kc1 := 0) (ks1 := 0) 13 [] C dX0_row_13 (tX0_isIn l N   (Int32.toInt64 a2) 0 3 μ2 (v8, μ7) h6) okX0_isIn q446 ⟨rfl, rfl, Nat.le_of_ble_eq_true rfl, Nat.le_of_ble_eq_true rfl, Nat.zero_le _, Nat.zero_le _⟩ (Nat.le_of_ble_eq_true rfl) rfl ?_
    refine wr_if_eq 16 25 C dX0_row_16 (by decide) (fun c9 => ?_) (fun c9 => ?_)
    · replace hf := o_pos c9 hf
      refine wr_sub [] [] rfl ?_
      exact hJrow25  μ7 hf
    · replace hf := o_neg c9 hf
      refine wr_iload_n 19 C dX0_row_19 3 rfl rfl ?_
      refine wr_bipush 20 C dX0_row_20 (v := 60) rfl ?_
      refine wr_icmp_le 22 28 C dX0_row_22 (by decide) (fun c10 => ?_) (fun c10 => ?_)
      · replace hf := o_pos c10 hf
        refine wr_aload_n 28 C dX0_row_28 0 rfl rfl ?_
        refine geX_slots 29 C dX0_row_29 ?_
        refine wr_iload_n 32 C dX0_row_32 1 rfl rfl ?_
        refine wr_aaldD 33 C dX0_row_33 5 hE.1 wRc_slots hE.2 hi1 (wRd_slots (ok_in4 hi1)) ?_
        refine wr_iload_n 34 C dX0_row_34 2 rfl rfl ?_
        refine wr_iload_n 35 C dX0_row_35 3 rfl rfl ?_
        obtain ⟨g11, hf⟩ := o_g hf
        obtain ⟨g12, hf⟩ := o_g hf
        refine wr_VX (kc1 := 3) (ks1 := 54) (As := [.int a2, .int a3]) 36 [] C dX0_row_36 (tX5_make_neg l hl hb g11 g12 μ7) okX5_make q1339 (b := (24 + a1.toNatClampNeg)) hb rfl hZ ⟨rfl, rfl, Nat.le_of_ble_eq_true rfl, Nat.le_of_ble_eq_true rfl, Nat.le_of_ble_eq_true rfl, Nat.le_of_ble_eq_true rfl⟩ (Nat.le_of_ble_eq_true rfl) rfl ?_
        intro H1 locs1 ls1 q9 ce g1 g2 g3 g4 g5 g6
        refine wr_catchX 36 C [] ⟨28, 40, 41, 489⟩ [] (hX.trans rfl) (fun z hz => nomatch hz) (by decide) (by decide) q1312 q1332 (fun q9 => ?_) g1 g2 g3 g4 g5 g6
        refine wr_astore 41 [(4, .ref q9), (0, .ref (q 0)), (1, .int a1), (2, .int a2), (3, .int a3)] C dX0_row_41 (x := q9) rfl (Nat.le_of_ble_eq_true rfl) rfl ?_
        refine wr_bipush 43 C dX0_row_43 (v := (-3)) rfl ?_
        exact wr_iret 45 C dX0_row_45 ⟨Nat.le_of_ble_eq_true rfl, Nat.le_of_ble_eq_true rfl⟩ (Option.some.inj hf)
      · replace hf := o_neg c10 hf
        refine wr_sub [] [] rfl ?_
        exact hJrow25  μ7 hf
