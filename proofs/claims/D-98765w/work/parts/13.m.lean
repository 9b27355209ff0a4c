set_option maxRecDepth 100000
abbrev cX6_noses : ByteArray := prog_11_method_41_code
def yX6_noses : MethodName := ⟨RX6, "noses", "(III)Z"⟩
def dkwX6_noses_2 : List UInt8 := [42, 180, 0, 43, 6, 29, 104, 4, 96, 46, 163, 0, 7, 4, 167, 0, 4, 3, 172]
abbrev dktX6_noses_2 : List UInt8 := dkwX6_noses_2 ++ []
def dkwX6_noses_1 : List UInt8 := [4, 100, 46, 100, 54, 4, 21, 4, 42, 180, 0, 43, 6, 29, 104, 4, 96, 46, 163, 0, 23, 21, 4, 116]
abbrev dktX6_noses_1 : List UInt8 := dkwX6_noses_1 ++ dktX6_noses_2
def dkwX6_noses_0 : List UInt8 := [28, 153, 0, 10, 28, 27, 4, 96, 160, 0, 5, 4, 172, 42, 180, 0, 40, 27, 46, 42, 180, 0, 40, 28]
abbrev dktX6_noses_0 : List UInt8 := dkwX6_noses_0 ++ dktX6_noses_1
theorem dksX6_noses_0 : cX6_noses.data.toList.drop 0 = dktX6_noses_0 := by decide +kernel
theorem dksX6_noses_1 : cX6_noses.data.toList.drop 24 = dktX6_noses_1 := dk_seg dksX6_noses_0 24 rfl rfl
theorem dksX6_noses_2 : cX6_noses.data.toList.drop 48 = dktX6_noses_2 := dk_seg dksX6_noses_1 24 rfl rfl
theorem dX6_noses_0 : decode cX6_noses 0 = .ok (.iload_n 2, 1) := dk_28 (dk_at dksX6_noses_0 0 rfl rfl)
theorem dX6_noses_1 : decode cX6_noses 1 = .ok (.ifCond .eq 10, 3) := dk_153 0 10 (dk_at dksX6_noses_0 1 rfl rfl)
theorem dX6_noses_4 : decode cX6_noses 4 = .ok (.iload_n 2, 1) := dk_28 (dk_at dksX6_noses_0 4 rfl rfl)
theorem dX6_noses_5 : decode cX6_noses 5 = .ok (.iload_n 1, 1) := dk_27 (dk_at dksX6_noses_0 5 rfl rfl)
theorem dX6_noses_6 : decode cX6_noses 6 = .ok (.iconst 1, 1) := dk_4 (dk_at dksX6_noses_0 6 rfl rfl)
theorem dX6_noses_7 : decode cX6_noses 7 = .ok (.iadd, 1) := dk_96 (dk_at dksX6_noses_0 7 rfl rfl)
theorem dX6_noses_8 : decode cX6_noses 8 = .ok (.if_icmp .ne 5, 3) := dk_160 0 5 (dk_at dksX6_noses_0 8 rfl rfl)
theorem dX6_noses_11 : decode cX6_noses 11 = .ok (.iconst 1, 1) := dk_4 (dk_at dksX6_noses_0 11 rfl rfl)
theorem dX6_noses_12 : decode cX6_noses 12 = .ok (.ireturn, 1) := dk_172 (dk_at dksX6_noses_0 12 rfl rfl)
theorem dX6_noses_13 : decode cX6_noses 13 = .ok (.aload_n 0, 1) := dk_42 (dk_at dksX6_noses_0 13 rfl rfl)
theorem dX6_noses_14 : decode cX6_noses 14 = .ok (.getfield 40, 3) := dk_180 0 40 (dk_at dksX6_noses_0 14 rfl rfl)
theorem dX6_noses_17 : decode cX6_noses 17 = .ok (.iload_n 1, 1) := dk_27 (dk_at dksX6_noses_0 17 rfl rfl)
theorem dX6_noses_18 : decode cX6_noses 18 = .ok (.iaload, 1) := dk_46 (dk_at dksX6_noses_0 18 rfl rfl)
theorem dX6_noses_19 : decode cX6_noses 19 = .ok (.aload_n 0, 1) := dk_42 (dk_at dksX6_noses_0 19 rfl rfl)
theorem dX6_noses_20 : decode cX6_noses 20 = .ok (.getfield 40, 3) := dk_180 0 40 (dk_at dksX6_noses_0 20 rfl rfl)
theorem dX6_noses_23 : decode cX6_noses 23 = .ok (.iload_n 2, 1) := dk_28 (dk_at dksX6_noses_0 23 rfl rfl)
theorem dX6_noses_24 : decode cX6_noses 24 = .ok (.iconst 1, 1) := dk_4 (dk_at dksX6_noses_1 0 rfl rfl)
theorem dX6_noses_25 : decode cX6_noses 25 = .ok (.isub, 1) := dk_100 (dk_at dksX6_noses_1 1 rfl rfl)
theorem dX6_noses_26 : decode cX6_noses 26 = .ok (.iaload, 1) := dk_46 (dk_at dksX6_noses_1 2 rfl rfl)
theorem dX6_noses_27 : decode cX6_noses 27 = .ok (.isub, 1) := dk_100 (dk_at dksX6_noses_1 3 rfl rfl)
theorem dX6_noses_28 : decode cX6_noses 28 = .ok (.istore 4, 2) := dk_54 4 (dk_at dksX6_noses_1 4 rfl rfl)
theorem dX6_noses_30 : decode cX6_noses 30 = .ok (.iload 4, 2) := dk_21 4 (dk_at dksX6_noses_1 6 rfl rfl)
theorem dX6_noses_32 : decode cX6_noses 32 = .ok (.aload_n 0, 1) := dk_42 (dk_at dksX6_noses_1 8 rfl rfl)
theorem dX6_noses_33 : decode cX6_noses 33 = .ok (.getfield 43, 3) := dk_180 0 43 (dk_at dksX6_noses_1 9 rfl rfl)
theorem dX6_noses_36 : decode cX6_noses 36 = .ok (.iconst 3, 1) := dk_6 (dk_at dksX6_noses_1 12 rfl rfl)
theorem dX6_noses_37 : decode cX6_noses 37 = .ok (.iload_n 3, 1) := dk_29 (dk_at dksX6_noses_1 13 rfl rfl)
theorem dX6_noses_38 : decode cX6_noses 38 = .ok (.imul, 1) := dk_104 (dk_at dksX6_noses_1 14 rfl rfl)
theorem dX6_noses_39 : decode cX6_noses 39 = .ok (.iconst 1, 1) := dk_4 (dk_at dksX6_noses_1 15 rfl rfl)
theorem dX6_noses_40 : decode cX6_noses 40 = .ok (.iadd, 1) := dk_96 (dk_at dksX6_noses_1 16 rfl rfl)
theorem dX6_noses_41 : decode cX6_noses 41 = .ok (.iaload, 1) := dk_46 (dk_at dksX6_noses_1 17 rfl rfl)
theorem dX6_noses_42 : decode cX6_noses 42 = .ok (.if_icmp .gt 23, 3) := dk_163 0 23 (dk_at dksX6_noses_1 18 rfl rfl)
theorem dX6_noses_45 : decode cX6_noses 45 = .ok (.iload 4, 2) := dk_21 4 (dk_at dksX6_noses_1 21 rfl rfl)
theorem dX6_noses_47 : decode cX6_noses 47 = .ok (.ineg, 1) := dk_116 (dk_at dksX6_noses_1 23 rfl rfl)
theorem dX6_noses_48 : decode cX6_noses 48 = .ok (.aload_n 0, 1) := dk_42 (dk_at dksX6_noses_2 0 rfl rfl)
theorem dX6_noses_49 : decode cX6_noses 49 = .ok (.getfield 43, 3) := dk_180 0 43 (dk_at dksX6_noses_2 1 rfl rfl)
theorem dX6_noses_52 : decode cX6_noses 52 = .ok (.iconst 3, 1) := dk_6 (dk_at dksX6_noses_2 4 rfl rfl)
theorem dX6_noses_53 : decode cX6_noses 53 = .ok (.iload_n 3, 1) := dk_29 (dk_at dksX6_noses_2 5 rfl rfl)
theorem dX6_noses_54 : decode cX6_noses 54 = .ok (.imul, 1) := dk_104 (dk_at dksX6_noses_2 6 rfl rfl)
theorem dX6_noses_55 : decode cX6_noses 55 = .ok (.iconst 1, 1) := dk_4 (dk_at dksX6_noses_2 7 rfl rfl)
theorem dX6_noses_56 : decode cX6_noses 56 = .ok (.iadd, 1) := dk_96 (dk_at dksX6_noses_2 8 rfl rfl)
theorem dX6_noses_57 : decode cX6_noses 57 = .ok (.iaload, 1) := dk_46 (dk_at dksX6_noses_2 9 rfl rfl)
theorem dX6_noses_58 : decode cX6_noses 58 = .ok (.if_icmp .gt 7, 3) := dk_163 0 7 (dk_at dksX6_noses_2 10 rfl rfl)
theorem dX6_noses_61 : decode cX6_noses 61 = .ok (.iconst 1, 1) := dk_4 (dk_at dksX6_noses_2 13 rfl rfl)
theorem dX6_noses_62 : decode cX6_noses 62 = .ok (.goto 4, 3) := dk_167 0 4 (dk_at dksX6_noses_2 14 rfl rfl)
theorem dX6_noses_65 : decode cX6_noses 65 = .ok (.iconst 0, 1) := dk_3 (dk_at dksX6_noses_2 17 rfl rfl)
theorem dX6_noses_66 : decode cX6_noses 66 = .ok (.ireturn, 1) := dk_172 (dk_at dksX6_noses_2 18 rfl rfl)

theorem okX6_noses : wOkV yX6_noses cX6_noses 5 (some .boolean) 3 := ⟨q1744, qs98, q145, q1745, by decide, by decide, by decide +kernel⟩
def fX6_noses (N : Nat)  (a1 : Int32) (a2 : Int32) (a3 : Int32) (μ : wMem) : Option (Int32 × wMem) :=
  if a2 = 0 then some (1, μ) else if a2 = (a1 + (1 : Int32)) then some (1, μ) else wG (ok_in a1 30) (wG (ok_in (a2 - (1 : Int32)) 30) (wLet ((μ.1 9 (Int32.toNatClampNeg a1)) - (μ.1 9 (Int32.toNatClampNeg (a2 - (1 : Int32)))) : Int32) fun x5 => wG (ok_in (((3 : Int32) * a3) + (1 : Int32)) 30) (if (μ.1 10 (Int32.toNatClampNeg (((3 : Int32) * a3) + (1 : Int32)))) < x5 then some (0, μ) else wG (ok_in (((3 : Int32) * a3) + (1 : Int32)) 30) (if (μ.1 10 (Int32.toNatClampNeg (((3 : Int32) * a3) + (1 : Int32)))) < (-x5) then some (0, μ) else some (1, μ)))))
set_option maxHeartbeats 4000000 in
set_option maxRecDepth 100000 in
theorem tX6_noses (l : Launch) {D : va_G} {E : List wCell} {q : Nat → Nat} {ca : wCA} (N : Nat)   (a1 : Int32) (a2 : Int32) (a3 : Int32) (μ : wMem) (r0 : (Int32 × wMem)) (hf : fX6_noses N  a1 a2 a3 μ = some r0) : wMi l yX6_noses cX6_noses 5 (some .boolean) ({ frames := 0, cells := 0, slots := 0, locals := 0 } : Room) D vwCl (spM ++ E) q ca [.ref (q 0), .int a1, .int a2, .int a3] μ r0 := by
  refine wMi_intro (by decide) (Nat.le_of_ble_eq_true rfl) ?_
  intro p e s m args below meth c A C
  unfold fX6_noses at hf
  refine wr_sub [(0, .ref (q 0)), (1, .int a1), (2, .int a2), (3, .int a3)] [0, 1, 2, 3] rfl ?_
  refine wr_iload_n 0 C dX6_noses_0 2 rfl rfl ?_
  refine wr_if_eq 1 11 C dX6_noses_1 (by decide) (fun c1 => ?_) (fun c1 => ?_)
  · replace hf := o_pos c1 hf
    refine wr_iconst 11 C dX6_noses_11 (v := 1) rfl ?_
    exact wr_zret 12 C dX6_noses_12 rfl ⟨Nat.zero_le _, Nat.zero_le _⟩ (Option.some.inj hf)
  · replace hf := o_neg c1 hf
    refine wr_iload_n 4 C dX6_noses_4 2 rfl rfl ?_
    refine wr_iload_n 5 C dX6_noses_5 1 rfl rfl ?_
    refine wr_iconst 6 C dX6_noses_6 (v := 1) rfl ?_
    refine wr_iadd 7 C dX6_noses_7 ?_
    refine wr_icmp_ne 8 13 C dX6_noses_8 (by decide) (fun c2 => ?_) (fun c2 => ?_)
    · replace hf := o_neg c2 hf
      refine wr_aload_n 13 C dX6_noses_13 0 rfl rfl ?_
      refine gespM_0_19_X6 14 C dX6_noses_14 ?_
      refine wr_iload_n 17 C dX6_noses_17 1 rfl rfl ?_
      obtain ⟨g3, hf⟩ := o_g hf
      refine wr_iald 18 C dX6_noses_18 spM_9 g3 ?_
      refine wr_aload_n 19 C dX6_noses_19 0 rfl rfl ?_
      refine gespM_0_19_X6 20 C dX6_noses_20 ?_
      refine wr_iload_n 23 C dX6_noses_23 2 rfl rfl ?_
      refine wr_iconst 24 C dX6_noses_24 (v := 1) rfl ?_
      refine wr_isub 25 C dX6_noses_25 ?_
      obtain ⟨g4, hf⟩ := o_g hf
      refine wr_iald 26 C dX6_noses_26 spM_9 g4 ?_
      refine wr_isub 27 C dX6_noses_27 ?_
      obtain ⟨x5, ex5, hf⟩ := o_let hf
      refine wr_istore 28 [(4, .int x5), (0, .ref (q 0)), (1, .int a1), (2, .int a2), (3, .int a3)] C dX6_noses_28 ex5 (Nat.le_of_ble_eq_true rfl) rfl ?_
      refine wr_iload 30 C dX6_noses_30 0 rfl ?_
      refine wr_aload_n 32 C dX6_noses_32 1 rfl rfl ?_
      refine gespM_0_20_X6 33 C dX6_noses_33 ?_
      refine wr_iconst 36 C dX6_noses_36 (v := 3) rfl ?_
      refine wr_iload_n 37 C dX6_noses_37 4 rfl rfl ?_
      refine wr_imul 38 C dX6_noses_38 ?_
      refine wr_iconst 39 C dX6_noses_39 (v := 1) rfl ?_
      refine wr_iadd 40 C dX6_noses_40 ?_
      obtain ⟨g6, hf⟩ := o_g hf
      refine wr_iald 41 C dX6_noses_41 spM_10 g6 ?_
      refine wr_icmp_gt 42 65 C dX6_noses_42 (by decide) (fun c7 => ?_) (fun c7 => ?_)
      · replace hf := o_pos c7 hf
        refine wr_iconst 65 C dX6_noses_65 (v := 0) rfl ?_
        exact wr_zret 66 C dX6_noses_66 rfl ⟨Nat.zero_le _, Nat.zero_le _⟩ (Option.some.inj hf)
      · replace hf := o_neg c7 hf
        refine wr_iload 45 C dX6_noses_45 0 rfl ?_
        refine wr_ineg 47 C dX6_noses_47 ?_
        refine wr_aload_n 48 C dX6_noses_48 1 rfl rfl ?_
        refine gespM_0_20_X6 49 C dX6_noses_49 ?_
        refine wr_iconst 52 C dX6_noses_52 (v := 3) rfl ?_
        refine wr_iload_n 53 C dX6_noses_53 4 rfl rfl ?_
        refine wr_imul 54 C dX6_noses_54 ?_
        refine wr_iconst 55 C dX6_noses_55 (v := 1) rfl ?_
        refine wr_iadd 56 C dX6_noses_56 ?_
        obtain ⟨g8, hf⟩ := o_g hf
        refine wr_iald 57 C dX6_noses_57 spM_10 g8 ?_
        refine wr_icmp_gt 58 65 C dX6_noses_58 (by decide) (fun c9 => ?_) (fun c9 => ?_)
        · replace hf := o_pos c9 hf
          refine wr_iconst 65 C dX6_noses_65 (v := 0) rfl ?_
          exact wr_zret 66 C dX6_noses_66 rfl ⟨Nat.zero_le _, Nat.zero_le _⟩ (Option.some.inj hf)
        · replace hf := o_neg c9 hf
          refine wr_iconst 61 C dX6_noses_61 (v := 1) rfl ?_
          refine wr_goto 62 C dX6_noses_62 (tgt := 66) (by decide) ?_
          exact wr_zret 66 C dX6_noses_66 rfl ⟨Nat.zero_le _, Nat.zero_le _⟩ (Option.some.inj hf)
    · replace hf := o_pos c2 hf
      refine wr_iconst 11 C dX6_noses_11 (v := 1) rfl ?_
      exact wr_zret 12 C dX6_noses_12 rfl ⟨Nat.zero_le _, Nat.zero_le _⟩ (Option.some.inj hf)
abbrev cX6_after : ByteArray := prog_11_method_59_code
def yX6_after : MethodName := ⟨RX6, "after", "(II)I"⟩
def dkwX6_after_3 : List UInt8 := [153, 0, 10, 4, 21, 4, 120, 167, 0, 4, 3, 128, 62, 132, 4, 1, 167, 255, 204, 29, 172]
abbrev dktX6_after_3 : List UInt8 := dkwX6_after_3 ++ []
def dkwX6_after_2 : List UInt8 := [180, 0, 34, 7, 46, 21, 4, 184, 0, 189, 154, 0, 23, 42, 21, 4, 27, 4, 96, 28, 182, 1, 0]
abbrev dktX6_after_2 : List UInt8 := dkwX6_after_2 ++ dktX6_after_3
def dkwX6_after_1 : List UInt8 := [154, 0, 6, 16, 254, 172, 3, 62, 3, 54, 4, 21, 4, 42, 180, 0, 34, 5, 46, 162, 0, 47, 29, 42]
abbrev dktX6_after_1 : List UInt8 := dkwX6_after_1 ++ dktX6_after_2
def dkwX6_after_0 : List UInt8 := [42, 3, 181, 0, 88, 27, 2, 159, 0, 11, 42, 27, 182, 1, 56, 153, 0, 11, 42, 28, 182, 1, 64]
abbrev dktX6_after_0 : List UInt8 := dkwX6_after_0 ++ dktX6_after_1
theorem dksX6_after_0 : cX6_after.data.toList.drop 0 = dktX6_after_0 := by decide +kernel
theorem dksX6_after_1 : cX6_after.data.toList.drop 23 = dktX6_after_1 := dk_seg dksX6_after_0 23 rfl rfl
theorem dksX6_after_2 : cX6_after.data.toList.drop 47 = dktX6_after_2 := dk_seg dksX6_after_1 24 rfl rfl
theorem dksX6_after_3 : cX6_after.data.toList.drop 70 = dktX6_after_3 := dk_seg dksX6_after_2 23 rfl rfl
theorem dX6_after_0 : decode cX6_after 0 = .ok (.aload_n 0, 1) := dk_42 (dk_at dksX6_after_0 0 rfl rfl)
theorem dX6_after_1 : decode cX6_after 1 = .ok (.iconst 0, 1) := dk_3 (dk_at dksX6_after_0 1 rfl rfl)
theorem dX6_after_2 : decode cX6_after 2 = .ok (.putfield 88, 3) := dk_181 0 88 (dk_at dksX6_after_0 2 rfl rfl)
theorem dX6_after_5 : decode cX6_after 5 = .ok (.iload_n 1, 1) := dk_27 (dk_at dksX6_after_0 5 rfl rfl)
theorem dX6_after_6 : decode cX6_after 6 = .ok (.iconst (-1), 1) := dk_2 (dk_at dksX6_after_0 6 rfl rfl)
theorem dX6_after_7 : decode cX6_after 7 = .ok (.if_icmp .eq 11, 3) := dk_159 0 11 (dk_at dksX6_after_0 7 rfl rfl)
theorem dX6_after_10 : decode cX6_after 10 = .ok (.aload_n 0, 1) := dk_42 (dk_at dksX6_after_0 10 rfl rfl)
theorem dX6_after_11 : decode cX6_after 11 = .ok (.iload_n 1, 1) := dk_27 (dk_at dksX6_after_0 11 rfl rfl)
theorem dX6_after_12 : decode cX6_after 12 = .ok (.invokevirtual 312, 3) := dk_182 1 56 (dk_at dksX6_after_0 12 rfl rfl)
theorem dX6_after_15 : decode cX6_after 15 = .ok (.ifCond .eq 11, 3) := dk_153 0 11 (dk_at dksX6_after_0 15 rfl rfl)
theorem dX6_after_18 : decode cX6_after 18 = .ok (.aload_n 0, 1) := dk_42 (dk_at dksX6_after_0 18 rfl rfl)
theorem dX6_after_19 : decode cX6_after 19 = .ok (.iload_n 2, 1) := dk_28 (dk_at dksX6_after_0 19 rfl rfl)
theorem dX6_after_20 : decode cX6_after 20 = .ok (.invokevirtual 320, 3) := dk_182 1 64 (dk_at dksX6_after_0 20 rfl rfl)
theorem dX6_after_23 : decode cX6_after 23 = .ok (.ifCond .ne 6, 3) := dk_154 0 6 (dk_at dksX6_after_1 0 rfl rfl)
theorem dX6_after_26 : decode cX6_after 26 = .ok (.bipush (-2), 2) := dk_16 254 (dk_at dksX6_after_1 3 rfl rfl)
theorem dX6_after_28 : decode cX6_after 28 = .ok (.ireturn, 1) := dk_172 (dk_at dksX6_after_1 5 rfl rfl)
theorem dX6_after_29 : decode cX6_after 29 = .ok (.iconst 0, 1) := dk_3 (dk_at dksX6_after_1 6 rfl rfl)
theorem dX6_after_30 : decode cX6_after 30 = .ok (.istore_n 3, 1) := dk_62 (dk_at dksX6_after_1 7 rfl rfl)
theorem dX6_after_31 : decode cX6_after 31 = .ok (.iconst 0, 1) := dk_3 (dk_at dksX6_after_1 8 rfl rfl)
theorem dX6_after_32 : decode cX6_after 32 = .ok (.istore 4, 2) := dk_54 4 (dk_at dksX6_after_1 9 rfl rfl)
theorem dX6_after_34 : decode cX6_after 34 = .ok (.iload 4, 2) := dk_21 4 (dk_at dksX6_after_1 11 rfl rfl)
theorem dX6_after_36 : decode cX6_after 36 = .ok (.aload_n 0, 1) := dk_42 (dk_at dksX6_after_1 13 rfl rfl)
theorem dX6_after_37 : decode cX6_after 37 = .ok (.getfield 34, 3) := dk_180 0 34 (dk_at dksX6_after_1 14 rfl rfl)
theorem dX6_after_40 : decode cX6_after 40 = .ok (.iconst 2, 1) := dk_5 (dk_at dksX6_after_1 17 rfl rfl)
theorem dX6_after_41 : decode cX6_after 41 = .ok (.iaload, 1) := dk_46 (dk_at dksX6_after_1 18 rfl rfl)
theorem dX6_after_42 : decode cX6_after 42 = .ok (.if_icmp .ge 47, 3) := dk_162 0 47 (dk_at dksX6_after_1 19 rfl rfl)
theorem dX6_after_45 : decode cX6_after 45 = .ok (.iload_n 3, 1) := dk_29 (dk_at dksX6_after_1 22 rfl rfl)
theorem dX6_after_46 : decode cX6_after 46 = .ok (.aload_n 0, 1) := dk_42 (dk_at dksX6_after_1 23 rfl rfl)
theorem dX6_after_47 : decode cX6_after 47 = .ok (.getfield 34, 3) := dk_180 0 34 (dk_at dksX6_after_2 0 rfl rfl)
theorem dX6_after_50 : decode cX6_after 50 = .ok (.iconst 4, 1) := dk_7 (dk_at dksX6_after_2 3 rfl rfl)
theorem dX6_after_51 : decode cX6_after 51 = .ok (.iaload, 1) := dk_46 (dk_at dksX6_after_2 4 rfl rfl)
theorem dX6_after_52 : decode cX6_after 52 = .ok (.iload 4, 2) := dk_21 4 (dk_at dksX6_after_2 5 rfl rfl)
theorem dX6_after_54 : decode cX6_after 54 = .ok (.invokestatic 189, 3) := dk_184 0 189 (dk_at dksX6_after_2 7 rfl rfl)
theorem dX6_after_57 : decode cX6_after 57 = .ok (.ifCond .ne 23, 3) := dk_154 0 23 (dk_at dksX6_after_2 10 rfl rfl)
theorem dX6_after_60 : decode cX6_after 60 = .ok (.aload_n 0, 1) := dk_42 (dk_at dksX6_after_2 13 rfl rfl)
theorem dX6_after_61 : decode cX6_after 61 = .ok (.iload 4, 2) := dk_21 4 (dk_at dksX6_after_2 14 rfl rfl)
theorem dX6_after_63 : decode cX6_after 63 = .ok (.iload_n 1, 1) := dk_27 (dk_at dksX6_after_2 16 rfl rfl)
theorem dX6_after_64 : decode cX6_after 64 = .ok (.iconst 1, 1) := dk_4 (dk_at dksX6_after_2 17 rfl rfl)
theorem dX6_after_65 : decode cX6_after 65 = .ok (.iadd, 1) := dk_96 (dk_at dksX6_after_2 18 rfl rfl)
theorem dX6_after_66 : decode cX6_after 66 = .ok (.iload_n 2, 1) := dk_28 (dk_at dksX6_after_2 19 rfl rfl)
theorem dX6_after_67 : decode cX6_after 67 = .ok (.invokevirtual 256, 3) := dk_182 1 0 (dk_at dksX6_after_2 20 rfl rfl)
theorem dX6_after_70 : decode cX6_after 70 = .ok (.ifCond .eq 10, 3) := dk_153 0 10 (dk_at dksX6_after_3 0 rfl rfl)
theorem dX6_after_73 : decode cX6_after 73 = .ok (.iconst 1, 1) := dk_4 (dk_at dksX6_after_3 3 rfl rfl)
theorem dX6_after_74 : decode cX6_after 74 = .ok (.iload 4, 2) := dk_21 4 (dk_at dksX6_after_3 4 rfl rfl)
theorem dX6_after_76 : decode cX6_after 76 = .ok (.ishl, 1) := dk_120 (dk_at dksX6_after_3 6 rfl rfl)
theorem dX6_after_77 : decode cX6_after 77 = .ok (.goto 4, 3) := dk_167 0 4 (dk_at dksX6_after_3 7 rfl rfl)
theorem dX6_after_80 : decode cX6_after 80 = .ok (.iconst 0, 1) := dk_3 (dk_at dksX6_after_3 10 rfl rfl)
theorem dX6_after_81 : decode cX6_after 81 = .ok (.ior, 1) := dk_128 (dk_at dksX6_after_3 11 rfl rfl)
theorem dX6_after_82 : decode cX6_after 82 = .ok (.istore_n 3, 1) := dk_62 (dk_at dksX6_after_3 12 rfl rfl)
theorem dX6_after_83 : decode cX6_after 83 = .ok (.iinc 4 1, 3) := dk_132 4 1 (dk_at dksX6_after_3 13 rfl rfl)
theorem dX6_after_86 : decode cX6_after 86 = .ok (.goto (-52), 3) := dk_167 255 204 (dk_at dksX6_after_3 16 rfl rfl)
theorem dX6_after_89 : decode cX6_after 89 = .ok (.iload_n 3, 1) := dk_29 (dk_at dksX6_after_3 19 rfl rfl)
theorem dX6_after_90 : decode cX6_after 90 = .ok (.ireturn, 1) := dk_172 (dk_at dksX6_after_3 20 rfl rfl)

theorem okX6_after : wOkV yX6_after cX6_after 5 (some .int) 2 := ⟨q1739, q1740, q145, q1741, by decide, by decide, by decide +kernel⟩
def gbX6_after_34 (N : Nat)  (x1_ : Int32) (x2_ : Int32) (K : (Int32 → wMem → Option (Int32 × wMem))) (rec : (Int32 → Int32 → wMem → Option (Int32 × wMem))) (x3_ : Int32) (x4_ : Int32) (μ : wMem) : Option (Int32 × wMem) :=
  wG (ok_in (2 : Int32) 35) (if (μ.1 7 (Int32.toNatClampNeg (2 : Int32))) ≤ x4_ then K x3_ μ else wG (ok_in (4 : Int32) 35) (wBind (fX6_isBit N  (μ.1 7 (Int32.toNatClampNeg (4 : Int32))) x4_ μ) fun v13 μ12 => wLet (fun (v15 : Int32) (v16 : Int32) (μ14 : wMem) => wLet (v16 ||| v15 : Int32) fun x17 => wLet (x4_ + 1 : Int32) fun x18 => rec x17 x18 μ14) fun Jafter81 => wLet (fun (v20 : Int32) (μ19 : wMem) => Jafter81 0 v20 μ19) fun Jafter80 => if v13 = 0 then wBind (fX6_noses N  x4_ (x1_ + (1 : Int32)) x2_ μ12) fun v24 μ23 => if v24 = 0 then Jafter80 x3_ μ23 else Jafter81 ((1 : Int32) <<< (x4_ &&& 31)) x3_ μ23 else Jafter80 x3_ μ12))
def gX6_after_34 (N : Nat)  (x1_ : Int32) (x2_ : Int32) (K : (Int32 → wMem → Option (Int32 × wMem))) : Nat → (Int32 → Int32 → wMem → Option (Int32 × wMem))
  | 0 => fun _ _ _ => none
  | k + 1 => gbX6_after_34 N  x1_ x2_ K (gX6_after_34 N  x1_ x2_ K k)
set_option maxHeartbeats 4000000 in
set_option maxRecDepth 100000 in
theorem tX6_after_34 {p : Program} {l : Launch} {e : Env} {s : State} {m : MethodId} {args : Array Value} {below : List Frame} {meth : Method} {c : Code} {D : va_G} {E : List wCell} {q : Nat → Nat} {ca : wCA} {A : Nat → Prop} (C : wC p ({ frames := 2, cells := 0, slots := 0, locals := 46 } : Room) s m args meth c cX6_after yX6_after.cls 5 (some .int) D vwCl (spM ++ E) q ca A) (N : Nat)   (x1_ : Int32) (x2_ : Int32) (K : (Int32 → wMem → Option (Int32 × wMem))) (r0 : (Int32 × wMem)) (hK : ∀ (y3_ : Int32) (μ : wMem), K y3_ μ = some r0 → wJ p l e ({ frames := 2, cells := 0, slots := 0, locals := 46 } : Room) s m args below meth c 5 D vwCl (spM ++ E) q ca A (wQi ({ frames := 2, cells := 0, slots := 0, locals := 46 } : Room) D vwCl (spM ++ E) q ca below args s A r0) 0 0 μ 89 [(3, .int y3_)] []) : ∀ (k : Nat) (x3_ : Int32) (x4_ : Int32) (μ : wMem), gX6_after_34 N  x1_ x2_ K k x3_ x4_ μ = some r0 → wJ p l e ({ frames := 2, cells := 0, slots := 0, locals := 46 } : Room) s m args below meth c 5 D vwCl (spM ++ E) q ca A (wQi ({ frames := 2, cells := 0, slots := 0, locals := 46 } : Room) D vwCl (spM ++ E) q ca below args s A r0) 0 0 μ 34 [(0, .ref (q 0)), (1, .int x1_), (2, .int x2_), (3, .int x3_), (4, .int x4_)] [] := by
  intro k
  induction k with
  | zero =>
    intro x3_ x4_ μ hf
    cases hf
  | succ k ih =>
    intro x3_ x4_ μ hf
    replace hf : gbX6_after_34 N  x1_ x2_ K (gX6_after_34 N  x1_ x2_ K k) x3_ x4_ μ = some r0 := hf
    unfold gbX6_after_34 at hf
    refine wr_iload 34 C dX6_after_34 4 rfl ?_
    refine wr_aload_n 36 C dX6_after_36 0 rfl rfl ?_
    refine gespM_0_17_X6 37 C dX6_after_37 ?_
    refine wr_iconst 40 C dX6_after_40 (v := 2) rfl ?_
    obtain ⟨g8, hf⟩ := o_g hf
    refine wr_iald 41 C dX6_after_41 spM_7 g8 ?_
    refine wr_icmp_ge 42 89 C dX6_after_42 (by decide) (fun c9 => ?_) (fun c9 => ?_)
    · replace hf := o_pos c9 hf
      refine wr_sub [(3, .int x3_)] [3] rfl ?_
      exact hK x3_ μ hf
    · replace hf := o_neg c9 hf
      refine wr_iload_n 45 C dX6_after_45 3 rfl rfl ?_
      refine wr_aload_n 46 C dX6_after_46 0 rfl rfl ?_
      refine gespM_0_17_X6 47 C dX6_after_47 ?_
      refine wr_iconst 50 C dX6_after_50 (v := 4) rfl ?_
      obtain ⟨g10, hf⟩ := o_g hf
      refine wr_iald 51 C dX6_after_51 spM_7 g10 ?_
      refine wr_iload 52 C dX6_after_52 4 rfl ?_
      obtain ⟨v13, μ12, h11, hf⟩ := o_bind hf
      refine wr_Si (kc1 := 0) (ks1 := 0) 54 [.int x3_] C dX6_after_54 (tX6_isBit l N   (μ.1 7 (Int32.toNatClampNeg (4 : Int32))) x4_ μ (v13, μ12) h11) okX6_isBit q1660 ⟨rfl, rfl, Nat.le_of_ble_eq_true rfl, Nat.le_of_ble_eq_true rfl, Nat.zero_le _, Nat.zero_le _⟩ (Nat.le_of_ble_eq_true rfl) rfl ?_
      obtain ⟨Jafter81, eJafter81, hf⟩ := o_let hf
      have hJafter81 : ∀ (v15 : Int32) (v16 : Int32) (μ14 : wMem), Jafter81 v15 v16 μ14 = some r0 → wJ p l e ({ frames := 2, cells := 0, slots := 0, locals := 46 } : Room) s m args below meth c 5 D vwCl (spM ++ E) q ca A (wQi ({ frames := 2, cells := 0, slots := 0, locals := 46 } : Room) D vwCl (spM ++ E) q ca below args s A r0) 0 0 μ14 81 [(0, .ref (q 0)), (1, .int x1_), (2, .int x2_), (4, .int x4_)] [.int v15, .int v16] := by
        intro v15 v16 μ14 hf
        rw [eJafter81] at hf
        refine wr_ior 81 C dX6_after_81 ?_
        obtain ⟨x17, ex17, hf⟩ := o_let hf
        refine wr_istore_n 82 [(3, .int x17), (0, .ref (q 0)), (1, .int x1_), (2, .int x2_), (4, .int x4_)] C dX6_after_82 ex17 rfl (Nat.le_of_ble_eq_true rfl) rfl ?_
        obtain ⟨x18, ex18, hf⟩ := o_let hf
        refine wr_iinc 83 [(4, .int x18), (3, .int x17), (0, .ref (q 0)), (1, .int x1_), (2, .int x2_)] C dX6_after_83 4 rfl (ex18.trans rfl) (Nat.le_of_ble_eq_true rfl) rfl ?_
        refine wr_goto 86 C dX6_after_86 (tgt := 34) (by decide) ?_
        refine wr_sub [(0, .ref (q 0)), (1, .int x1_), (2, .int x2_), (3, .int x17), (4, .int x18)] [2, 3, 4, 1, 0] rfl ?_
        exact ih x17 x18 μ14 hf
      obtain ⟨Jafter80, eJafter80, hf⟩ := o_let hf
      have hJafter80 : ∀ (v20 : Int32) (μ19 : wMem), Jafter80 v20 μ19 = some r0 → wJ p l e ({ frames := 2, cells := 0, slots := 0, locals := 46 } : Room) s m args below meth c 5 D vwCl (spM ++ E) q ca A (wQi ({ frames := 2, cells := 0, slots := 0, locals := 46 } : Room) D vwCl (spM ++ E) q ca below args s A r0) 0 0 μ19 80 [(0, .ref (q 0)), (1, .int x1_), (2, .int x2_), (4, .int x4_)] [.int v20] := by
        intro v20 μ19 hf
        rw [eJafter80] at hf
        refine wr_iconst 80 C dX6_after_80 (v := 0) rfl ?_
        exact hJafter81 0 v20 μ19 hf
      refine wr_if_ne 57 80 C dX6_after_57 (by decide) (fun c21 => ?_) (fun c21 => ?_)
      · replace hf := o_neg c21 hf
        refine wr_sub [(0, .ref (q 0)), (1, .int x1_), (2, .int x2_), (4, .int x4_)] [0, 1, 2, 4] rfl ?_
        exact hJafter80 x3_ μ12 hf
      · replace hf := o_pos c21 hf
        refine wr_aload_n 60 C dX6_after_60 0 rfl rfl ?_
        refine wr_iload 61 C dX6_after_61 4 rfl ?_
        refine wr_iload_n 63 C dX6_after_63 1 rfl rfl ?_
        refine wr_iconst 64 C dX6_after_64 (v := 1) rfl ?_
        refine wr_iadd 65 C dX6_after_65 ?_
        refine wr_iload_n 66 C dX6_after_66 2 rfl rfl ?_
        obtain ⟨v24, μ23, h22, hf⟩ := o_bind hf
        refine wr_Vi (kc1 := 0) (ks1 := 0) 67 [.int x3_] C dX6_after_67 (tX6_noses l N   x4_ (x1_ + (1 : Int32)) x2_ μ12 (v24, μ23) h22) okX6_noses q1742 (b := 0) spM_0 rfl ⟨rfl, rfl, Nat.le_of_ble_eq_true rfl, Nat.le_of_ble_eq_true rfl, Nat.zero_le _, Nat.zero_le _⟩ (Nat.le_of_ble_eq_true rfl) rfl ?_
        refine wr_if_eq 70 80 C dX6_after_70 (by decide) (fun c25 => ?_) (fun c25 => ?_)
        · replace hf := o_pos c25 hf
          refine wr_sub [(0, .ref (q 0)), (1, .int x1_), (2, .int x2_), (4, .int x4_)] [0, 1, 2, 4] rfl ?_
          exact hJafter80 x3_ μ23 hf
        · replace hf := o_neg c25 hf
          refine wr_iconst 73 C dX6_after_73 (v := 1) rfl ?_
          refine wr_iload 74 C dX6_after_74 4 rfl ?_
          refine wr_ishl 76 C dX6_after_76 ?_
          refine wr_goto 77 C dX6_after_77 (tgt := 81) (by decide) ?_
          refine wr_sub [(0, .ref (q 0)), (1, .int x1_), (2, .int x2_), (4, .int x4_)] [0, 1, 2, 4] rfl ?_
          exact hJafter81 ((1 : Int32) <<< (x4_ &&& 31)) x3_ μ23 hf
def fX6_after (N : Nat)  (a1 : Int32) (a2 : Int32) (μ : wMem) : Option (Int32 × wMem) :=
  wLet (wSI μ 0 0 (0 : Int32)) fun μ1 => wLet (fun  (μ2 : wMem) => some ((-2), μ2)) fun Jafter26 => wLet (fun  (μ3 : wMem) => wBind (fX6_isPost N  a2 μ3) fun v6 μ5 => if v6 = 0 then Jafter26  μ5 else gX6_after_34 N  a1 a2 (fun (x27 : Int32) (μ26 : wMem) => some (x27, μ26)) N 0 0 μ5) fun Jafter18 => if a1 = (-1 : Int32) then Jafter18  μ1 else wBind (fX6_isPerson N  a1 μ1) fun v31 μ30 => if v31 = 0 then Jafter26  μ30 else Jafter18  μ30
set_option maxHeartbeats 4000000 in
set_option maxRecDepth 100000 in
theorem tX6_after (l : Launch) {D : va_G} {E : List wCell} {q : Nat → Nat} {ca : wCA} (N : Nat)   (a1 : Int32) (a2 : Int32) (μ : wMem) (r0 : (Int32 × wMem)) (hf : fX6_after N  a1 a2 μ = some r0) : wMi l yX6_after cX6_after 5 (some .int) ({ frames := 2, cells := 0, slots := 0, locals := 46 } : Room) D vwCl (spM ++ E) q ca [.ref (q 0), .int a1, .int a2] μ r0 := by
  refine wMi_intro (by decide) (Nat.le_of_ble_eq_true rfl) ?_
  intro p e s m args below meth c A C
  unfold fX6_after at hf
  refine wr_sub [(0, .ref (q 0)), (1, .int a1), (2, .int a2)] [0, 1, 2] rfl ?_
  refine wr_aload_n 0 C dX6_after_0 0 rfl rfl ?_
  refine wr_iconst 1 C dX6_after_1 (v := 0) rfl ?_
  obtain ⟨μ1, eμ1, hf⟩ := o_let hf
  refine puspM_0_0_X6 2 C dX6_after_2 eμ1 ?_
  refine wr_iload_n 5 C dX6_after_5 1 rfl rfl ?_
  refine wr_iconst 6 C dX6_after_6 (v := (-1)) rfl ?_
  obtain ⟨Jafter26, eJafter26, hf⟩ := o_let hf
  have hJafter26 : ∀  (μ2 : wMem), Jafter26  μ2 = some r0 → wJ p l e ({ frames := 2, cells := 0, slots := 0, locals := 46 } : Room) s m args below meth c 5 D vwCl (spM ++ E) q ca A (wQi ({ frames := 2, cells := 0, slots := 0, locals := 46 } : Room) D vwCl (spM ++ E) q ca below args s A r0) 0 0 μ2 26 [] [] := by
    intro  μ2 hf
    rw [eJafter26] at hf
    refine wr_bipush 26 C dX6_after_26 (v := (-2)) rfl ?_
    exact wr_iret 28 C dX6_after_28 ⟨Nat.zero_le _, Nat.zero_le _⟩ (Option.some.inj hf)
  obtain ⟨Jafter18, eJafter18, hf⟩ := o_let hf
  have hJafter18 : ∀  (μ3 : wMem), Jafter18  μ3 = some r0 → wJ p l e ({ frames := 2, cells := 0, slots := 0, locals := 46 } : Room) s m args below meth c 5 D vwCl (spM ++ E) q ca A (wQi ({ frames := 2, cells := 0, slots := 0, locals := 46 } : Room) D vwCl (spM ++ E) q ca below args s A r0) 0 0 μ3 18 [(0, .ref (q 0)), (1, .int a1), (2, .int a2)] [] := by
    intro  μ3 hf
    rw [eJafter18] at hf
    refine wr_aload_n 18 C dX6_after_18 0 rfl rfl ?_
    refine wr_iload_n 19 C dX6_after_19 2 rfl rfl ?_
    obtain ⟨v6, μ5, h4, hf⟩ := o_bind hf
    refine wr_Vi (kc1 := 0) (ks1 := 0) 20 [] C dX6_after_20 (tX6_isPost l N   a2 μ3 (v6, μ5) h4) okX6_isPost q1730 (b := 0) spM_0 rfl ⟨rfl, rfl, Nat.le_of_ble_eq_true rfl, Nat.le_of_ble_eq_true rfl, Nat.zero_le _, Nat.zero_le _⟩ (Nat.le_of_ble_eq_true rfl) rfl ?_
    refine wr_if_ne 23 29 C dX6_after_23 (by decide) (fun c7 => ?_) (fun c7 => ?_)
    · replace hf := o_neg c7 hf
      refine wr_iconst 29 C dX6_after_29 (v := 0) rfl ?_
      refine wr_istore_n 30 [(3, .int 0), (0, .ref (q 0)), (1, .int a1), (2, .int a2)] C dX6_after_30 rfl rfl (Nat.le_of_ble_eq_true rfl) rfl ?_
      refine wr_iconst 31 C dX6_after_31 (v := 0) rfl ?_
      refine wr_istore 32 [(4, .int 0), (3, .int 0), (0, .ref (q 0)), (1, .int a1), (2, .int a2)] C dX6_after_32 rfl (Nat.le_of_ble_eq_true rfl) rfl ?_
      refine wr_sub [(0, .ref (q 0)), (1, .int a1), (2, .int a2), (3, .int 0), (4, .int 0)] [2, 3, 4, 1, 0] rfl ?_
      refine tX6_after_34 C N   a1 a2 _ r0 (fun x27 μ26 hf => ?_) N 0 0 μ5 hf
      · replace hf := hf
        refine wr_iload_n 89 C dX6_after_89 0 rfl rfl ?_
        exact wr_iret 90 C dX6_after_90 ⟨Nat.zero_le _, Nat.zero_le _⟩ (Option.some.inj hf)
    · replace hf := o_pos c7 hf
      refine wr_sub [] [] rfl ?_
      exact hJafter26  μ5 hf
  refine wr_icmp_eq 7 18 C dX6_after_7 (by decide) (fun c28 => ?_) (fun c28 => ?_)
  · replace hf := o_pos c28 hf
    exact hJafter18  μ1 hf
  · replace hf := o_neg c28 hf
    refine wr_aload_n 10 C dX6_after_10 0 rfl rfl ?_
    refine wr_iload_n 11 C dX6_after_11 1 rfl rfl ?_
    obtain ⟨v31, μ30, h29, hf⟩ := o_bind hf
    refine wr_Vi (kc1 := 0) (ks1 := 0) 12 [] C dX6_after_12 (tX6_isPerson l N   a1 μ1 (v31, μ30) h29) okX6_isPerson q1685 (b := 0) spM_0 rfl ⟨rfl, rfl, Nat.le_of_ble_eq_true rfl, Nat.le_of_ble_eq_true rfl, Nat.zero_le _, Nat.zero_le _⟩ (Nat.le_of_ble_eq_true rfl) rfl ?_
    refine wr_if_eq 15 26 C dX6_after_15 (by decide) (fun c32 => ?_) (fun c32 => ?_)
    · replace hf := o_pos c32 hf
      refine wr_sub [] [] rfl ?_
      exact hJafter26  μ30 hf
    · replace hf := o_neg c32 hf
      exact hJafter18  μ30 hf
abbrev cX6_isFamily : ByteArray := prog_11_method_33_code
def yX6_isFamily : MethodName := ⟨RX6, "isFamily", "()Z"⟩
def dkwX6_isFamily_0 : List UInt8 := [42, 180, 0, 31, 3, 46, 158, 0, 7, 4, 167, 0, 4, 3, 172]
abbrev dktX6_isFamily_0 : List UInt8 := dkwX6_isFamily_0 ++ []
theorem dksX6_isFamily_0 : cX6_isFamily.data.toList.drop 0 = dktX6_isFamily_0 := by decide +kernel
theorem dX6_isFamily_0 : decode cX6_isFamily 0 = .ok (.aload_n 0, 1) := dk_42 (dk_at dksX6_isFamily_0 0 rfl rfl)
theorem dX6_isFamily_1 : decode cX6_isFamily 1 = .ok (.getfield 31, 3) := dk_180 0 31 (dk_at dksX6_isFamily_0 1 rfl rfl)
theorem dX6_isFamily_4 : decode cX6_isFamily 4 = .ok (.iconst 0, 1) := dk_3 (dk_at dksX6_isFamily_0 4 rfl rfl)
theorem dX6_isFamily_5 : decode cX6_isFamily 5 = .ok (.iaload, 1) := dk_46 (dk_at dksX6_isFamily_0 5 rfl rfl)
theorem dX6_isFamily_6 : decode cX6_isFamily 6 = .ok (.ifCond .le 7, 3) := dk_158 0 7 (dk_at dksX6_isFamily_0 6 rfl rfl)
theorem dX6_isFamily_9 : decode cX6_isFamily 9 = .ok (.iconst 1, 1) := dk_4 (dk_at dksX6_isFamily_0 9 rfl rfl)
theorem dX6_isFamily_10 : decode cX6_isFamily 10 = .ok (.goto 4, 3) := dk_167 0 4 (dk_at dksX6_isFamily_0 10 rfl rfl)
theorem dX6_isFamily_13 : decode cX6_isFamily 13 = .ok (.iconst 0, 1) := dk_3 (dk_at dksX6_isFamily_0 13 rfl rfl)
theorem dX6_isFamily_14 : decode cX6_isFamily 14 = .ok (.ireturn, 1) := dk_172 (dk_at dksX6_isFamily_0 14 rfl rfl)

theorem okX6_isFamily : wOkV yX6_isFamily cX6_isFamily 1 (some .boolean) 0 := ⟨q1752, qs99, q145, q1753, by decide, by decide, by decide +kernel⟩
def fX6_isFamily (N : Nat)   (μ : wMem) : Option (Int32 × wMem) :=
  wG (ok_in (0 : Int32) 5) (if (μ.1 6 (Int32.toNatClampNeg (0 : Int32))) ≤ 0 then some (0, μ) else some (1, μ))
set_option maxHeartbeats 4000000 in
set_option maxRecDepth 100000 in
theorem tX6_isFamily (l : Launch) {D : va_G} {E : List wCell} {q : Nat → Nat} {ca : wCA} (N : Nat)    (μ : wMem) (r0 : (Int32 × wMem)) (hf : fX6_isFamily N   μ = some r0) : wMi l yX6_isFamily cX6_isFamily 1 (some .boolean) ({ frames := 0, cells := 0, slots := 0, locals := 0 } : Room) D vwCl (spM ++ E) q ca [.ref (q 0)] μ r0 := by
  refine wMi_intro (by decide) (Nat.le_of_ble_eq_true rfl) ?_
  intro p e s m args below meth c A C
  unfold fX6_isFamily at hf
  refine wr_sub [(0, .ref (q 0))] [0] rfl ?_
  refine wr_aload_n 0 C dX6_isFamily_0 0 rfl rfl ?_
  refine gespM_0_16_X6 1 C dX6_isFamily_1 ?_
  refine wr_iconst 4 C dX6_isFamily_4 (v := 0) rfl ?_
  obtain ⟨g1, hf⟩ := o_g hf
  refine wr_iald 5 C dX6_isFamily_5 spM_6 g1 ?_
  refine wr_if_le 6 13 C dX6_isFamily_6 (by decide) (fun c2 => ?_) (fun c2 => ?_)
  · replace hf := o_pos c2 hf
    refine wr_iconst 13 C dX6_isFamily_13 (v := 0) rfl ?_
    exact wr_zret 14 C dX6_isFamily_14 rfl ⟨Nat.zero_le _, Nat.zero_le _⟩ (Option.some.inj hf)
  · replace hf := o_neg c2 hf
    refine wr_iconst 9 C dX6_isFamily_9 (v := 1) rfl ?_
    refine wr_goto 10 C dX6_isFamily_10 (tgt := 14) (by decide) ?_
    exact wr_zret 14 C dX6_isFamily_14 rfl ⟨Nat.zero_le _, Nat.zero_le _⟩ (Option.some.inj hf)
abbrev cX6_now : ByteArray := prog_11_method_60_code
def yX6_now : MethodName := ⟨RX6, "now", "(I)I"⟩
def dkwX6_now_3 : List UInt8 := [180, 1, 41, 167, 0, 7, 42, 180, 1, 38, 172]
abbrev dktX6_now_3 : List UInt8 := dkwX6_now_3 ++ []
def dkwX6_now_2 : List UInt8 := [180, 0, 241, 167, 0, 31, 27, 5, 160, 0, 10, 42, 180, 1, 35, 167, 0, 19, 27, 6, 160, 0, 10, 42]
abbrev dktX6_now_2 : List UInt8 := dkwX6_now_2 ++ dktX6_now_3
def dkwX6_now_1 : List UInt8 := [16, 254, 172, 42, 182, 1, 61, 27, 154, 0, 10, 42, 180, 0, 238, 167, 0, 43, 27, 4, 160, 0, 10, 42]
abbrev dktX6_now_1 : List UInt8 := dkwX6_now_1 ++ dktX6_now_2
def dkwX6_now_0 : List UInt8 := [42, 3, 181, 0, 88, 42, 182, 1, 67, 153, 0, 15, 27, 133, 9, 20, 1, 59, 184, 0, 93, 154, 0, 6]
abbrev dktX6_now_0 : List UInt8 := dkwX6_now_0 ++ dktX6_now_1
theorem dksX6_now_0 : cX6_now.data.toList.drop 0 = dktX6_now_0 := by decide +kernel
theorem dksX6_now_1 : cX6_now.data.toList.drop 24 = dktX6_now_1 := dk_seg dksX6_now_0 24 rfl rfl
theorem dksX6_now_2 : cX6_now.data.toList.drop 48 = dktX6_now_2 := dk_seg dksX6_now_1 24 rfl rfl
theorem dksX6_now_3 : cX6_now.data.toList.drop 72 = dktX6_now_3 := dk_seg dksX6_now_2 24 rfl rfl
theorem dX6_now_0 : decode cX6_now 0 = .ok (.aload_n 0, 1) := dk_42 (dk_at dksX6_now_0 0 rfl rfl)
theorem dX6_now_1 : decode cX6_now 1 = .ok (.iconst 0, 1) := dk_3 (dk_at dksX6_now_0 1 rfl rfl)
theorem dX6_now_2 : decode cX6_now 2 = .ok (.putfield 88, 3) := dk_181 0 88 (dk_at dksX6_now_0 2 rfl rfl)
theorem dX6_now_5 : decode cX6_now 5 = .ok (.aload_n 0, 1) := dk_42 (dk_at dksX6_now_0 5 rfl rfl)
theorem dX6_now_6 : decode cX6_now 6 = .ok (.invokevirtual 323, 3) := dk_182 1 67 (dk_at dksX6_now_0 6 rfl rfl)
theorem dX6_now_9 : decode cX6_now 9 = .ok (.ifCond .eq 15, 3) := dk_153 0 15 (dk_at dksX6_now_0 9 rfl rfl)
theorem dX6_now_12 : decode cX6_now 12 = .ok (.iload_n 1, 1) := dk_27 (dk_at dksX6_now_0 12 rfl rfl)
theorem dX6_now_13 : decode cX6_now 13 = .ok (.i2l, 1) := dk_133 (dk_at dksX6_now_0 13 rfl rfl)
theorem dX6_now_14 : decode cX6_now 14 = .ok (.lconst 0, 1) := dk_9 (dk_at dksX6_now_0 14 rfl rfl)
theorem dX6_now_15 : decode cX6_now 15 = .ok (.ldc2_w 315, 3) := dk_20 1 59 (dk_at dksX6_now_0 15 rfl rfl)
theorem dX6_now_18 : decode cX6_now 18 = .ok (.invokestatic 93, 3) := dk_184 0 93 (dk_at dksX6_now_0 18 rfl rfl)
theorem dX6_now_21 : decode cX6_now 21 = .ok (.ifCond .ne 6, 3) := dk_154 0 6 (dk_at dksX6_now_0 21 rfl rfl)
theorem dX6_now_24 : decode cX6_now 24 = .ok (.bipush (-2), 2) := dk_16 254 (dk_at dksX6_now_1 0 rfl rfl)
theorem dX6_now_26 : decode cX6_now 26 = .ok (.ireturn, 1) := dk_172 (dk_at dksX6_now_1 2 rfl rfl)
theorem dX6_now_27 : decode cX6_now 27 = .ok (.aload_n 0, 1) := dk_42 (dk_at dksX6_now_1 3 rfl rfl)
theorem dX6_now_28 : decode cX6_now 28 = .ok (.invokevirtual 317, 3) := dk_182 1 61 (dk_at dksX6_now_1 4 rfl rfl)
theorem dX6_now_31 : decode cX6_now 31 = .ok (.iload_n 1, 1) := dk_27 (dk_at dksX6_now_1 7 rfl rfl)
theorem dX6_now_32 : decode cX6_now 32 = .ok (.ifCond .ne 10, 3) := dk_154 0 10 (dk_at dksX6_now_1 8 rfl rfl)
theorem dX6_now_35 : decode cX6_now 35 = .ok (.aload_n 0, 1) := dk_42 (dk_at dksX6_now_1 11 rfl rfl)
theorem dX6_now_36 : decode cX6_now 36 = .ok (.getfield 238, 3) := dk_180 0 238 (dk_at dksX6_now_1 12 rfl rfl)
theorem dX6_now_39 : decode cX6_now 39 = .ok (.goto 43, 3) := dk_167 0 43 (dk_at dksX6_now_1 15 rfl rfl)
theorem dX6_now_42 : decode cX6_now 42 = .ok (.iload_n 1, 1) := dk_27 (dk_at dksX6_now_1 18 rfl rfl)
theorem dX6_now_43 : decode cX6_now 43 = .ok (.iconst 1, 1) := dk_4 (dk_at dksX6_now_1 19 rfl rfl)
theorem dX6_now_44 : decode cX6_now 44 = .ok (.if_icmp .ne 10, 3) := dk_160 0 10 (dk_at dksX6_now_1 20 rfl rfl)
theorem dX6_now_47 : decode cX6_now 47 = .ok (.aload_n 0, 1) := dk_42 (dk_at dksX6_now_1 23 rfl rfl)
theorem dX6_now_48 : decode cX6_now 48 = .ok (.getfield 241, 3) := dk_180 0 241 (dk_at dksX6_now_2 0 rfl rfl)
theorem dX6_now_51 : decode cX6_now 51 = .ok (.goto 31, 3) := dk_167 0 31 (dk_at dksX6_now_2 3 rfl rfl)
theorem dX6_now_54 : decode cX6_now 54 = .ok (.iload_n 1, 1) := dk_27 (dk_at dksX6_now_2 6 rfl rfl)
theorem dX6_now_55 : decode cX6_now 55 = .ok (.iconst 2, 1) := dk_5 (dk_at dksX6_now_2 7 rfl rfl)
theorem dX6_now_56 : decode cX6_now 56 = .ok (.if_icmp .ne 10, 3) := dk_160 0 10 (dk_at dksX6_now_2 8 rfl rfl)
theorem dX6_now_59 : decode cX6_now 59 = .ok (.aload_n 0, 1) := dk_42 (dk_at dksX6_now_2 11 rfl rfl)
theorem dX6_now_60 : decode cX6_now 60 = .ok (.getfield 291, 3) := dk_180 1 35 (dk_at dksX6_now_2 12 rfl rfl)
theorem dX6_now_63 : decode cX6_now 63 = .ok (.goto 19, 3) := dk_167 0 19 (dk_at dksX6_now_2 15 rfl rfl)
theorem dX6_now_66 : decode cX6_now 66 = .ok (.iload_n 1, 1) := dk_27 (dk_at dksX6_now_2 18 rfl rfl)
theorem dX6_now_67 : decode cX6_now 67 = .ok (.iconst 3, 1) := dk_6 (dk_at dksX6_now_2 19 rfl rfl)
theorem dX6_now_68 : decode cX6_now 68 = .ok (.if_icmp .ne 10, 3) := dk_160 0 10 (dk_at dksX6_now_2 20 rfl rfl)
theorem dX6_now_71 : decode cX6_now 71 = .ok (.aload_n 0, 1) := dk_42 (dk_at dksX6_now_2 23 rfl rfl)
theorem dX6_now_72 : decode cX6_now 72 = .ok (.getfield 297, 3) := dk_180 1 41 (dk_at dksX6_now_3 0 rfl rfl)
theorem dX6_now_75 : decode cX6_now 75 = .ok (.goto 7, 3) := dk_167 0 7 (dk_at dksX6_now_3 3 rfl rfl)
theorem dX6_now_78 : decode cX6_now 78 = .ok (.aload_n 0, 1) := dk_42 (dk_at dksX6_now_3 6 rfl rfl)
theorem dX6_now_79 : decode cX6_now 79 = .ok (.getfield 294, 3) := dk_180 1 38 (dk_at dksX6_now_3 7 rfl rfl)
theorem dX6_now_82 : decode cX6_now 82 = .ok (.ireturn, 1) := dk_172 (dk_at dksX6_now_3 10 rfl rfl)

theorem okX6_now : wOkV yX6_now cX6_now 2 (some .int) 1 := ⟨q1747, q1748, q145, q1749, by decide, by decide, by decide +kernel⟩
def fX6_now (N : Nat)  (a1 : Int32) (μ : wMem) : Option (Int32 × wMem) :=
  wLet (wSI μ 0 0 (0 : Int32)) fun μ1 => wBind (fX6_isFamily N   μ1) fun v4 μ3 => wLet (fun  (μ5 : wMem) => some ((-2), μ5)) fun Jnow24 => if v4 = 0 then Jnow24  μ3 else wBind (fX6_in N  (Int32.toInt64 a1) 0 4 μ3) fun v9 μ8 => if v9 = 0 then Jnow24  μ8 else wBindV (fX6_lays N   μ8) fun μ12 => if a1 = 0 then some (μ12.1 0 23, μ12) else if a1 = (1 : Int32) then some (μ12.1 0 24, μ12) else if a1 = (2 : Int32) then some (μ12.1 0 28, μ12) else if a1 = (3 : Int32) then some (μ12.1 0 30, μ12) else some (μ12.1 0 29, μ12)
set_option maxHeartbeats 4000000 in
set_option maxRecDepth 100000 in
theorem tX6_now (l : Launch) {D : va_G} {E : List wCell} {q : Nat → Nat} {ca : wCA} (N : Nat)   (a1 : Int32) (μ : wMem) (r0 : (Int32 × wMem)) (hf : fX6_now N  a1 μ = some r0) : wMi l yX6_now cX6_now 2 (some .int) ({ frames := 5, cells := 0, slots := 0, locals := 112 } : Room) D vwCl (spM ++ E) q ca [.ref (q 0), .int a1] μ r0 := by
  refine wMi_intro (by decide) (Nat.le_of_ble_eq_true rfl) ?_
  intro p e s m args below meth c A C
  unfold fX6_now at hf
  refine wr_sub [(0, .ref (q 0)), (1, .int a1)] [0, 1] rfl ?_
  refine wr_aload_n 0 C dX6_now_0 0 rfl rfl ?_
  refine wr_iconst 1 C dX6_now_1 (v := 0) rfl ?_
  obtain ⟨μ1, eμ1, hf⟩ := o_let hf
  refine puspM_0_0_X6 2 C dX6_now_2 eμ1 ?_
  refine wr_aload_n 5 C dX6_now_5 0 rfl rfl ?_
  obtain ⟨v4, μ3, h2, hf⟩ := o_bind hf
  refine wr_Vi (kc1 := 0) (ks1 := 0) 6 [] C dX6_now_6 (tX6_isFamily l N    μ1 (v4, μ3) h2) okX6_isFamily q1750 (b := 0) spM_0 rfl ⟨rfl, rfl, Nat.le_of_ble_eq_true rfl, Nat.le_of_ble_eq_true rfl, Nat.zero_le _, Nat.zero_le _⟩ (Nat.le_of_ble_eq_true rfl) rfl ?_
  obtain ⟨Jnow24, eJnow24, hf⟩ := o_let hf
  have hJnow24 : ∀  (μ5 : wMem), Jnow24  μ5 = some r0 → wJ p l e ({ frames := 5, cells := 0, slots := 0, locals := 112 } : Room) s m args below meth c 2 D vwCl (spM ++ E) q ca A (wQi ({ frames := 5, cells := 0, slots := 0, locals := 112 } : Room) D vwCl (spM ++ E) q ca below args s A r0) 0 0 μ5 24 [] [] := by
    intro  μ5 hf
    rw [eJnow24] at hf
    refine wr_bipush 24 C dX6_now_24 (v := (-2)) rfl ?_
    exact wr_iret 26 C dX6_now_26 ⟨Nat.zero_le _, Nat.zero_le _⟩ (Option.some.inj hf)
  refine wr_if_eq 9 24 C dX6_now_9 (by decide) (fun c6 => ?_) (fun c6 => ?_)
  · replace hf := o_pos c6 hf
    refine wr_sub [] [] rfl ?_
    exact hJnow24  μ3 hf
  · replace hf := o_neg c6 hf
    refine wr_iload_n 12 C dX6_now_12 1 rfl rfl ?_
    refine wr_i2l 13 C dX6_now_13 ?_
    refine wr_lconst 14 C dX6_now_14 (v := 0) rfl ?_
    refine wr_ldc2 15 C dX6_now_15 q1689 ?_
    obtain ⟨v9, μ8, h7, hf⟩ := o_bind hf
    refine wr_Si (kc1 := 0) (ks1 := 0) 18 [] C dX6_now_18 (tX6_in l N   (Int32.toInt64 a1) 0 4 μ3 (v9, μ8) h7) okX6_in q1552 ⟨rfl, rfl, Nat.le_of_ble_eq_true rfl, Nat.le_of_ble_eq_true rfl, Nat.zero_le _, Nat.zero_le _⟩ (Nat.le_of_ble_eq_true rfl) rfl ?_
    refine wr_if_ne 21 27 C dX6_now_21 (by decide) (fun c10 => ?_) (fun c10 => ?_)
    · replace hf := o_neg c10 hf
      refine wr_aload_n 27 C dX6_now_27 0 rfl rfl ?_
      obtain ⟨μ12, h11, hf⟩ := o_bindV hf
      refine wr_Vv (kc1 := 0) (ks1 := 0) 28 [] C dX6_now_28 (tX6_lays l N    μ8 μ12 h11) okX6_lays q1690 (b := 0) spM_0 rfl ⟨rfl, rfl, Nat.le_of_ble_eq_true rfl, Nat.le_of_ble_eq_true rfl, Nat.zero_le _, Nat.zero_le _⟩ (Nat.le_of_ble_eq_true rfl) rfl ?_
      refine wr_iload_n 31 C dX6_now_31 1 rfl rfl ?_
      refine wr_if_ne 32 42 C dX6_now_32 (by decide) (fun c13 => ?_) (fun c13 => ?_)
      · replace hf := o_neg c13 hf
        refine wr_iload_n 42 C dX6_now_42 1 rfl rfl ?_
        refine wr_iconst 43 C dX6_now_43 (v := 1) rfl ?_
        refine wr_icmp_ne 44 54 C dX6_now_44 (by decide) (fun c14 => ?_) (fun c14 => ?_)
        · replace hf := o_neg c14 hf
          refine wr_iload_n 54 C dX6_now_54 1 rfl rfl ?_
          refine wr_iconst 55 C dX6_now_55 (v := 2) rfl ?_
          refine wr_icmp_ne 56 66 C dX6_now_56 (by decide) (fun c15 => ?_) (fun c15 => ?_)
          · replace hf := o_neg c15 hf
            refine wr_iload_n 66 C dX6_now_66 1 rfl rfl ?_
            refine wr_iconst 67 C dX6_now_67 (v := 3) rfl ?_
            refine wr_icmp_ne 68 78 C dX6_now_68 (by decide) (fun c16 => ?_) (fun c16 => ?_)
            · replace hf := o_neg c16 hf
              refine wr_aload_n 78 C dX6_now_78 0 rfl rfl ?_
              refine gespM_0_29_X6 79 C dX6_now_79 ?_
              exact wr_iret 82 C dX6_now_82 ⟨Nat.zero_le _, Nat.zero_le _⟩ (Option.some.inj hf)
            · replace hf := o_pos c16 hf
              refine wr_aload_n 71 C dX6_now_71 0 rfl rfl ?_
              refine gespM_0_30_X6 72 C dX6_now_72 ?_
              refine wr_goto 75 C dX6_now_75 (tgt := 82) (by decide) ?_
              exact wr_iret 82 C dX6_now_82 ⟨Nat.zero_le _, Nat.zero_le _⟩ (Option.some.inj hf)
          · replace hf := o_pos c15 hf
            refine wr_aload_n 59 C dX6_now_59 0 rfl rfl ?_
            refine gespM_0_28_X6 60 C dX6_now_60 ?_
            refine wr_goto 63 C dX6_now_63 (tgt := 82) (by decide) ?_
            exact wr_iret 82 C dX6_now_82 ⟨Nat.zero_le _, Nat.zero_le _⟩ (Option.some.inj hf)
        · replace hf := o_pos c14 hf
          refine wr_aload_n 47 C dX6_now_47 0 rfl rfl ?_
          refine gespM_0_24_X6 48 C dX6_now_48 ?_
          refine wr_goto 51 C dX6_now_51 (tgt := 82) (by decide) ?_
          exact wr_iret 82 C dX6_now_82 ⟨Nat.zero_le _, Nat.zero_le _⟩ (Option.some.inj hf)
      · replace hf := o_pos c13 hf
        refine wr_aload_n 35 C dX6_now_35 0 rfl rfl ?_
        refine gespM_0_23_X6 36 C dX6_now_36 ?_
        refine wr_goto 39 C dX6_now_39 (tgt := 82) (by decide) ?_
        exact wr_iret 82 C dX6_now_82 ⟨Nat.zero_le _, Nat.zero_le _⟩ (Option.some.inj hf)
    · replace hf := o_pos c10 hf
      refine wr_sub [] [] rfl ?_
      exact hJnow24  μ8 hf
abbrev cX6_stamp : ByteArray := prog_11_method_61_code
def yX6_stamp : MethodName := ⟨RX6, "stamp", "(I)I"⟩
def dkwX6_stamp_1 : List UInt8 := [180, 1, 41, 4, 100, 133, 184, 0, 93, 153, 0, 12, 42, 180, 0, 53, 27, 46, 167, 0, 4, 2, 172]
abbrev dktX6_stamp_1 : List UInt8 := dkwX6_stamp_1 ++ []
def dkwX6_stamp_0 : List UInt8 := [42, 3, 181, 0, 88, 42, 182, 1, 67, 154, 0, 6, 16, 254, 172, 42, 182, 1, 61, 27, 133, 9, 42]
abbrev dktX6_stamp_0 : List UInt8 := dkwX6_stamp_0 ++ dktX6_stamp_1
theorem dksX6_stamp_0 : cX6_stamp.data.toList.drop 0 = dktX6_stamp_0 := by decide +kernel
theorem dksX6_stamp_1 : cX6_stamp.data.toList.drop 23 = dktX6_stamp_1 := dk_seg dksX6_stamp_0 23 rfl rfl
theorem dX6_stamp_0 : decode cX6_stamp 0 = .ok (.aload_n 0, 1) := dk_42 (dk_at dksX6_stamp_0 0 rfl rfl)
theorem dX6_stamp_1 : decode cX6_stamp 1 = .ok (.iconst 0, 1) := dk_3 (dk_at dksX6_stamp_0 1 rfl rfl)
theorem dX6_stamp_2 : decode cX6_stamp 2 = .ok (.putfield 88, 3) := dk_181 0 88 (dk_at dksX6_stamp_0 2 rfl rfl)
theorem dX6_stamp_5 : decode cX6_stamp 5 = .ok (.aload_n 0, 1) := dk_42 (dk_at dksX6_stamp_0 5 rfl rfl)
theorem dX6_stamp_6 : decode cX6_stamp 6 = .ok (.invokevirtual 323, 3) := dk_182 1 67 (dk_at dksX6_stamp_0 6 rfl rfl)
theorem dX6_stamp_9 : decode cX6_stamp 9 = .ok (.ifCond .ne 6, 3) := dk_154 0 6 (dk_at dksX6_stamp_0 9 rfl rfl)
theorem dX6_stamp_12 : decode cX6_stamp 12 = .ok (.bipush (-2), 2) := dk_16 254 (dk_at dksX6_stamp_0 12 rfl rfl)
theorem dX6_stamp_14 : decode cX6_stamp 14 = .ok (.ireturn, 1) := dk_172 (dk_at dksX6_stamp_0 14 rfl rfl)
theorem dX6_stamp_15 : decode cX6_stamp 15 = .ok (.aload_n 0, 1) := dk_42 (dk_at dksX6_stamp_0 15 rfl rfl)
theorem dX6_stamp_16 : decode cX6_stamp 16 = .ok (.invokevirtual 317, 3) := dk_182 1 61 (dk_at dksX6_stamp_0 16 rfl rfl)
theorem dX6_stamp_19 : decode cX6_stamp 19 = .ok (.iload_n 1, 1) := dk_27 (dk_at dksX6_stamp_0 19 rfl rfl)
theorem dX6_stamp_20 : decode cX6_stamp 20 = .ok (.i2l, 1) := dk_133 (dk_at dksX6_stamp_0 20 rfl rfl)
theorem dX6_stamp_21 : decode cX6_stamp 21 = .ok (.lconst 0, 1) := dk_9 (dk_at dksX6_stamp_0 21 rfl rfl)
theorem dX6_stamp_22 : decode cX6_stamp 22 = .ok (.aload_n 0, 1) := dk_42 (dk_at dksX6_stamp_0 22 rfl rfl)
theorem dX6_stamp_23 : decode cX6_stamp 23 = .ok (.getfield 297, 3) := dk_180 1 41 (dk_at dksX6_stamp_1 0 rfl rfl)
theorem dX6_stamp_26 : decode cX6_stamp 26 = .ok (.iconst 1, 1) := dk_4 (dk_at dksX6_stamp_1 3 rfl rfl)
theorem dX6_stamp_27 : decode cX6_stamp 27 = .ok (.isub, 1) := dk_100 (dk_at dksX6_stamp_1 4 rfl rfl)
theorem dX6_stamp_28 : decode cX6_stamp 28 = .ok (.i2l, 1) := dk_133 (dk_at dksX6_stamp_1 5 rfl rfl)
theorem dX6_stamp_29 : decode cX6_stamp 29 = .ok (.invokestatic 93, 3) := dk_184 0 93 (dk_at dksX6_stamp_1 6 rfl rfl)
theorem dX6_stamp_32 : decode cX6_stamp 32 = .ok (.ifCond .eq 12, 3) := dk_153 0 12 (dk_at dksX6_stamp_1 9 rfl rfl)
theorem dX6_stamp_35 : decode cX6_stamp 35 = .ok (.aload_n 0, 1) := dk_42 (dk_at dksX6_stamp_1 12 rfl rfl)
theorem dX6_stamp_36 : decode cX6_stamp 36 = .ok (.getfield 53, 3) := dk_180 0 53 (dk_at dksX6_stamp_1 13 rfl rfl)
theorem dX6_stamp_39 : decode cX6_stamp 39 = .ok (.iload_n 1, 1) := dk_27 (dk_at dksX6_stamp_1 16 rfl rfl)
theorem dX6_stamp_40 : decode cX6_stamp 40 = .ok (.iaload, 1) := dk_46 (dk_at dksX6_stamp_1 17 rfl rfl)
theorem dX6_stamp_41 : decode cX6_stamp 41 = .ok (.goto 4, 3) := dk_167 0 4 (dk_at dksX6_stamp_1 18 rfl rfl)
theorem dX6_stamp_44 : decode cX6_stamp 44 = .ok (.iconst (-1), 1) := dk_2 (dk_at dksX6_stamp_1 21 rfl rfl)
theorem dX6_stamp_45 : decode cX6_stamp 45 = .ok (.ireturn, 1) := dk_172 (dk_at dksX6_stamp_1 22 rfl rfl)

theorem okX6_stamp : wOkV yX6_stamp cX6_stamp 2 (some .int) 1 := ⟨q1755, q1756, q145, q1757, by decide, by decide, by decide +kernel⟩
def fX6_stamp (N : Nat)  (a1 : Int32) (μ : wMem) : Option (Int32 × wMem) :=
  wLet (wSI μ 0 0 (0 : Int32)) fun μ1 => wBind (fX6_isFamily N   μ1) fun v4 μ3 => if v4 = 0 then some ((-2), μ3) else wBindV (fX6_lays N   μ3) fun μ7 => wBind (fX6_in N  (Int32.toInt64 a1) 0 (Int32.toInt64 ((μ7.1 0 30) - (1 : Int32))) μ7) fun v10 μ9 => if v10 = 0 then some ((-1), μ9) else wG (ok_in a1 60) (some (μ9.1 13 (Int32.toNatClampNeg a1), μ9))
set_option maxHeartbeats 4000000 in
set_option maxRecDepth 100000 in
theorem tX6_stamp (l : Launch) {D : va_G} {E : List wCell} {q : Nat → Nat} {ca : wCA} (N : Nat)   (a1 : Int32) (μ : wMem) (r0 : (Int32 × wMem)) (hf : fX6_stamp N  a1 μ = some r0) : wMi l yX6_stamp cX6_stamp 2 (some .int) ({ frames := 5, cells := 0, slots := 0, locals := 112 } : Room) D vwCl (spM ++ E) q ca [.ref (q 0), .int a1] μ r0 := by
  refine wMi_intro (by decide) (Nat.le_of_ble_eq_true rfl) ?_
  intro p e s m args below meth c A C
  unfold fX6_stamp at hf
  refine wr_sub [(0, .ref (q 0)), (1, .int a1)] [0, 1] rfl ?_
  refine wr_aload_n 0 C dX6_stamp_0 0 rfl rfl ?_
  refine wr_iconst 1 C dX6_stamp_1 (v := 0) rfl ?_
  obtain ⟨μ1, eμ1, hf⟩ := o_let hf
  refine puspM_0_0_X6 2 C dX6_stamp_2 eμ1 ?_
  refine wr_aload_n 5 C dX6_stamp_5 0 rfl rfl ?_
  obtain ⟨v4, μ3, h2, hf⟩ := o_bind hf
  refine wr_Vi (kc1 := 0) (ks1 := 0) 6 [] C dX6_stamp_6 (tX6_isFamily l N    μ1 (v4, μ3) h2) okX6_isFamily q1750 (b := 0) spM_0 rfl ⟨rfl, rfl, Nat.le_of_ble_eq_true rfl, Nat.le_of_ble_eq_true rfl, Nat.zero_le _, Nat.zero_le _⟩ (Nat.le_of_ble_eq_true rfl) rfl ?_
  refine wr_if_ne 9 15 C dX6_stamp_9 (by decide) (fun c5 => ?_) (fun c5 => ?_)
  · replace hf := o_neg c5 hf
    refine wr_aload_n 15 C dX6_stamp_15 0 rfl rfl ?_
    obtain ⟨μ7, h6, hf⟩ := o_bindV hf
    refine wr_Vv (kc1 := 0) (ks1 := 0) 16 [] C dX6_stamp_16 (tX6_lays l N    μ3 μ7 h6) okX6_lays q1690 (b := 0) spM_0 rfl ⟨rfl, rfl, Nat.le_of_ble_eq_true rfl, Nat.le_of_ble_eq_true rfl, Nat.zero_le _, Nat.zero_le _⟩ (Nat.le_of_ble_eq_true rfl) rfl ?_
    refine wr_iload_n 19 C dX6_stamp_19 1 rfl rfl ?_
    refine wr_i2l 20 C dX6_stamp_20 ?_
    refine wr_lconst 21 C dX6_stamp_21 (v := 0) rfl ?_
    refine wr_aload_n 22 C dX6_stamp_22 0 rfl rfl ?_
    refine gespM_0_30_X6 23 C dX6_stamp_23 ?_
    refine wr_iconst 26 C dX6_stamp_26 (v := 1) rfl ?_
    refine wr_isub 27 C dX6_stamp_27 ?_
    refine wr_i2l 28 C dX6_stamp_28 ?_
    obtain ⟨v10, μ9, h8, hf⟩ := o_bind hf
    refine wr_Si (kc1 := 0) (ks1 := 0) 29 [] C dX6_stamp_29 (tX6_in l N   (Int32.toInt64 a1) 0 (Int32.toInt64 ((μ7.1 0 30) - (1 : Int32))) μ7 (v10, μ9) h8) okX6_in q1552 ⟨rfl, rfl, Nat.le_of_ble_eq_true rfl, Nat.le_of_ble_eq_true rfl, Nat.zero_le _, Nat.zero_le _⟩ (Nat.le_of_ble_eq_true rfl) rfl ?_
    refine wr_if_eq 32 44 C dX6_stamp_32 (by decide) (fun c11 => ?_) (fun c11 => ?_)
    · replace hf := o_pos c11 hf
      refine wr_iconst 44 C dX6_stamp_44 (v := (-1)) rfl ?_
      exact wr_iret 45 C dX6_stamp_45 ⟨Nat.zero_le _, Nat.zero_le _⟩ (Option.some.inj hf)
    · replace hf := o_neg c11 hf
      refine wr_aload_n 35 C dX6_stamp_35 0 rfl rfl ?_
      refine gespM_0_31_X6 36 C dX6_stamp_36 ?_
      refine wr_iload_n 39 C dX6_stamp_39 1 rfl rfl ?_
      obtain ⟨g12, hf⟩ := o_g hf
      refine wr_iald 40 C dX6_stamp_40 spM_13 g12 ?_
      refine wr_goto 41 C dX6_stamp_41 (tgt := 45) (by decide) ?_
      exact wr_iret 45 C dX6_stamp_45 ⟨Nat.zero_le _, Nat.zero_le _⟩ (Option.some.inj hf)
  · replace hf := o_pos c5 hf
    refine wr_bipush 12 C dX6_stamp_12 (v := (-2)) rfl ?_
    exact wr_iret 14 C dX6_stamp_14 ⟨Nat.zero_le _, Nat.zero_le _⟩ (Option.some.inj hf)
abbrev cX6_liesNow : ByteArray := prog_11_method_55_code
def yX6_liesNow : MethodName := ⟨RX6, "liesNow", "()I"⟩
def dkwX6_liesNow_2 : List UInt8 := [167, 255, 214, 27, 172]
abbrev dktX6_liesNow_2 : List UInt8 := dkwX6_liesNow_2 ++ []
def dkwX6_liesNow_1 : List UInt8 := [180, 0, 53, 28, 4, 100, 46, 16, 10, 112, 160, 0, 7, 4, 167, 0, 4, 3, 96, 60, 132, 2, 1]
abbrev dktX6_liesNow_1 : List UInt8 := dkwX6_liesNow_1 ++ dktX6_liesNow_2
def dkwX6_liesNow_0 : List UInt8 := [3, 60, 4, 61, 28, 42, 180, 1, 41, 162, 0, 40, 27, 42, 180, 0, 53, 28, 46, 16, 10, 112, 42]
abbrev dktX6_liesNow_0 : List UInt8 := dkwX6_liesNow_0 ++ dktX6_liesNow_1
theorem dksX6_liesNow_0 : cX6_liesNow.data.toList.drop 0 = dktX6_liesNow_0 := by decide +kernel
theorem dksX6_liesNow_1 : cX6_liesNow.data.toList.drop 23 = dktX6_liesNow_1 := dk_seg dksX6_liesNow_0 23 rfl rfl
theorem dksX6_liesNow_2 : cX6_liesNow.data.toList.drop 46 = dktX6_liesNow_2 := dk_seg dksX6_liesNow_1 23 rfl rfl
theorem dX6_liesNow_0 : decode cX6_liesNow 0 = .ok (.iconst 0, 1) := dk_3 (dk_at dksX6_liesNow_0 0 rfl rfl)
theorem dX6_liesNow_1 : decode cX6_liesNow 1 = .ok (.istore_n 1, 1) := dk_60 (dk_at dksX6_liesNow_0 1 rfl rfl)
theorem dX6_liesNow_2 : decode cX6_liesNow 2 = .ok (.iconst 1, 1) := dk_4 (dk_at dksX6_liesNow_0 2 rfl rfl)
theorem dX6_liesNow_3 : decode cX6_liesNow 3 = .ok (.istore_n 2, 1) := dk_61 (dk_at dksX6_liesNow_0 3 rfl rfl)
theorem dX6_liesNow_4 : decode cX6_liesNow 4 = .ok (.iload_n 2, 1) := dk_28 (dk_at dksX6_liesNow_0 4 rfl rfl)
theorem dX6_liesNow_5 : decode cX6_liesNow 5 = .ok (.aload_n 0, 1) := dk_42 (dk_at dksX6_liesNow_0 5 rfl rfl)
theorem dX6_liesNow_6 : decode cX6_liesNow 6 = .ok (.getfield 297, 3) := dk_180 1 41 (dk_at dksX6_liesNow_0 6 rfl rfl)
theorem dX6_liesNow_9 : decode cX6_liesNow 9 = .ok (.if_icmp .ge 40, 3) := dk_162 0 40 (dk_at dksX6_liesNow_0 9 rfl rfl)
theorem dX6_liesNow_12 : decode cX6_liesNow 12 = .ok (.iload_n 1, 1) := dk_27 (dk_at dksX6_liesNow_0 12 rfl rfl)
theorem dX6_liesNow_13 : decode cX6_liesNow 13 = .ok (.aload_n 0, 1) := dk_42 (dk_at dksX6_liesNow_0 13 rfl rfl)
theorem dX6_liesNow_14 : decode cX6_liesNow 14 = .ok (.getfield 53, 3) := dk_180 0 53 (dk_at dksX6_liesNow_0 14 rfl rfl)
theorem dX6_liesNow_17 : decode cX6_liesNow 17 = .ok (.iload_n 2, 1) := dk_28 (dk_at dksX6_liesNow_0 17 rfl rfl)
theorem dX6_liesNow_18 : decode cX6_liesNow 18 = .ok (.iaload, 1) := dk_46 (dk_at dksX6_liesNow_0 18 rfl rfl)
theorem dX6_liesNow_19 : decode cX6_liesNow 19 = .ok (.bipush 10, 2) := dk_16 10 (dk_at dksX6_liesNow_0 19 rfl rfl)
theorem dX6_liesNow_21 : decode cX6_liesNow 21 = .ok (.irem, 1) := dk_112 (dk_at dksX6_liesNow_0 21 rfl rfl)
theorem dX6_liesNow_22 : decode cX6_liesNow 22 = .ok (.aload_n 0, 1) := dk_42 (dk_at dksX6_liesNow_0 22 rfl rfl)
theorem dX6_liesNow_23 : decode cX6_liesNow 23 = .ok (.getfield 53, 3) := dk_180 0 53 (dk_at dksX6_liesNow_1 0 rfl rfl)
theorem dX6_liesNow_26 : decode cX6_liesNow 26 = .ok (.iload_n 2, 1) := dk_28 (dk_at dksX6_liesNow_1 3 rfl rfl)
theorem dX6_liesNow_27 : decode cX6_liesNow 27 = .ok (.iconst 1, 1) := dk_4 (dk_at dksX6_liesNow_1 4 rfl rfl)
theorem dX6_liesNow_28 : decode cX6_liesNow 28 = .ok (.isub, 1) := dk_100 (dk_at dksX6_liesNow_1 5 rfl rfl)
theorem dX6_liesNow_29 : decode cX6_liesNow 29 = .ok (.iaload, 1) := dk_46 (dk_at dksX6_liesNow_1 6 rfl rfl)
theorem dX6_liesNow_30 : decode cX6_liesNow 30 = .ok (.bipush 10, 2) := dk_16 10 (dk_at dksX6_liesNow_1 7 rfl rfl)
theorem dX6_liesNow_32 : decode cX6_liesNow 32 = .ok (.irem, 1) := dk_112 (dk_at dksX6_liesNow_1 9 rfl rfl)
theorem dX6_liesNow_33 : decode cX6_liesNow 33 = .ok (.if_icmp .ne 7, 3) := dk_160 0 7 (dk_at dksX6_liesNow_1 10 rfl rfl)
theorem dX6_liesNow_36 : decode cX6_liesNow 36 = .ok (.iconst 1, 1) := dk_4 (dk_at dksX6_liesNow_1 13 rfl rfl)
theorem dX6_liesNow_37 : decode cX6_liesNow 37 = .ok (.goto 4, 3) := dk_167 0 4 (dk_at dksX6_liesNow_1 14 rfl rfl)
theorem dX6_liesNow_40 : decode cX6_liesNow 40 = .ok (.iconst 0, 1) := dk_3 (dk_at dksX6_liesNow_1 17 rfl rfl)
theorem dX6_liesNow_41 : decode cX6_liesNow 41 = .ok (.iadd, 1) := dk_96 (dk_at dksX6_liesNow_1 18 rfl rfl)
theorem dX6_liesNow_42 : decode cX6_liesNow 42 = .ok (.istore_n 1, 1) := dk_60 (dk_at dksX6_liesNow_1 19 rfl rfl)
theorem dX6_liesNow_43 : decode cX6_liesNow 43 = .ok (.iinc 2 1, 3) := dk_132 2 1 (dk_at dksX6_liesNow_1 20 rfl rfl)
theorem dX6_liesNow_46 : decode cX6_liesNow 46 = .ok (.goto (-42), 3) := dk_167 255 214 (dk_at dksX6_liesNow_2 0 rfl rfl)
theorem dX6_liesNow_49 : decode cX6_liesNow 49 = .ok (.iload_n 1, 1) := dk_27 (dk_at dksX6_liesNow_2 3 rfl rfl)
theorem dX6_liesNow_50 : decode cX6_liesNow 50 = .ok (.ireturn, 1) := dk_172 (dk_at dksX6_liesNow_2 4 rfl rfl)

theorem okX6_liesNow : wOkV yX6_liesNow cX6_liesNow 3 (some .int) 0 := ⟨q1764, qs100, q145, q1765, by decide, by decide, by decide +kernel⟩
def gbX6_liesNow_4 (N : Nat)   (K : (Int32 → wMem → Option (Int32 × wMem))) (rec : (Int32 → Int32 → wMem → Option (Int32 × wMem))) (x1_ : Int32) (x2_ : Int32) (μ : wMem) : Option (Int32 × wMem) :=
  if (μ.1 0 30) ≤ x2_ then K x1_ μ else wG (ok_in x2_ 60) (wG (ok_in (x2_ - (1 : Int32)) 60) (wLet (fun (v5 : Int32) (v6 : Int32) (μ4 : wMem) => wLet (v6 + v5 : Int32) fun x7 => wLet (x2_ + 1 : Int32) fun x8 => rec x7 x8 μ4) fun JliesNow41 => if ((μ.1 13 (Int32.toNatClampNeg x2_)) - (μ.1 13 (Int32.toNatClampNeg x2_)) / (10 : Int32) * (10 : Int32)) = ((μ.1 13 (Int32.toNatClampNeg (x2_ - (1 : Int32)))) - (μ.1 13 (Int32.toNatClampNeg (x2_ - (1 : Int32)))) / (10 : Int32) * (10 : Int32)) then JliesNow41 1 x1_ μ else JliesNow41 0 x1_ μ))
def gX6_liesNow_4 (N : Nat)   (K : (Int32 → wMem → Option (Int32 × wMem))) : Nat → (Int32 → Int32 → wMem → Option (Int32 × wMem))
  | 0 => fun _ _ _ => none
  | k + 1 => gbX6_liesNow_4 N   K (gX6_liesNow_4 N   K k)
set_option maxHeartbeats 4000000 in
set_option maxRecDepth 100000 in
theorem tX6_liesNow_4 {p : Program} {l : Launch} {e : Env} {s : State} {m : MethodId} {args : Array Value} {below : List Frame} {meth : Method} {c : Code} {D : va_G} {E : List wCell} {q : Nat → Nat} {ca : wCA} {A : Nat → Prop} (C : wC p ({ frames := 0, cells := 0, slots := 0, locals := 0 } : Room) s m args meth c cX6_liesNow yX6_liesNow.cls 3 (some .int) D vwCl (spM ++ E) q ca A) (N : Nat)    (K : (Int32 → wMem → Option (Int32 × wMem))) (r0 : (Int32 × wMem)) (hK : ∀ (y1_ : Int32) (μ : wMem), K y1_ μ = some r0 → wJ p l e ({ frames := 0, cells := 0, slots := 0, locals := 0 } : Room) s m args below meth c 3 D vwCl (spM ++ E) q ca A (wQi ({ frames := 0, cells := 0, slots := 0, locals := 0 } : Room) D vwCl (spM ++ E) q ca below args s A r0) 0 0 μ 49 [(1, .int y1_)] []) : ∀ (k : Nat) (x1_ : Int32) (x2_ : Int32) (μ : wMem), gX6_liesNow_4 N   K k x1_ x2_ μ = some r0 → wJ p l e ({ frames := 0, cells := 0, slots := 0, locals := 0 } : Room) s m args below meth c 3 D vwCl (spM ++ E) q ca A (wQi ({ frames := 0, cells := 0, slots := 0, locals := 0 } : Room) D vwCl (spM ++ E) q ca below args s A r0) 0 0 μ 4 [(0, .ref (q 0)), (1, .int x1_), (2, .int x2_)] [] := by
  intro k
  induction k with
  | zero =>
    intro x1_ x2_ μ hf
    cases hf
  | succ k ih =>
    intro x1_ x2_ μ hf
    replace hf : gbX6_liesNow_4 N   K (gX6_liesNow_4 N   K k) x1_ x2_ μ = some r0 := hf
    unfold gbX6_liesNow_4 at hf
    refine wr_iload_n 4 C dX6_liesNow_4 2 rfl rfl ?_
    refine wr_aload_n 5 C dX6_liesNow_5 0 rfl rfl ?_
    refine gespM_0_30_X6 6 C dX6_liesNow_6 ?_
    refine wr_icmp_ge 9 49 C dX6_liesNow_9 (by decide) (fun c1 => ?_) (fun c1 => ?_)
    · replace hf := o_pos c1 hf
      refine wr_sub [(1, .int x1_)] [1] rfl ?_
      exact hK x1_ μ hf
    · replace hf := o_neg c1 hf
      refine wr_iload_n 12 C dX6_liesNow_12 1 rfl rfl ?_
      refine wr_aload_n 13 C dX6_liesNow_13 0 rfl rfl ?_
      refine gespM_0_31_X6 14 C dX6_liesNow_14 ?_
      refine wr_iload_n 17 C dX6_liesNow_17 2 rfl rfl ?_
      obtain ⟨g2, hf⟩ := o_g hf
      refine wr_iald 18 C dX6_liesNow_18 spM_13 g2 ?_
      refine wr_bipush 19 C dX6_liesNow_19 (v := 10) rfl ?_
      refine wr_irem 21 C dX6_liesNow_21 (by decide) ?_
      refine wr_aload_n 22 C dX6_liesNow_22 0 rfl rfl ?_
      refine gespM_0_31_X6 23 C dX6_liesNow_23 ?_
      refine wr_iload_n 26 C dX6_liesNow_26 2 rfl rfl ?_
      refine wr_iconst 27 C dX6_liesNow_27 (v := 1) rfl ?_
      refine wr_isub 28 C dX6_liesNow_28 ?_
      obtain ⟨g3, hf⟩ := o_g hf
      refine wr_iald 29 C dX6_liesNow_29 spM_13 g3 ?_
      refine wr_bipush 30 C dX6_liesNow_30 (v := 10) rfl ?_
      refine wr_irem 32 C dX6_liesNow_32 (by decide) ?_
      obtain ⟨JliesNow41, eJliesNow41, hf⟩ := o_let hf
      have hJliesNow41 : ∀ (v5 : Int32) (v6 : Int32) (μ4 : wMem), JliesNow41 v5 v6 μ4 = some r0 → wJ p l e ({ frames := 0, cells := 0, slots := 0, locals := 0 } : Room) s m args below meth c 3 D vwCl (spM ++ E) q ca A (wQi ({ frames := 0, cells := 0, slots := 0, locals := 0 } : Room) D vwCl (spM ++ E) q ca below args s A r0) 0 0 μ4 41 [(0, .ref (q 0)), (2, .int x2_)] [.int v5, .int v6] := by
        intro v5 v6 μ4 hf
        rw [eJliesNow41] at hf
        refine wr_iadd 41 C dX6_liesNow_41 ?_
        obtain ⟨x7, ex7, hf⟩ := o_let hf
        refine wr_istore_n 42 [(1, .int x7), (0, .ref (q 0)), (2, .int x2_)] C dX6_liesNow_42 ex7 rfl (Nat.le_of_ble_eq_true rfl) rfl ?_
        obtain ⟨x8, ex8, hf⟩ := o_let hf
        refine wr_iinc 43 [(2, .int x8), (1, .int x7), (0, .ref (q 0))] C dX6_liesNow_43 2 rfl (ex8.trans rfl) (Nat.le_of_ble_eq_true rfl) rfl ?_
        refine wr_goto 46 C dX6_liesNow_46 (tgt := 4) (by decide) ?_
        refine wr_sub [(0, .ref (q 0)), (1, .int x7), (2, .int x8)] [2, 1, 0] rfl ?_
        exact ih x7 x8 μ4 hf
      refine wr_icmp_ne 33 40 C dX6_liesNow_33 (by decide) (fun c9 => ?_) (fun c9 => ?_)
      · replace hf := o_neg c9 hf
        refine wr_iconst 40 C dX6_liesNow_40 (v := 0) rfl ?_
        refine wr_sub [(0, .ref (q 0)), (2, .int x2_)] [0, 2] rfl ?_
        exact hJliesNow41 0 x1_ μ hf
      · replace hf := o_pos c9 hf
        refine wr_iconst 36 C dX6_liesNow_36 (v := 1) rfl ?_
        refine wr_goto 37 C dX6_liesNow_37 (tgt := 41) (by decide) ?_
        refine wr_sub [(0, .ref (q 0)), (2, .int x2_)] [0, 2] rfl ?_
        exact hJliesNow41 1 x1_ μ hf
def fX6_liesNow (N : Nat)   (μ : wMem) : Option (Int32 × wMem) :=
  gX6_liesNow_4 N   (fun (x11 : Int32) (μ10 : wMem) => some (x11, μ10)) N 0 1 μ
set_option maxHeartbeats 4000000 in
set_option maxRecDepth 100000 in
theorem tX6_liesNow (l : Launch) {D : va_G} {E : List wCell} {q : Nat → Nat} {ca : wCA} (N : Nat)    (μ : wMem) (r0 : (Int32 × wMem)) (hf : fX6_liesNow N   μ = some r0) : wMi l yX6_liesNow cX6_liesNow 3 (some .int) ({ frames := 0, cells := 0, slots := 0, locals := 0 } : Room) D vwCl (spM ++ E) q ca [.ref (q 0)] μ r0 := by
  refine wMi_intro (by decide) (Nat.le_of_ble_eq_true rfl) ?_
  intro p e s m args below meth c A C
  unfold fX6_liesNow at hf
  refine wr_sub [(0, .ref (q 0))] [0] rfl ?_
  refine wr_iconst 0 C dX6_liesNow_0 (v := 0) rfl ?_
  refine wr_istore_n 1 [(1, .int 0), (0, .ref (q 0))] C dX6_liesNow_1 rfl rfl (Nat.le_of_ble_eq_true rfl) rfl ?_
  refine wr_iconst 2 C dX6_liesNow_2 (v := 1) rfl ?_
  refine wr_istore_n 3 [(2, .int 1), (1, .int 0), (0, .ref (q 0))] C dX6_liesNow_3 rfl rfl (Nat.le_of_ble_eq_true rfl) rfl ?_
  refine wr_sub [(0, .ref (q 0)), (1, .int 0), (2, .int 1)] [2, 1, 0] rfl ?_
  refine tX6_liesNow_4 C N    _ r0 (fun x11 μ10 hf => ?_) N 0 1 μ hf
  · replace hf := hf
    refine wr_iload_n 49 C dX6_liesNow_49 0 rfl rfl ?_
    exact wr_iret 50 C dX6_liesNow_50 ⟨Nat.zero_le _, Nat.zero_le _⟩ (Option.some.inj hf)
abbrev cX6_lies : ByteArray := prog_11_method_62_code
def yX6_lies : MethodName := ⟨RX6, "lies", "()I"⟩
def dkwX6_lies_0 : List UInt8 := [42, 3, 181, 0, 88, 42, 182, 1, 67, 154, 0, 6, 16, 254, 172, 42, 182, 1, 61, 42, 182, 1, 70, 172]
abbrev dktX6_lies_0 : List UInt8 := dkwX6_lies_0 ++ []
theorem dksX6_lies_0 : cX6_lies.data.toList.drop 0 = dktX6_lies_0 := by decide +kernel
theorem dX6_lies_0 : decode cX6_lies 0 = .ok (.aload_n 0, 1) := dk_42 (dk_at dksX6_lies_0 0 rfl rfl)
theorem dX6_lies_1 : decode cX6_lies 1 = .ok (.iconst 0, 1) := dk_3 (dk_at dksX6_lies_0 1 rfl rfl)
theorem dX6_lies_2 : decode cX6_lies 2 = .ok (.putfield 88, 3) := dk_181 0 88 (dk_at dksX6_lies_0 2 rfl rfl)
theorem dX6_lies_5 : decode cX6_lies 5 = .ok (.aload_n 0, 1) := dk_42 (dk_at dksX6_lies_0 5 rfl rfl)
theorem dX6_lies_6 : decode cX6_lies 6 = .ok (.invokevirtual 323, 3) := dk_182 1 67 (dk_at dksX6_lies_0 6 rfl rfl)
theorem dX6_lies_9 : decode cX6_lies 9 = .ok (.ifCond .ne 6, 3) := dk_154 0 6 (dk_at dksX6_lies_0 9 rfl rfl)
theorem dX6_lies_12 : decode cX6_lies 12 = .ok (.bipush (-2), 2) := dk_16 254 (dk_at dksX6_lies_0 12 rfl rfl)
theorem dX6_lies_14 : decode cX6_lies 14 = .ok (.ireturn, 1) := dk_172 (dk_at dksX6_lies_0 14 rfl rfl)
theorem dX6_lies_15 : decode cX6_lies 15 = .ok (.aload_n 0, 1) := dk_42 (dk_at dksX6_lies_0 15 rfl rfl)
theorem dX6_lies_16 : decode cX6_lies 16 = .ok (.invokevirtual 317, 3) := dk_182 1 61 (dk_at dksX6_lies_0 16 rfl rfl)
theorem dX6_lies_19 : decode cX6_lies 19 = .ok (.aload_n 0, 1) := dk_42 (dk_at dksX6_lies_0 19 rfl rfl)
theorem dX6_lies_20 : decode cX6_lies 20 = .ok (.invokevirtual 326, 3) := dk_182 1 70 (dk_at dksX6_lies_0 20 rfl rfl)
theorem dX6_lies_23 : decode cX6_lies 23 = .ok (.ireturn, 1) := dk_172 (dk_at dksX6_lies_0 23 rfl rfl)

theorem okX6_lies : wOkV yX6_lies cX6_lies 1 (some .int) 0 := ⟨q1759, q1760, q145, q1761, by decide, by decide, by decide +kernel⟩
def fX6_lies (N : Nat)   (μ : wMem) : Option (Int32 × wMem) :=
  wLet (wSI μ 0 0 (0 : Int32)) fun μ1 => wBind (fX6_isFamily N   μ1) fun v4 μ3 => if v4 = 0 then some ((-2), μ3) else wBindV (fX6_lays N   μ3) fun μ7 => wBind (fX6_liesNow N   μ7) fun v10 μ9 => some (v10, μ9)
set_option maxHeartbeats 4000000 in
set_option maxRecDepth 100000 in
theorem tX6_lies (l : Launch) {D : va_G} {E : List wCell} {q : Nat → Nat} {ca : wCA} (N : Nat)    (μ : wMem) (r0 : (Int32 × wMem)) (hf : fX6_lies N   μ = some r0) : wMi l yX6_lies cX6_lies 1 (some .int) ({ frames := 5, cells := 0, slots := 0, locals := 112 } : Room) D vwCl (spM ++ E) q ca [.ref (q 0)] μ r0 := by
  refine wMi_intro (by decide) (Nat.le_of_ble_eq_true rfl) ?_
  intro p e s m args below meth c A C
  unfold fX6_lies at hf
  refine wr_sub [(0, .ref (q 0))] [0] rfl ?_
  refine wr_aload_n 0 C dX6_lies_0 0 rfl rfl ?_
  refine wr_iconst 1 C dX6_lies_1 (v := 0) rfl ?_
  obtain ⟨μ1, eμ1, hf⟩ := o_let hf
  refine puspM_0_0_X6 2 C dX6_lies_2 eμ1 ?_
  refine wr_aload_n 5 C dX6_lies_5 0 rfl rfl ?_
  obtain ⟨v4, μ3, h2, hf⟩ := o_bind hf
  refine wr_Vi (kc1 := 0) (ks1 := 0) 6 [] C dX6_lies_6 (tX6_isFamily l N    μ1 (v4, μ3) h2) okX6_isFamily q1750 (b := 0) spM_0 rfl ⟨rfl, rfl, Nat.le_of_ble_eq_true rfl, Nat.le_of_ble_eq_true rfl, Nat.zero_le _, Nat.zero_le _⟩ (Nat.le_of_ble_eq_true rfl) rfl ?_
  refine wr_if_ne 9 15 C dX6_lies_9 (by decide) (fun c5 => ?_) (fun c5 => ?_)
  · replace hf := o_neg c5 hf
    refine wr_aload_n 15 C dX6_lies_15 0 rfl rfl ?_
    obtain ⟨μ7, h6, hf⟩ := o_bindV hf
    refine wr_Vv (kc1 := 0) (ks1 := 0) 16 [] C dX6_lies_16 (tX6_lays l N    μ3 μ7 h6) okX6_lays q1690 (b := 0) spM_0 rfl ⟨rfl, rfl, Nat.le_of_ble_eq_true rfl, Nat.le_of_ble_eq_true rfl, Nat.zero_le _, Nat.zero_le _⟩ (Nat.le_of_ble_eq_true rfl) rfl ?_
    refine wr_aload_n 19 C dX6_lies_19 0 rfl rfl ?_
    obtain ⟨v10, μ9, h8, hf⟩ := o_bind hf
    refine wr_Vi (kc1 := 0) (ks1 := 0) 20 [] C dX6_lies_20 (tX6_liesNow l N    μ7 (v10, μ9) h8) okX6_liesNow q1762 (b := 0) spM_0 rfl ⟨rfl, rfl, Nat.le_of_ble_eq_true rfl, Nat.le_of_ble_eq_true rfl, Nat.zero_le _, Nat.zero_le _⟩ (Nat.le_of_ble_eq_true rfl) rfl ?_
    exact wr_iret 23 C dX6_lies_23 ⟨Nat.zero_le _, Nat.zero_le _⟩ (Option.some.inj hf)
  · replace hf := o_pos c5 hf
    refine wr_bipush 12 C dX6_lies_12 (v := (-2)) rfl ?_
    exact wr_iret 14 C dX6_lies_14 ⟨Nat.zero_le _, Nat.zero_le _⟩ (Option.some.inj hf)
abbrev cX6_isCrossing : ByteArray := prog_11_method_63_code
def yX6_isCrossing : MethodName := ⟨RX6, "isCrossing", "(III)Z"⟩
def dkwX6_isCrossing_1 : List UInt8 := [182, 1, 64, 153, 0, 7, 4, 167, 0, 4, 3, 172]
abbrev dktX6_isCrossing_1 : List UInt8 := dkwX6_isCrossing_1 ++ []
def dkwX6_isCrossing_0 : List UInt8 := [42, 27, 182, 1, 56, 153, 0, 28, 28, 2, 159, 0, 11, 42, 28, 182, 1, 56, 153, 0, 15, 42, 29]
abbrev dktX6_isCrossing_0 : List UInt8 := dkwX6_isCrossing_0 ++ dktX6_isCrossing_1
theorem dksX6_isCrossing_0 : cX6_isCrossing.data.toList.drop 0 = dktX6_isCrossing_0 := by decide +kernel
theorem dksX6_isCrossing_1 : cX6_isCrossing.data.toList.drop 23 = dktX6_isCrossing_1 := dk_seg dksX6_isCrossing_0 23 rfl rfl
theorem dX6_isCrossing_0 : decode cX6_isCrossing 0 = .ok (.aload_n 0, 1) := dk_42 (dk_at dksX6_isCrossing_0 0 rfl rfl)
theorem dX6_isCrossing_1 : decode cX6_isCrossing 1 = .ok (.iload_n 1, 1) := dk_27 (dk_at dksX6_isCrossing_0 1 rfl rfl)
theorem dX6_isCrossing_2 : decode cX6_isCrossing 2 = .ok (.invokevirtual 312, 3) := dk_182 1 56 (dk_at dksX6_isCrossing_0 2 rfl rfl)
theorem dX6_isCrossing_5 : decode cX6_isCrossing 5 = .ok (.ifCond .eq 28, 3) := dk_153 0 28 (dk_at dksX6_isCrossing_0 5 rfl rfl)
theorem dX6_isCrossing_8 : decode cX6_isCrossing 8 = .ok (.iload_n 2, 1) := dk_28 (dk_at dksX6_isCrossing_0 8 rfl rfl)
theorem dX6_isCrossing_9 : decode cX6_isCrossing 9 = .ok (.iconst (-1), 1) := dk_2 (dk_at dksX6_isCrossing_0 9 rfl rfl)
theorem dX6_isCrossing_10 : decode cX6_isCrossing 10 = .ok (.if_icmp .eq 11, 3) := dk_159 0 11 (dk_at dksX6_isCrossing_0 10 rfl rfl)
theorem dX6_isCrossing_13 : decode cX6_isCrossing 13 = .ok (.aload_n 0, 1) := dk_42 (dk_at dksX6_isCrossing_0 13 rfl rfl)
theorem dX6_isCrossing_14 : decode cX6_isCrossing 14 = .ok (.iload_n 2, 1) := dk_28 (dk_at dksX6_isCrossing_0 14 rfl rfl)
theorem dX6_isCrossing_15 : decode cX6_isCrossing 15 = .ok (.invokevirtual 312, 3) := dk_182 1 56 (dk_at dksX6_isCrossing_0 15 rfl rfl)
theorem dX6_isCrossing_18 : decode cX6_isCrossing 18 = .ok (.ifCond .eq 15, 3) := dk_153 0 15 (dk_at dksX6_isCrossing_0 18 rfl rfl)
theorem dX6_isCrossing_21 : decode cX6_isCrossing 21 = .ok (.aload_n 0, 1) := dk_42 (dk_at dksX6_isCrossing_0 21 rfl rfl)
theorem dX6_isCrossing_22 : decode cX6_isCrossing 22 = .ok (.iload_n 3, 1) := dk_29 (dk_at dksX6_isCrossing_0 22 rfl rfl)
theorem dX6_isCrossing_23 : decode cX6_isCrossing 23 = .ok (.invokevirtual 320, 3) := dk_182 1 64 (dk_at dksX6_isCrossing_1 0 rfl rfl)
theorem dX6_isCrossing_26 : decode cX6_isCrossing 26 = .ok (.ifCond .eq 7, 3) := dk_153 0 7 (dk_at dksX6_isCrossing_1 3 rfl rfl)
theorem dX6_isCrossing_29 : decode cX6_isCrossing 29 = .ok (.iconst 1, 1) := dk_4 (dk_at dksX6_isCrossing_1 6 rfl rfl)
theorem dX6_isCrossing_30 : decode cX6_isCrossing 30 = .ok (.goto 4, 3) := dk_167 0 4 (dk_at dksX6_isCrossing_1 7 rfl rfl)
theorem dX6_isCrossing_33 : decode cX6_isCrossing 33 = .ok (.iconst 0, 1) := dk_3 (dk_at dksX6_isCrossing_1 10 rfl rfl)
theorem dX6_isCrossing_34 : decode cX6_isCrossing 34 = .ok (.ireturn, 1) := dk_172 (dk_at dksX6_isCrossing_1 11 rfl rfl)

theorem okX6_isCrossing : wOkV yX6_isCrossing cX6_isCrossing 4 (some .boolean) 3 := ⟨q1772, qs101, q145, q1773, by decide, by decide, by decide +kernel⟩
def fX6_isCrossing (N : Nat)  (a1 : Int32) (a2 : Int32) (a3 : Int32) (μ : wMem) : Option (Int32 × wMem) :=
  wBind (fX6_isPerson N  a1 μ) fun v3 μ2 => if v3 = 0 then some (0, μ2) else wLet (fun  (μ5 : wMem) => wBind (fX6_isPost N  a3 μ5) fun v8 μ7 => if v8 = 0 then some (0, μ7) else some (1, μ7)) fun JisCrossing21 => if a2 = (-1 : Int32) then JisCrossing21  μ2 else wBind (fX6_isPerson N  a2 μ2) fun v13 μ12 => if v13 = 0 then some (0, μ12) else JisCrossing21  μ12
set_option maxHeartbeats 4000000 in
set_option maxRecDepth 100000 in
theorem tX6_isCrossing (l : Launch) {D : va_G} {E : List wCell} {q : Nat → Nat} {ca : wCA} (N : Nat)   (a1 : Int32) (a2 : Int32) (a3 : Int32) (μ : wMem) (r0 : (Int32 × wMem)) (hf : fX6_isCrossing N  a1 a2 a3 μ = some r0) : wMi l yX6_isCrossing cX6_isCrossing 4 (some .boolean) ({ frames := 2, cells := 0, slots := 0, locals := 46 } : Room) D vwCl (spM ++ E) q ca [.ref (q 0), .int a1, .int a2, .int a3] μ r0 := by
  refine wMi_intro (by decide) (Nat.le_of_ble_eq_true rfl) ?_
  intro p e s m args below meth c A C
  unfold fX6_isCrossing at hf
  refine wr_sub [(0, .ref (q 0)), (1, .int a1), (2, .int a2), (3, .int a3)] [0, 1, 2, 3] rfl ?_
  refine wr_aload_n 0 C dX6_isCrossing_0 0 rfl rfl ?_
  refine wr_iload_n 1 C dX6_isCrossing_1 1 rfl rfl ?_
  obtain ⟨v3, μ2, h1, hf⟩ := o_bind hf
  refine wr_Vi (kc1 := 0) (ks1 := 0) 2 [] C dX6_isCrossing_2 (tX6_isPerson l N   a1 μ (v3, μ2) h1) okX6_isPerson q1685 (b := 0) spM_0 rfl ⟨rfl, rfl, Nat.le_of_ble_eq_true rfl, Nat.le_of_ble_eq_true rfl, Nat.zero_le _, Nat.zero_le _⟩ (Nat.le_of_ble_eq_true rfl) rfl ?_
  refine wr_if_eq 5 33 C dX6_isCrossing_5 (by decide) (fun c4 => ?_) (fun c4 => ?_)
  · replace hf := o_pos c4 hf
    refine wr_iconst 33 C dX6_isCrossing_33 (v := 0) rfl ?_
    exact wr_zret 34 C dX6_isCrossing_34 rfl ⟨Nat.zero_le _, Nat.zero_le _⟩ (Option.some.inj hf)
  · replace hf := o_neg c4 hf
    refine wr_iload_n 8 C dX6_isCrossing_8 2 rfl rfl ?_
    refine wr_iconst 9 C dX6_isCrossing_9 (v := (-1)) rfl ?_
    obtain ⟨JisCrossing21, eJisCrossing21, hf⟩ := o_let hf
    have hJisCrossing21 : ∀  (μ5 : wMem), JisCrossing21  μ5 = some r0 → wJ p l e ({ frames := 2, cells := 0, slots := 0, locals := 46 } : Room) s m args below meth c 4 D vwCl (spM ++ E) q ca A (wQi ({ frames := 2, cells := 0, slots := 0, locals := 46 } : Room) D vwCl (spM ++ E) q ca below args s A r0) 0 0 μ5 21 [(0, .ref (q 0)), (3, .int a3)] [] := by
      intro  μ5 hf
      rw [eJisCrossing21] at hf
      refine wr_aload_n 21 C dX6_isCrossing_21 0 rfl rfl ?_
      refine wr_iload_n 22 C dX6_isCrossing_22 1 rfl rfl ?_
      obtain ⟨v8, μ7, h6, hf⟩ := o_bind hf
      refine wr_Vi (kc1 := 0) (ks1 := 0) 23 [] C dX6_isCrossing_23 (tX6_isPost l N   a3 μ5 (v8, μ7) h6) okX6_isPost q1730 (b := 0) spM_0 rfl ⟨rfl, rfl, Nat.le_of_ble_eq_true rfl, Nat.le_of_ble_eq_true rfl, Nat.zero_le _, Nat.zero_le _⟩ (Nat.le_of_ble_eq_true rfl) rfl ?_
      refine wr_if_eq 26 33 C dX6_isCrossing_26 (by decide) (fun c9 => ?_) (fun c9 => ?_)
      · replace hf := o_pos c9 hf
        refine wr_iconst 33 C dX6_isCrossing_33 (v := 0) rfl ?_
        exact wr_zret 34 C dX6_isCrossing_34 rfl ⟨Nat.zero_le _, Nat.zero_le _⟩ (Option.some.inj hf)
      · replace hf := o_neg c9 hf
        refine wr_iconst 29 C dX6_isCrossing_29 (v := 1) rfl ?_
        refine wr_goto 30 C dX6_isCrossing_30 (tgt := 34) (by decide) ?_
        exact wr_zret 34 C dX6_isCrossing_34 rfl ⟨Nat.zero_le _, Nat.zero_le _⟩ (Option.some.inj hf)
    refine wr_icmp_eq 10 21 C dX6_isCrossing_10 (by decide) (fun c10 => ?_) (fun c10 => ?_)
    · replace hf := o_pos c10 hf
      refine wr_sub [(0, .ref (q 0)), (3, .int a3)] [0, 3] rfl ?_
      exact hJisCrossing21  μ2 hf
    · replace hf := o_neg c10 hf
      refine wr_aload_n 13 C dX6_isCrossing_13 0 rfl rfl ?_
      refine wr_iload_n 14 C dX6_isCrossing_14 2 rfl rfl ?_
      obtain ⟨v13, μ12, h11, hf⟩ := o_bind hf
      refine wr_Vi (kc1 := 0) (ks1 := 0) 15 [] C dX6_isCrossing_15 (tX6_isPerson l N   a2 μ2 (v13, μ12) h11) okX6_isPerson q1685 (b := 0) spM_0 rfl ⟨rfl, rfl, Nat.le_of_ble_eq_true rfl, Nat.le_of_ble_eq_true rfl, Nat.zero_le _, Nat.zero_le _⟩ (Nat.le_of_ble_eq_true rfl) rfl ?_
      refine wr_if_eq 18 33 C dX6_isCrossing_18 (by decide) (fun c14 => ?_) (fun c14 => ?_)
      · replace hf := o_pos c14 hf
        refine wr_iconst 33 C dX6_isCrossing_33 (v := 0) rfl ?_
        exact wr_zret 34 C dX6_isCrossing_34 rfl ⟨Nat.zero_le _, Nat.zero_le _⟩ (Option.some.inj hf)
      · replace hf := o_neg c14 hf
        refine wr_sub [(0, .ref (q 0)), (3, .int a3)] [0, 3] rfl ?_
        exact hJisCrossing21  μ12 hf
abbrev cX6_stamps : ByteArray := prog_11_method_42_code
def yX6_stamps : MethodName := ⟨RX6, "stamps", "(II)Z"⟩
def dkwX6_stamps_4 : List UInt8 := [122, 4, 126, 54, 5, 132, 6, 1, 167, 255, 209, 4, 172]
abbrev dktX6_stamps_4 : List UInt8 := dkwX6_stamps_4 ++ []
def dkwX6_stamps_3 : List UInt8 := [21, 6, 29, 162, 0, 32, 21, 4, 21, 6, 122, 4, 126, 21, 5, 160, 0, 5, 3, 172, 21, 4, 21, 6]
abbrev dktX6_stamps_3 : List UInt8 := dkwX6_stamps_3 ++ dktX6_stamps_4
def dkwX6_stamps_2 : List UInt8 := [54, 4, 28, 54, 5, 3, 54, 6, 21, 6, 42, 180, 0, 43, 6, 27, 104, 5, 96, 46, 162, 0, 38]
abbrev dktX6_stamps_2 : List UInt8 := dkwX6_stamps_2 ++ dktX6_stamps_3
def dkwX6_stamps_1 : List UInt8 := [180, 0, 250, 16, 7, 162, 0, 7, 5, 167, 0, 4, 6, 62, 42, 180, 0, 250, 4, 29, 120, 100, 4, 96]
abbrev dktX6_stamps_1 : List UInt8 := dkwX6_stamps_1 ++ dktX6_stamps_2
def dkwX6_stamps_0 : List UInt8 := [42, 180, 0, 250, 154, 0, 7, 3, 167, 0, 29, 42, 180, 0, 250, 6, 162, 0, 7, 4, 167, 0, 17, 42]
abbrev dktX6_stamps_0 : List UInt8 := dkwX6_stamps_0 ++ dktX6_stamps_1
theorem dksX6_stamps_0 : cX6_stamps.data.toList.drop 0 = dktX6_stamps_0 := by decide +kernel
theorem dksX6_stamps_1 : cX6_stamps.data.toList.drop 24 = dktX6_stamps_1 := dk_seg dksX6_stamps_0 24 rfl rfl
theorem dksX6_stamps_2 : cX6_stamps.data.toList.drop 48 = dktX6_stamps_2 := dk_seg dksX6_stamps_1 24 rfl rfl
theorem dksX6_stamps_3 : cX6_stamps.data.toList.drop 71 = dktX6_stamps_3 := dk_seg dksX6_stamps_2 23 rfl rfl
theorem dksX6_stamps_4 : cX6_stamps.data.toList.drop 95 = dktX6_stamps_4 := dk_seg dksX6_stamps_3 24 rfl rfl
theorem dX6_stamps_0 : decode cX6_stamps 0 = .ok (.aload_n 0, 1) := dk_42 (dk_at dksX6_stamps_0 0 rfl rfl)
theorem dX6_stamps_1 : decode cX6_stamps 1 = .ok (.getfield 250, 3) := dk_180 0 250 (dk_at dksX6_stamps_0 1 rfl rfl)
theorem dX6_stamps_4 : decode cX6_stamps 4 = .ok (.ifCond .ne 7, 3) := dk_154 0 7 (dk_at dksX6_stamps_0 4 rfl rfl)
theorem dX6_stamps_7 : decode cX6_stamps 7 = .ok (.iconst 0, 1) := dk_3 (dk_at dksX6_stamps_0 7 rfl rfl)
theorem dX6_stamps_8 : decode cX6_stamps 8 = .ok (.goto 29, 3) := dk_167 0 29 (dk_at dksX6_stamps_0 8 rfl rfl)
theorem dX6_stamps_11 : decode cX6_stamps 11 = .ok (.aload_n 0, 1) := dk_42 (dk_at dksX6_stamps_0 11 rfl rfl)
theorem dX6_stamps_12 : decode cX6_stamps 12 = .ok (.getfield 250, 3) := dk_180 0 250 (dk_at dksX6_stamps_0 12 rfl rfl)
theorem dX6_stamps_15 : decode cX6_stamps 15 = .ok (.iconst 3, 1) := dk_6 (dk_at dksX6_stamps_0 15 rfl rfl)
theorem dX6_stamps_16 : decode cX6_stamps 16 = .ok (.if_icmp .ge 7, 3) := dk_162 0 7 (dk_at dksX6_stamps_0 16 rfl rfl)
theorem dX6_stamps_19 : decode cX6_stamps 19 = .ok (.iconst 1, 1) := dk_4 (dk_at dksX6_stamps_0 19 rfl rfl)
theorem dX6_stamps_20 : decode cX6_stamps 20 = .ok (.goto 17, 3) := dk_167 0 17 (dk_at dksX6_stamps_0 20 rfl rfl)
theorem dX6_stamps_23 : decode cX6_stamps 23 = .ok (.aload_n 0, 1) := dk_42 (dk_at dksX6_stamps_0 23 rfl rfl)
theorem dX6_stamps_24 : decode cX6_stamps 24 = .ok (.getfield 250, 3) := dk_180 0 250 (dk_at dksX6_stamps_1 0 rfl rfl)
theorem dX6_stamps_27 : decode cX6_stamps 27 = .ok (.bipush 7, 2) := dk_16 7 (dk_at dksX6_stamps_1 3 rfl rfl)
theorem dX6_stamps_29 : decode cX6_stamps 29 = .ok (.if_icmp .ge 7, 3) := dk_162 0 7 (dk_at dksX6_stamps_1 5 rfl rfl)
theorem dX6_stamps_32 : decode cX6_stamps 32 = .ok (.iconst 2, 1) := dk_5 (dk_at dksX6_stamps_1 8 rfl rfl)
theorem dX6_stamps_33 : decode cX6_stamps 33 = .ok (.goto 4, 3) := dk_167 0 4 (dk_at dksX6_stamps_1 9 rfl rfl)
theorem dX6_stamps_36 : decode cX6_stamps 36 = .ok (.iconst 3, 1) := dk_6 (dk_at dksX6_stamps_1 12 rfl rfl)
theorem dX6_stamps_37 : decode cX6_stamps 37 = .ok (.istore_n 3, 1) := dk_62 (dk_at dksX6_stamps_1 13 rfl rfl)
theorem dX6_stamps_38 : decode cX6_stamps 38 = .ok (.aload_n 0, 1) := dk_42 (dk_at dksX6_stamps_1 14 rfl rfl)
theorem dX6_stamps_39 : decode cX6_stamps 39 = .ok (.getfield 250, 3) := dk_180 0 250 (dk_at dksX6_stamps_1 15 rfl rfl)
theorem dX6_stamps_42 : decode cX6_stamps 42 = .ok (.iconst 1, 1) := dk_4 (dk_at dksX6_stamps_1 18 rfl rfl)
theorem dX6_stamps_43 : decode cX6_stamps 43 = .ok (.iload_n 3, 1) := dk_29 (dk_at dksX6_stamps_1 19 rfl rfl)
theorem dX6_stamps_44 : decode cX6_stamps 44 = .ok (.ishl, 1) := dk_120 (dk_at dksX6_stamps_1 20 rfl rfl)
theorem dX6_stamps_45 : decode cX6_stamps 45 = .ok (.isub, 1) := dk_100 (dk_at dksX6_stamps_1 21 rfl rfl)
theorem dX6_stamps_46 : decode cX6_stamps 46 = .ok (.iconst 1, 1) := dk_4 (dk_at dksX6_stamps_1 22 rfl rfl)
theorem dX6_stamps_47 : decode cX6_stamps 47 = .ok (.iadd, 1) := dk_96 (dk_at dksX6_stamps_1 23 rfl rfl)
theorem dX6_stamps_48 : decode cX6_stamps 48 = .ok (.istore 4, 2) := dk_54 4 (dk_at dksX6_stamps_2 0 rfl rfl)
theorem dX6_stamps_50 : decode cX6_stamps 50 = .ok (.iload_n 2, 1) := dk_28 (dk_at dksX6_stamps_2 2 rfl rfl)
theorem dX6_stamps_51 : decode cX6_stamps 51 = .ok (.istore 5, 2) := dk_54 5 (dk_at dksX6_stamps_2 3 rfl rfl)
theorem dX6_stamps_53 : decode cX6_stamps 53 = .ok (.iconst 0, 1) := dk_3 (dk_at dksX6_stamps_2 5 rfl rfl)
theorem dX6_stamps_54 : decode cX6_stamps 54 = .ok (.istore 6, 2) := dk_54 6 (dk_at dksX6_stamps_2 6 rfl rfl)
theorem dX6_stamps_56 : decode cX6_stamps 56 = .ok (.iload 6, 2) := dk_21 6 (dk_at dksX6_stamps_2 8 rfl rfl)
theorem dX6_stamps_58 : decode cX6_stamps 58 = .ok (.aload_n 0, 1) := dk_42 (dk_at dksX6_stamps_2 10 rfl rfl)
theorem dX6_stamps_59 : decode cX6_stamps 59 = .ok (.getfield 43, 3) := dk_180 0 43 (dk_at dksX6_stamps_2 11 rfl rfl)
theorem dX6_stamps_62 : decode cX6_stamps 62 = .ok (.iconst 3, 1) := dk_6 (dk_at dksX6_stamps_2 14 rfl rfl)
theorem dX6_stamps_63 : decode cX6_stamps 63 = .ok (.iload_n 1, 1) := dk_27 (dk_at dksX6_stamps_2 15 rfl rfl)
theorem dX6_stamps_64 : decode cX6_stamps 64 = .ok (.imul, 1) := dk_104 (dk_at dksX6_stamps_2 16 rfl rfl)
theorem dX6_stamps_65 : decode cX6_stamps 65 = .ok (.iconst 2, 1) := dk_5 (dk_at dksX6_stamps_2 17 rfl rfl)
theorem dX6_stamps_66 : decode cX6_stamps 66 = .ok (.iadd, 1) := dk_96 (dk_at dksX6_stamps_2 18 rfl rfl)
theorem dX6_stamps_67 : decode cX6_stamps 67 = .ok (.iaload, 1) := dk_46 (dk_at dksX6_stamps_2 19 rfl rfl)
theorem dX6_stamps_68 : decode cX6_stamps 68 = .ok (.if_icmp .ge 38, 3) := dk_162 0 38 (dk_at dksX6_stamps_2 20 rfl rfl)
theorem dX6_stamps_71 : decode cX6_stamps 71 = .ok (.iload 6, 2) := dk_21 6 (dk_at dksX6_stamps_3 0 rfl rfl)
theorem dX6_stamps_73 : decode cX6_stamps 73 = .ok (.iload_n 3, 1) := dk_29 (dk_at dksX6_stamps_3 2 rfl rfl)
theorem dX6_stamps_74 : decode cX6_stamps 74 = .ok (.if_icmp .ge 32, 3) := dk_162 0 32 (dk_at dksX6_stamps_3 3 rfl rfl)
theorem dX6_stamps_77 : decode cX6_stamps 77 = .ok (.iload 4, 2) := dk_21 4 (dk_at dksX6_stamps_3 6 rfl rfl)
theorem dX6_stamps_79 : decode cX6_stamps 79 = .ok (.iload 6, 2) := dk_21 6 (dk_at dksX6_stamps_3 8 rfl rfl)
theorem dX6_stamps_81 : decode cX6_stamps 81 = .ok (.ishr, 1) := dk_122 (dk_at dksX6_stamps_3 10 rfl rfl)
theorem dX6_stamps_82 : decode cX6_stamps 82 = .ok (.iconst 1, 1) := dk_4 (dk_at dksX6_stamps_3 11 rfl rfl)
theorem dX6_stamps_83 : decode cX6_stamps 83 = .ok (.iand, 1) := dk_126 (dk_at dksX6_stamps_3 12 rfl rfl)
theorem dX6_stamps_84 : decode cX6_stamps 84 = .ok (.iload 5, 2) := dk_21 5 (dk_at dksX6_stamps_3 13 rfl rfl)
theorem dX6_stamps_86 : decode cX6_stamps 86 = .ok (.if_icmp .ne 5, 3) := dk_160 0 5 (dk_at dksX6_stamps_3 15 rfl rfl)
theorem dX6_stamps_89 : decode cX6_stamps 89 = .ok (.iconst 0, 1) := dk_3 (dk_at dksX6_stamps_3 18 rfl rfl)
theorem dX6_stamps_90 : decode cX6_stamps 90 = .ok (.ireturn, 1) := dk_172 (dk_at dksX6_stamps_3 19 rfl rfl)
theorem dX6_stamps_91 : decode cX6_stamps 91 = .ok (.iload 4, 2) := dk_21 4 (dk_at dksX6_stamps_3 20 rfl rfl)
theorem dX6_stamps_93 : decode cX6_stamps 93 = .ok (.iload 6, 2) := dk_21 6 (dk_at dksX6_stamps_3 22 rfl rfl)
theorem dX6_stamps_95 : decode cX6_stamps 95 = .ok (.ishr, 1) := dk_122 (dk_at dksX6_stamps_4 0 rfl rfl)
theorem dX6_stamps_96 : decode cX6_stamps 96 = .ok (.iconst 1, 1) := dk_4 (dk_at dksX6_stamps_4 1 rfl rfl)
theorem dX6_stamps_97 : decode cX6_stamps 97 = .ok (.iand, 1) := dk_126 (dk_at dksX6_stamps_4 2 rfl rfl)
theorem dX6_stamps_98 : decode cX6_stamps 98 = .ok (.istore 5, 2) := dk_54 5 (dk_at dksX6_stamps_4 3 rfl rfl)
theorem dX6_stamps_100 : decode cX6_stamps 100 = .ok (.iinc 6 1, 3) := dk_132 6 1 (dk_at dksX6_stamps_4 5 rfl rfl)
theorem dX6_stamps_103 : decode cX6_stamps 103 = .ok (.goto (-47), 3) := dk_167 255 209 (dk_at dksX6_stamps_4 8 rfl rfl)
theorem dX6_stamps_106 : decode cX6_stamps 106 = .ok (.iconst 1, 1) := dk_4 (dk_at dksX6_stamps_4 11 rfl rfl)
theorem dX6_stamps_107 : decode cX6_stamps 107 = .ok (.ireturn, 1) := dk_172 (dk_at dksX6_stamps_4 12 rfl rfl)

theorem okX6_stamps : wOkV yX6_stamps cX6_stamps 7 (some .boolean) 2 := ⟨q1784, qs104, q145, q1785, by decide, by decide, by decide +kernel⟩
def gbX6_stamps_56 (N : Nat)  (x1_ : Int32) (x3_ : Int32) (x4_ : Int32) (K : (wMem → Option (Int32 × wMem))) (rec : (Int32 → Int32 → wMem → Option (Int32 × wMem))) (x5_ : Int32) (x6_ : Int32) (μ : wMem) : Option (Int32 × wMem) :=
  wG (ok_in (((3 : Int32) * x1_) + (2 : Int32)) 30) (if (μ.1 10 (Int32.toNatClampNeg (((3 : Int32) * x1_) + (2 : Int32)))) ≤ x6_ then K  μ else if x3_ ≤ x6_ then K  μ else if ((x4_ >>> (x6_ &&& 31)) &&& (1 : Int32)) = x5_ then some (0, μ) else wLet ((x4_ >>> (x6_ &&& 31)) &&& (1 : Int32) : Int32) fun x8 => wLet (x6_ + 1 : Int32) fun x9 => rec x8 x9 μ)
def gX6_stamps_56 (N : Nat)  (x1_ : Int32) (x3_ : Int32) (x4_ : Int32) (K : (wMem → Option (Int32 × wMem))) : Nat → (Int32 → Int32 → wMem → Option (Int32 × wMem))
  | 0 => fun _ _ _ => none
  | k + 1 => gbX6_stamps_56 N  x1_ x3_ x4_ K (gX6_stamps_56 N  x1_ x3_ x4_ K k)
set_option maxHeartbeats 4000000 in
set_option maxRecDepth 100000 in
theorem tX6_stamps_56 {p : Program} {l : Launch} {e : Env} {s : State} {m : MethodId} {args : Array Value} {below : List Frame} {meth : Method} {c : Code} {D : va_G} {E : List wCell} {q : Nat → Nat} {ca : wCA} {A : Nat → Prop} (C : wC p ({ frames := 0, cells := 0, slots := 0, locals := 0 } : Room) s m args meth c cX6_stamps yX6_stamps.cls 7 (some .boolean) D vwCl (spM ++ E) q ca A) (N : Nat)   (x1_ : Int32) (x3_ : Int32) (x4_ : Int32) (K : (wMem → Option (Int32 × wMem))) (r0 : (Int32 × wMem)) (hK : ∀  (μ : wMem), K  μ = some r0 → wJ p l e ({ frames := 0, cells := 0, slots := 0, locals := 0 } : Room) s m args below meth c 7 D vwCl (spM ++ E) q ca A (wQi ({ frames := 0, cells := 0, slots := 0, locals := 0 } : Room) D vwCl (spM ++ E) q ca below args s A r0) 0 0 μ 106 [] []) : ∀ (k : Nat) (x5_ : Int32) (x6_ : Int32) (μ : wMem), gX6_stamps_56 N  x1_ x3_ x4_ K k x5_ x6_ μ = some r0 → wJ p l e ({ frames := 0, cells := 0, slots := 0, locals := 0 } : Room) s m args below meth c 7 D vwCl (spM ++ E) q ca A (wQi ({ frames := 0, cells := 0, slots := 0, locals := 0 } : Room) D vwCl (spM ++ E) q ca below args s A r0) 0 0 μ 56 [(0, .ref (q 0)), (1, .int x1_), (3, .int x3_), (4, .int x4_), (5, .int x5_), (6, .int x6_)] [] := by
  intro k
  induction k with
  | zero =>
    intro x5_ x6_ μ hf
    cases hf
  | succ k ih =>
    intro x5_ x6_ μ hf
    replace hf : gbX6_stamps_56 N  x1_ x3_ x4_ K (gX6_stamps_56 N  x1_ x3_ x4_ K k) x5_ x6_ μ = some r0 := hf
    unfold gbX6_stamps_56 at hf
    refine wr_iload 56 C dX6_stamps_56 5 rfl ?_
    refine wr_aload_n 58 C dX6_stamps_58 0 rfl rfl ?_
    refine gespM_0_20_X6 59 C dX6_stamps_59 ?_
    refine wr_iconst 62 C dX6_stamps_62 (v := 3) rfl ?_
    refine wr_iload_n 63 C dX6_stamps_63 1 rfl rfl ?_
    refine wr_imul 64 C dX6_stamps_64 ?_
    refine wr_iconst 65 C dX6_stamps_65 (v := 2) rfl ?_
    refine wr_iadd 66 C dX6_stamps_66 ?_
    obtain ⟨g4, hf⟩ := o_g hf
    refine wr_iald 67 C dX6_stamps_67 spM_10 g4 ?_
    refine wr_icmp_ge 68 106 C dX6_stamps_68 (by decide) (fun c5 => ?_) (fun c5 => ?_)
    · replace hf := o_pos c5 hf
      refine wr_sub [] [] rfl ?_
      exact hK  μ hf
    · replace hf := o_neg c5 hf
      refine wr_iload 71 C dX6_stamps_71 5 rfl ?_
      refine wr_iload_n 73 C dX6_stamps_73 2 rfl rfl ?_
      refine wr_icmp_ge 74 106 C dX6_stamps_74 (by decide) (fun c6 => ?_) (fun c6 => ?_)
      · replace hf := o_pos c6 hf
        refine wr_sub [] [] rfl ?_
        exact hK  μ hf
      · replace hf := o_neg c6 hf
        refine wr_iload 77 C dX6_stamps_77 3 rfl ?_
        refine wr_iload 79 C dX6_stamps_79 5 rfl ?_
        refine wr_ishr 81 C dX6_stamps_81 ?_
        refine wr_iconst 82 C dX6_stamps_82 (v := 1) rfl ?_
        refine wr_iand 83 C dX6_stamps_83 ?_
        refine wr_iload 84 C dX6_stamps_84 4 rfl ?_
        refine wr_icmp_ne 86 91 C dX6_stamps_86 (by decide) (fun c7 => ?_) (fun c7 => ?_)
        · replace hf := o_neg c7 hf
          refine wr_iload 91 C dX6_stamps_91 3 rfl ?_
          refine wr_iload 93 C dX6_stamps_93 5 rfl ?_
          refine wr_ishr 95 C dX6_stamps_95 ?_
          refine wr_iconst 96 C dX6_stamps_96 (v := 1) rfl ?_
          refine wr_iand 97 C dX6_stamps_97 ?_
          obtain ⟨x8, ex8, hf⟩ := o_let hf
          refine wr_istore 98 [(5, .int x8), (0, .ref (q 0)), (1, .int x1_), (3, .int x3_), (4, .int x4_), (6, .int x6_)] C dX6_stamps_98 ex8 (Nat.le_of_ble_eq_true rfl) rfl ?_
          obtain ⟨x9, ex9, hf⟩ := o_let hf
          refine wr_iinc 100 [(6, .int x9), (5, .int x8), (0, .ref (q 0)), (1, .int x1_), (3, .int x3_), (4, .int x4_)] C dX6_stamps_100 5 rfl (ex9.trans rfl) (Nat.le_of_ble_eq_true rfl) rfl ?_
          refine wr_goto 103 C dX6_stamps_103 (tgt := 56) (by decide) ?_
          refine wr_sub [(0, .ref (q 0)), (1, .int x1_), (3, .int x3_), (4, .int x4_), (5, .int x8), (6, .int x9)] [2, 3, 4, 5, 1, 0] rfl ?_
          exact ih x8 x9 μ hf
        · replace hf := o_pos c7 hf
          refine wr_iconst 89 C dX6_stamps_89 (v := 0) rfl ?_
          exact wr_zret 90 C dX6_stamps_90 rfl ⟨Nat.zero_le _, Nat.zero_le _⟩ (Option.some.inj hf)
def fX6_stamps (N : Nat)  (a1 : Int32) (a2 : Int32) (μ : wMem) : Option (Int32 × wMem) :=
  wLet (fun (v2 : Int32) (μ1 : wMem) => wLet (((μ1.1 0 27) - ((1 : Int32) <<< (v2 &&& 31))) + (1 : Int32) : Int32) fun x3 => gX6_stamps_56 N  a1 v2 x3 (fun  (μ10 : wMem) => some (1, μ10)) N a2 0 μ1) fun Jstamps37 => if (μ.1 0 27) = 0 then Jstamps37 0 μ else if (3 : Int32) ≤ (μ.1 0 27) then if (7 : Int32) ≤ (μ.1 0 27) then Jstamps37 3 μ else Jstamps37 2 μ else Jstamps37 1 μ
set_option maxHeartbeats 4000000 in
set_option maxRecDepth 100000 in
theorem tX6_stamps (l : Launch) {D : va_G} {E : List wCell} {q : Nat → Nat} {ca : wCA} (N : Nat)   (a1 : Int32) (a2 : Int32) (μ : wMem) (r0 : (Int32 × wMem)) (hf : fX6_stamps N  a1 a2 μ = some r0) : wMi l yX6_stamps cX6_stamps 7 (some .boolean) ({ frames := 0, cells := 0, slots := 0, locals := 0 } : Room) D vwCl (spM ++ E) q ca [.ref (q 0), .int a1, .int a2] μ r0 := by
  refine wMi_intro (by decide) (Nat.le_of_ble_eq_true rfl) ?_
  intro p e s m args below meth c A C
  unfold fX6_stamps at hf
  refine wr_sub [(0, .ref (q 0)), (1, .int a1), (2, .int a2)] [0, 1, 2] rfl ?_
  refine wr_aload_n 0 C dX6_stamps_0 0 rfl rfl ?_
  refine gespM_0_27_X6 1 C dX6_stamps_1 ?_
  obtain ⟨Jstamps37, eJstamps37, hf⟩ := o_let hf
  have hJstamps37 : ∀ (v2 : Int32) (μ1 : wMem), Jstamps37 v2 μ1 = some r0 → wJ p l e ({ frames := 0, cells := 0, slots := 0, locals := 0 } : Room) s m args below meth c 7 D vwCl (spM ++ E) q ca A (wQi ({ frames := 0, cells := 0, slots := 0, locals := 0 } : Room) D vwCl (spM ++ E) q ca below args s A r0) 0 0 μ1 37 [(0, .ref (q 0)), (1, .int a1), (2, .int a2)] [.int v2] := by
    intro v2 μ1 hf
    rw [eJstamps37] at hf
    refine wr_istore_n 37 [(3, .int v2), (0, .ref (q 0)), (1, .int a1), (2, .int a2)] C dX6_stamps_37 rfl rfl (Nat.le_of_ble_eq_true rfl) rfl ?_
    refine wr_aload_n 38 C dX6_stamps_38 1 rfl rfl ?_
    refine gespM_0_27_X6 39 C dX6_stamps_39 ?_
    refine wr_iconst 42 C dX6_stamps_42 (v := 1) rfl ?_
    refine wr_iload_n 43 C dX6_stamps_43 0 rfl rfl ?_
    refine wr_ishl 44 C dX6_stamps_44 ?_
    refine wr_isub 45 C dX6_stamps_45 ?_
    refine wr_iconst 46 C dX6_stamps_46 (v := 1) rfl ?_
    refine wr_iadd 47 C dX6_stamps_47 ?_
    obtain ⟨x3, ex3, hf⟩ := o_let hf
    refine wr_istore 48 [(4, .int x3), (3, .int v2), (0, .ref (q 0)), (1, .int a1), (2, .int a2)] C dX6_stamps_48 ex3 (Nat.le_of_ble_eq_true rfl) rfl ?_
    refine wr_iload_n 50 C dX6_stamps_50 4 rfl rfl ?_
    refine wr_istore 51 [(5, .int a2), (4, .int x3), (3, .int v2), (0, .ref (q 0)), (1, .int a1), (2, .int a2)] C dX6_stamps_51 rfl (Nat.le_of_ble_eq_true rfl) rfl ?_
    refine wr_iconst 53 C dX6_stamps_53 (v := 0) rfl ?_
    refine wr_istore 54 [(6, .int 0), (5, .int a2), (4, .int x3), (3, .int v2), (0, .ref (q 0)), (1, .int a1), (2, .int a2)] C dX6_stamps_54 rfl (Nat.le_of_ble_eq_true rfl) rfl ?_
    refine wr_sub [(0, .ref (q 0)), (1, .int a1), (3, .int v2), (4, .int x3), (5, .int a2), (6, .int 0)] [4, 5, 3, 2, 1, 0] rfl ?_
    refine tX6_stamps_56 C N   a1 v2 x3 _ r0 (fun  μ10 hf => ?_) N a2 0 μ1 hf
    · replace hf := hf
      refine wr_iconst 106 C dX6_stamps_106 (v := 1) rfl ?_
      exact wr_zret 107 C dX6_stamps_107 rfl ⟨Nat.zero_le _, Nat.zero_le _⟩ (Option.some.inj hf)
  refine wr_if_ne 4 11 C dX6_stamps_4 (by decide) (fun c11 => ?_) (fun c11 => ?_)
  · replace hf := o_neg c11 hf
    refine wr_aload_n 11 C dX6_stamps_11 0 rfl rfl ?_
    refine gespM_0_27_X6 12 C dX6_stamps_12 ?_
    refine wr_iconst 15 C dX6_stamps_15 (v := 3) rfl ?_
    refine wr_icmp_ge 16 23 C dX6_stamps_16 (by decide) (fun c12 => ?_) (fun c12 => ?_)
    · replace hf := o_pos c12 hf
      refine wr_aload_n 23 C dX6_stamps_23 0 rfl rfl ?_
      refine gespM_0_27_X6 24 C dX6_stamps_24 ?_
      refine wr_bipush 27 C dX6_stamps_27 (v := 7) rfl ?_
      refine wr_icmp_ge 29 36 C dX6_stamps_29 (by decide) (fun c13 => ?_) (fun c13 => ?_)
      · replace hf := o_pos c13 hf
        refine wr_iconst 36 C dX6_stamps_36 (v := 3) rfl ?_
        exact hJstamps37 3 μ hf
      · replace hf := o_neg c13 hf
        refine wr_iconst 32 C dX6_stamps_32 (v := 2) rfl ?_
        refine wr_goto 33 C dX6_stamps_33 (tgt := 37) (by decide) ?_
        exact hJstamps37 2 μ hf
    · replace hf := o_neg c12 hf
      refine wr_iconst 19 C dX6_stamps_19 (v := 1) rfl ?_
      refine wr_goto 20 C dX6_stamps_20 (tgt := 37) (by decide) ?_
      exact hJstamps37 1 μ hf
  · replace hf := o_pos c11 hf
    refine wr_iconst 7 C dX6_stamps_7 (v := 0) rfl ?_
    refine wr_goto 8 C dX6_stamps_8 (tgt := 37) (by decide) ?_
    exact hJstamps37 0 μ hf
abbrev cX6_whyElse : ByteArray := prog_11_method_44_code
def yX6_whyElse : MethodName := ⟨RX6, "whyElse", "(IIII)I"⟩
def dkwX6_whyElse_3 : List UInt8 := [29, 21, 4, 182, 1, 3, 153, 0, 7, 3, 167, 0, 4, 8, 172]
abbrev dktX6_whyElse_3 : List UInt8 := dkwX6_whyElse_3 ++ []
def dkwX6_whyElse_2 : List UInt8 := [154, 0, 10, 42, 180, 0, 244, 167, 0, 7, 42, 180, 0, 247, 29, 182, 1, 0, 154, 0, 5, 7, 172, 42]
abbrev dktX6_whyElse_2 : List UInt8 := dkwX6_whyElse_2 ++ dktX6_whyElse_3
def dkwX6_whyElse_1 : List UInt8 := [7, 46, 28, 184, 0, 189, 153, 0, 13, 42, 28, 182, 0, 253, 21, 4, 159, 0, 5, 6, 172, 42, 27, 29]
abbrev dktX6_whyElse_1 : List UInt8 := dkwX6_whyElse_1 ++ dktX6_whyElse_2
def dkwX6_whyElse_0 : List UInt8 := [42, 180, 0, 34, 7, 46, 27, 184, 0, 189, 153, 0, 5, 5, 172, 28, 2, 159, 0, 28, 42, 180, 0, 34]
abbrev dktX6_whyElse_0 : List UInt8 := dkwX6_whyElse_0 ++ dktX6_whyElse_1
theorem dksX6_whyElse_0 : cX6_whyElse.data.toList.drop 0 = dktX6_whyElse_0 := by decide +kernel
theorem dksX6_whyElse_1 : cX6_whyElse.data.toList.drop 24 = dktX6_whyElse_1 := dk_seg dksX6_whyElse_0 24 rfl rfl
theorem dksX6_whyElse_2 : cX6_whyElse.data.toList.drop 48 = dktX6_whyElse_2 := dk_seg dksX6_whyElse_1 24 rfl rfl
theorem dksX6_whyElse_3 : cX6_whyElse.data.toList.drop 72 = dktX6_whyElse_3 := dk_seg dksX6_whyElse_2 24 rfl rfl
theorem dX6_whyElse_0 : decode cX6_whyElse 0 = .ok (.aload_n 0, 1) := dk_42 (dk_at dksX6_whyElse_0 0 rfl rfl)
theorem dX6_whyElse_1 : decode cX6_whyElse 1 = .ok (.getfield 34, 3) := dk_180 0 34 (dk_at dksX6_whyElse_0 1 rfl rfl)
theorem dX6_whyElse_4 : decode cX6_whyElse 4 = .ok (.iconst 4, 1) := dk_7 (dk_at dksX6_whyElse_0 4 rfl rfl)
theorem dX6_whyElse_5 : decode cX6_whyElse 5 = .ok (.iaload, 1) := dk_46 (dk_at dksX6_whyElse_0 5 rfl rfl)
theorem dX6_whyElse_6 : decode cX6_whyElse 6 = .ok (.iload_n 1, 1) := dk_27 (dk_at dksX6_whyElse_0 6 rfl rfl)
theorem dX6_whyElse_7 : decode cX6_whyElse 7 = .ok (.invokestatic 189, 3) := dk_184 0 189 (dk_at dksX6_whyElse_0 7 rfl rfl)
theorem dX6_whyElse_10 : decode cX6_whyElse 10 = .ok (.ifCond .eq 5, 3) := dk_153 0 5 (dk_at dksX6_whyElse_0 10 rfl rfl)
theorem dX6_whyElse_13 : decode cX6_whyElse 13 = .ok (.iconst 2, 1) := dk_5 (dk_at dksX6_whyElse_0 13 rfl rfl)
theorem dX6_whyElse_14 : decode cX6_whyElse 14 = .ok (.ireturn, 1) := dk_172 (dk_at dksX6_whyElse_0 14 rfl rfl)
theorem dX6_whyElse_15 : decode cX6_whyElse 15 = .ok (.iload_n 2, 1) := dk_28 (dk_at dksX6_whyElse_0 15 rfl rfl)
theorem dX6_whyElse_16 : decode cX6_whyElse 16 = .ok (.iconst (-1), 1) := dk_2 (dk_at dksX6_whyElse_0 16 rfl rfl)
theorem dX6_whyElse_17 : decode cX6_whyElse 17 = .ok (.if_icmp .eq 28, 3) := dk_159 0 28 (dk_at dksX6_whyElse_0 17 rfl rfl)
theorem dX6_whyElse_20 : decode cX6_whyElse 20 = .ok (.aload_n 0, 1) := dk_42 (dk_at dksX6_whyElse_0 20 rfl rfl)
theorem dX6_whyElse_21 : decode cX6_whyElse 21 = .ok (.getfield 34, 3) := dk_180 0 34 (dk_at dksX6_whyElse_0 21 rfl rfl)
theorem dX6_whyElse_24 : decode cX6_whyElse 24 = .ok (.iconst 4, 1) := dk_7 (dk_at dksX6_whyElse_1 0 rfl rfl)
theorem dX6_whyElse_25 : decode cX6_whyElse 25 = .ok (.iaload, 1) := dk_46 (dk_at dksX6_whyElse_1 1 rfl rfl)
theorem dX6_whyElse_26 : decode cX6_whyElse 26 = .ok (.iload_n 2, 1) := dk_28 (dk_at dksX6_whyElse_1 2 rfl rfl)
theorem dX6_whyElse_27 : decode cX6_whyElse 27 = .ok (.invokestatic 189, 3) := dk_184 0 189 (dk_at dksX6_whyElse_1 3 rfl rfl)
theorem dX6_whyElse_30 : decode cX6_whyElse 30 = .ok (.ifCond .eq 13, 3) := dk_153 0 13 (dk_at dksX6_whyElse_1 6 rfl rfl)
theorem dX6_whyElse_33 : decode cX6_whyElse 33 = .ok (.aload_n 0, 1) := dk_42 (dk_at dksX6_whyElse_1 9 rfl rfl)
theorem dX6_whyElse_34 : decode cX6_whyElse 34 = .ok (.iload_n 2, 1) := dk_28 (dk_at dksX6_whyElse_1 10 rfl rfl)
theorem dX6_whyElse_35 : decode cX6_whyElse 35 = .ok (.invokevirtual 253, 3) := dk_182 0 253 (dk_at dksX6_whyElse_1 11 rfl rfl)
theorem dX6_whyElse_38 : decode cX6_whyElse 38 = .ok (.iload 4, 2) := dk_21 4 (dk_at dksX6_whyElse_1 14 rfl rfl)
theorem dX6_whyElse_40 : decode cX6_whyElse 40 = .ok (.if_icmp .eq 5, 3) := dk_159 0 5 (dk_at dksX6_whyElse_1 16 rfl rfl)
theorem dX6_whyElse_43 : decode cX6_whyElse 43 = .ok (.iconst 3, 1) := dk_6 (dk_at dksX6_whyElse_1 19 rfl rfl)
theorem dX6_whyElse_44 : decode cX6_whyElse 44 = .ok (.ireturn, 1) := dk_172 (dk_at dksX6_whyElse_1 20 rfl rfl)
theorem dX6_whyElse_45 : decode cX6_whyElse 45 = .ok (.aload_n 0, 1) := dk_42 (dk_at dksX6_whyElse_1 21 rfl rfl)
theorem dX6_whyElse_46 : decode cX6_whyElse 46 = .ok (.iload_n 1, 1) := dk_27 (dk_at dksX6_whyElse_1 22 rfl rfl)
theorem dX6_whyElse_47 : decode cX6_whyElse 47 = .ok (.iload_n 3, 1) := dk_29 (dk_at dksX6_whyElse_1 23 rfl rfl)
theorem dX6_whyElse_48 : decode cX6_whyElse 48 = .ok (.ifCond .ne 10, 3) := dk_154 0 10 (dk_at dksX6_whyElse_2 0 rfl rfl)
theorem dX6_whyElse_51 : decode cX6_whyElse 51 = .ok (.aload_n 0, 1) := dk_42 (dk_at dksX6_whyElse_2 3 rfl rfl)
theorem dX6_whyElse_52 : decode cX6_whyElse 52 = .ok (.getfield 244, 3) := dk_180 0 244 (dk_at dksX6_whyElse_2 4 rfl rfl)
theorem dX6_whyElse_55 : decode cX6_whyElse 55 = .ok (.goto 7, 3) := dk_167 0 7 (dk_at dksX6_whyElse_2 7 rfl rfl)
theorem dX6_whyElse_58 : decode cX6_whyElse 58 = .ok (.aload_n 0, 1) := dk_42 (dk_at dksX6_whyElse_2 10 rfl rfl)
theorem dX6_whyElse_59 : decode cX6_whyElse 59 = .ok (.getfield 247, 3) := dk_180 0 247 (dk_at dksX6_whyElse_2 11 rfl rfl)
theorem dX6_whyElse_62 : decode cX6_whyElse 62 = .ok (.iload_n 3, 1) := dk_29 (dk_at dksX6_whyElse_2 14 rfl rfl)
theorem dX6_whyElse_63 : decode cX6_whyElse 63 = .ok (.invokevirtual 256, 3) := dk_182 1 0 (dk_at dksX6_whyElse_2 15 rfl rfl)
theorem dX6_whyElse_66 : decode cX6_whyElse 66 = .ok (.ifCond .ne 5, 3) := dk_154 0 5 (dk_at dksX6_whyElse_2 18 rfl rfl)
theorem dX6_whyElse_69 : decode cX6_whyElse 69 = .ok (.iconst 4, 1) := dk_7 (dk_at dksX6_whyElse_2 21 rfl rfl)
theorem dX6_whyElse_70 : decode cX6_whyElse 70 = .ok (.ireturn, 1) := dk_172 (dk_at dksX6_whyElse_2 22 rfl rfl)
theorem dX6_whyElse_71 : decode cX6_whyElse 71 = .ok (.aload_n 0, 1) := dk_42 (dk_at dksX6_whyElse_2 23 rfl rfl)
theorem dX6_whyElse_72 : decode cX6_whyElse 72 = .ok (.iload_n 3, 1) := dk_29 (dk_at dksX6_whyElse_3 0 rfl rfl)
theorem dX6_whyElse_73 : decode cX6_whyElse 73 = .ok (.iload 4, 2) := dk_21 4 (dk_at dksX6_whyElse_3 1 rfl rfl)
theorem dX6_whyElse_75 : decode cX6_whyElse 75 = .ok (.invokevirtual 259, 3) := dk_182 1 3 (dk_at dksX6_whyElse_3 3 rfl rfl)
theorem dX6_whyElse_78 : decode cX6_whyElse 78 = .ok (.ifCond .eq 7, 3) := dk_153 0 7 (dk_at dksX6_whyElse_3 6 rfl rfl)
theorem dX6_whyElse_81 : decode cX6_whyElse 81 = .ok (.iconst 0, 1) := dk_3 (dk_at dksX6_whyElse_3 9 rfl rfl)
theorem dX6_whyElse_82 : decode cX6_whyElse 82 = .ok (.goto 4, 3) := dk_167 0 4 (dk_at dksX6_whyElse_3 10 rfl rfl)
theorem dX6_whyElse_85 : decode cX6_whyElse 85 = .ok (.iconst 5, 1) := dk_8 (dk_at dksX6_whyElse_3 13 rfl rfl)
theorem dX6_whyElse_86 : decode cX6_whyElse 86 = .ok (.ireturn, 1) := dk_172 (dk_at dksX6_whyElse_3 14 rfl rfl)

theorem okX6_whyElse : wOkV yX6_whyElse cX6_whyElse 5 (some .int) 4 := ⟨q1780, qs103, q145, q1781, by decide, by decide, by decide +kernel⟩
def fX6_whyElse (N : Nat)  (a1 : Int32) (a2 : Int32) (a3 : Int32) (a4 : Int32) (μ : wMem) : Option (Int32 × wMem) :=
  wG (ok_in (4 : Int32) 35) (wBind (fX6_isBit N  (μ.1 7 (Int32.toNatClampNeg (4 : Int32))) a1 μ) fun v4 μ3 => if v4 = 0 then wLet (fun  (μ6 : wMem) => wLet (fun (v8 : Int32) (v9 : Int32) (μ7 : wMem) => wBind (fX6_noses N  v9 v8 a3 μ7) fun v12 μ11 => if v12 = 0 then some (4, μ11) else wBind (fX6_stamps N  a3 a4 μ11) fun v16 μ15 => if v16 = 0 then some (5, μ15) else some (0, μ15)) fun JwhyElse62 => if a3 = 0 then JwhyElse62 (μ6.1 0 25) a1 μ6 else JwhyElse62 (μ6.1 0 26) a1 μ6) fun JwhyElse45 => if a2 = (-1 : Int32) then JwhyElse45  μ3 else wG (ok_in (4 : Int32) 35) (wBind (fX6_isBit N  (μ3.1 7 (Int32.toNatClampNeg (4 : Int32))) a2 μ3) fun v23 μ22 => if v23 = 0 then some (3, μ22) else wBind (fX6_sideOf N  a2 μ22) fun v27 μ26 => if v27 = a4 then JwhyElse45  μ26 else some (3, μ26)) else some (2, μ3))
set_option maxHeartbeats 4000000 in
set_option maxRecDepth 100000 in
theorem tX6_whyElse (l : Launch) {D : va_G} {E : List wCell} {q : Nat → Nat} {ca : wCA} (N : Nat)   (a1 : Int32) (a2 : Int32) (a3 : Int32) (a4 : Int32) (μ : wMem) (r0 : (Int32 × wMem)) (hf : fX6_whyElse N  a1 a2 a3 a4 μ = some r0) : wMi l yX6_whyElse cX6_whyElse 5 (some .int) ({ frames := 1, cells := 0, slots := 0, locals := 26 } : Room) D vwCl (spM ++ E) q ca [.ref (q 0), .int a1, .int a2, .int a3, .int a4] μ r0 := by
  refine wMi_intro (by decide) (Nat.le_of_ble_eq_true rfl) ?_
  intro p e s m args below meth c A C
  unfold fX6_whyElse at hf
  refine wr_sub [(0, .ref (q 0)), (1, .int a1), (2, .int a2), (3, .int a3), (4, .int a4)] [0, 1, 2, 3, 4] rfl ?_
  refine wr_aload_n 0 C dX6_whyElse_0 0 rfl rfl ?_
  refine gespM_0_17_X6 1 C dX6_whyElse_1 ?_
  refine wr_iconst 4 C dX6_whyElse_4 (v := 4) rfl ?_
  obtain ⟨g1, hf⟩ := o_g hf
  refine wr_iald 5 C dX6_whyElse_5 spM_7 g1 ?_
  refine wr_iload_n 6 C dX6_whyElse_6 1 rfl rfl ?_
  obtain ⟨v4, μ3, h2, hf⟩ := o_bind hf
  refine wr_Si (kc1 := 0) (ks1 := 0) 7 [] C dX6_whyElse_7 (tX6_isBit l N   (μ.1 7 (Int32.toNatClampNeg (4 : Int32))) a1 μ (v4, μ3) h2) okX6_isBit q1660 ⟨rfl, rfl, Nat.le_of_ble_eq_true rfl, Nat.le_of_ble_eq_true rfl, Nat.zero_le _, Nat.zero_le _⟩ (Nat.le_of_ble_eq_true rfl) rfl ?_
  refine wr_if_eq 10 15 C dX6_whyElse_10 (by decide) (fun c5 => ?_) (fun c5 => ?_)
  · replace hf := o_pos c5 hf
    refine wr_iload_n 15 C dX6_whyElse_15 2 rfl rfl ?_
    refine wr_iconst 16 C dX6_whyElse_16 (v := (-1)) rfl ?_
    obtain ⟨JwhyElse45, eJwhyElse45, hf⟩ := o_let hf
    have hJwhyElse45 : ∀  (μ6 : wMem), JwhyElse45  μ6 = some r0 → wJ p l e ({ frames := 1, cells := 0, slots := 0, locals := 26 } : Room) s m args below meth c 5 D vwCl (spM ++ E) q ca A (wQi ({ frames := 1, cells := 0, slots := 0, locals := 26 } : Room) D vwCl (spM ++ E) q ca below args s A r0) 0 0 μ6 45 [(0, .ref (q 0)), (1, .int a1), (3, .int a3), (4, .int a4)] [] := by
      intro  μ6 hf
      rw [eJwhyElse45] at hf
      refine wr_aload_n 45 C dX6_whyElse_45 0 rfl rfl ?_
      refine wr_iload_n 46 C dX6_whyElse_46 1 rfl rfl ?_
      refine wr_iload_n 47 C dX6_whyElse_47 2 rfl rfl ?_
      obtain ⟨JwhyElse62, eJwhyElse62, hf⟩ := o_let hf
      have hJwhyElse62 : ∀ (v8 : Int32) (v9 : Int32) (μ7 : wMem), JwhyElse62 v8 v9 μ7 = some r0 → wJ p l e ({ frames := 1, cells := 0, slots := 0, locals := 26 } : Room) s m args below meth c 5 D vwCl (spM ++ E) q ca A (wQi ({ frames := 1, cells := 0, slots := 0, locals := 26 } : Room) D vwCl (spM ++ E) q ca below args s A r0) 0 0 μ7 62 [(0, .ref (q 0)), (3, .int a3), (4, .int a4)] [.int v8, .int v9, .ref (q 0)] := by
        intro v8 v9 μ7 hf
        rw [eJwhyElse62] at hf
        refine wr_iload_n 62 C dX6_whyElse_62 1 rfl rfl ?_
        obtain ⟨v12, μ11, h10, hf⟩ := o_bind hf
        refine wr_Vi (kc1 := 0) (ks1 := 0) 63 [] C dX6_whyElse_63 (tX6_noses l N   v9 v8 a3 μ7 (v12, μ11) h10) okX6_noses q1742 (b := 0) spM_0 rfl ⟨rfl, rfl, Nat.le_of_ble_eq_true rfl, Nat.le_of_ble_eq_true rfl, Nat.zero_le _, Nat.zero_le _⟩ (Nat.le_of_ble_eq_true rfl) rfl ?_
        refine wr_if_ne 66 71 C dX6_whyElse_66 (by decide) (fun c13 => ?_) (fun c13 => ?_)
        · replace hf := o_neg c13 hf
          refine wr_aload_n 71 C dX6_whyElse_71 0 rfl rfl ?_
          refine wr_iload_n 72 C dX6_whyElse_72 1 rfl rfl ?_
          refine wr_iload 73 C dX6_whyElse_73 2 rfl ?_
          obtain ⟨v16, μ15, h14, hf⟩ := o_bind hf
          refine wr_Vi (kc1 := 0) (ks1 := 0) 75 [] C dX6_whyElse_75 (tX6_stamps l N   a3 a4 μ11 (v16, μ15) h14) okX6_stamps q1782 (b := 0) spM_0 rfl ⟨rfl, rfl, Nat.le_of_ble_eq_true rfl, Nat.le_of_ble_eq_true rfl, Nat.zero_le _, Nat.zero_le _⟩ (Nat.le_of_ble_eq_true rfl) rfl ?_
          refine wr_if_eq 78 85 C dX6_whyElse_78 (by decide) (fun c17 => ?_) (fun c17 => ?_)
          · replace hf := o_pos c17 hf
            refine wr_iconst 85 C dX6_whyElse_85 (v := 5) rfl ?_
            exact wr_iret 86 C dX6_whyElse_86 ⟨Nat.zero_le _, Nat.zero_le _⟩ (Option.some.inj hf)
          · replace hf := o_neg c17 hf
            refine wr_iconst 81 C dX6_whyElse_81 (v := 0) rfl ?_
            refine wr_goto 82 C dX6_whyElse_82 (tgt := 86) (by decide) ?_
            exact wr_iret 86 C dX6_whyElse_86 ⟨Nat.zero_le _, Nat.zero_le _⟩ (Option.some.inj hf)
        · replace hf := o_pos c13 hf
          refine wr_iconst 69 C dX6_whyElse_69 (v := 4) rfl ?_
          exact wr_iret 70 C dX6_whyElse_70 ⟨Nat.zero_le _, Nat.zero_le _⟩ (Option.some.inj hf)
      refine wr_if_ne 48 58 C dX6_whyElse_48 (by decide) (fun c18 => ?_) (fun c18 => ?_)
      · replace hf := o_neg c18 hf
        refine wr_aload_n 58 C dX6_whyElse_58 0 rfl rfl ?_
        refine gespM_0_26_X6 59 C dX6_whyElse_59 ?_
        refine wr_sub [(0, .ref (q 0)), (3, .int a3), (4, .int a4)] [0, 2, 3] rfl ?_
        exact hJwhyElse62 (μ6.1 0 26) a1 μ6 hf
      · replace hf := o_pos c18 hf
        refine wr_aload_n 51 C dX6_whyElse_51 0 rfl rfl ?_
        refine gespM_0_25_X6 52 C dX6_whyElse_52 ?_
        refine wr_goto 55 C dX6_whyElse_55 (tgt := 62) (by decide) ?_
        refine wr_sub [(0, .ref (q 0)), (3, .int a3), (4, .int a4)] [0, 2, 3] rfl ?_
        exact hJwhyElse62 (μ6.1 0 25) a1 μ6 hf
    refine wr_icmp_eq 17 45 C dX6_whyElse_17 (by decide) (fun c19 => ?_) (fun c19 => ?_)
    · replace hf := o_pos c19 hf
      refine wr_sub [(0, .ref (q 0)), (1, .int a1), (3, .int a3), (4, .int a4)] [0, 1, 3, 4] rfl ?_
      exact hJwhyElse45  μ3 hf
    · replace hf := o_neg c19 hf
      refine wr_aload_n 20 C dX6_whyElse_20 0 rfl rfl ?_
      refine gespM_0_17_X6 21 C dX6_whyElse_21 ?_
      refine wr_iconst 24 C dX6_whyElse_24 (v := 4) rfl ?_
      obtain ⟨g20, hf⟩ := o_g hf
      refine wr_iald 25 C dX6_whyElse_25 spM_7 g20 ?_
      refine wr_iload_n 26 C dX6_whyElse_26 2 rfl rfl ?_
      obtain ⟨v23, μ22, h21, hf⟩ := o_bind hf
      refine wr_Si (kc1 := 0) (ks1 := 0) 27 [] C dX6_whyElse_27 (tX6_isBit l N   (μ3.1 7 (Int32.toNatClampNeg (4 : Int32))) a2 μ3 (v23, μ22) h21) okX6_isBit q1660 ⟨rfl, rfl, Nat.le_of_ble_eq_true rfl, Nat.le_of_ble_eq_true rfl, Nat.zero_le _, Nat.zero_le _⟩ (Nat.le_of_ble_eq_true rfl) rfl ?_
      refine wr_if_eq 30 43 C dX6_whyElse_30 (by decide) (fun c24 => ?_) (fun c24 => ?_)
      · replace hf := o_pos c24 hf
        refine wr_iconst 43 C dX6_whyElse_43 (v := 3) rfl ?_
        exact wr_iret 44 C dX6_whyElse_44 ⟨Nat.zero_le _, Nat.zero_le _⟩ (Option.some.inj hf)
      · replace hf := o_neg c24 hf
        refine wr_aload_n 33 C dX6_whyElse_33 0 rfl rfl ?_
        refine wr_iload_n 34 C dX6_whyElse_34 2 rfl rfl ?_
        obtain ⟨v27, μ26, h25, hf⟩ := o_bind hf
        refine wr_Vi (kc1 := 0) (ks1 := 0) 35 [] C dX6_whyElse_35 (tX6_sideOf l N   a2 μ22 (v27, μ26) h25) okX6_sideOf q1718 (b := 0) spM_0 rfl ⟨rfl, rfl, Nat.le_of_ble_eq_true rfl, Nat.le_of_ble_eq_true rfl, Nat.zero_le _, Nat.zero_le _⟩ (Nat.le_of_ble_eq_true rfl) rfl ?_
        refine wr_iload 38 C dX6_whyElse_38 4 rfl ?_
        refine wr_icmp_eq 40 45 C dX6_whyElse_40 (by decide) (fun c28 => ?_) (fun c28 => ?_)
        · replace hf := o_pos c28 hf
          refine wr_sub [(0, .ref (q 0)), (1, .int a1), (3, .int a3), (4, .int a4)] [0, 1, 3, 4] rfl ?_
          exact hJwhyElse45  μ26 hf
        · replace hf := o_neg c28 hf
          refine wr_iconst 43 C dX6_whyElse_43 (v := 3) rfl ?_
          exact wr_iret 44 C dX6_whyElse_44 ⟨Nat.zero_le _, Nat.zero_le _⟩ (Option.some.inj hf)
  · replace hf := o_neg c5 hf
    refine wr_iconst 13 C dX6_whyElse_13 (v := 2) rfl ?_
    exact wr_iret 14 C dX6_whyElse_14 ⟨Nat.zero_le _, Nat.zero_le _⟩ (Option.some.inj hf)
abbrev cX6_whyOf : ByteArray := prog_11_method_45_code
def yX6_whyOf : MethodName := ⟨RX6, "whyOf", "(III)I"⟩
def dkwX6_whyOf_1 : List UInt8 := [182, 1, 6, 172]
abbrev dktX6_whyOf_1 : List UInt8 := dkwX6_whyOf_1 ++ []
def dkwX6_whyOf_0 : List UInt8 := [42, 27, 182, 0, 253, 42, 180, 0, 241, 159, 0, 7, 4, 167, 0, 14, 42, 27, 28, 29, 42, 180, 0, 241]
abbrev dktX6_whyOf_0 : List UInt8 := dkwX6_whyOf_0 ++ dktX6_whyOf_1
theorem dksX6_whyOf_0 : cX6_whyOf.data.toList.drop 0 = dktX6_whyOf_0 := by decide +kernel
theorem dksX6_whyOf_1 : cX6_whyOf.data.toList.drop 24 = dktX6_whyOf_1 := dk_seg dksX6_whyOf_0 24 rfl rfl
theorem dX6_whyOf_0 : decode cX6_whyOf 0 = .ok (.aload_n 0, 1) := dk_42 (dk_at dksX6_whyOf_0 0 rfl rfl)
theorem dX6_whyOf_1 : decode cX6_whyOf 1 = .ok (.iload_n 1, 1) := dk_27 (dk_at dksX6_whyOf_0 1 rfl rfl)
theorem dX6_whyOf_2 : decode cX6_whyOf 2 = .ok (.invokevirtual 253, 3) := dk_182 0 253 (dk_at dksX6_whyOf_0 2 rfl rfl)
theorem dX6_whyOf_5 : decode cX6_whyOf 5 = .ok (.aload_n 0, 1) := dk_42 (dk_at dksX6_whyOf_0 5 rfl rfl)
theorem dX6_whyOf_6 : decode cX6_whyOf 6 = .ok (.getfield 241, 3) := dk_180 0 241 (dk_at dksX6_whyOf_0 6 rfl rfl)
theorem dX6_whyOf_9 : decode cX6_whyOf 9 = .ok (.if_icmp .eq 7, 3) := dk_159 0 7 (dk_at dksX6_whyOf_0 9 rfl rfl)
theorem dX6_whyOf_12 : decode cX6_whyOf 12 = .ok (.iconst 1, 1) := dk_4 (dk_at dksX6_whyOf_0 12 rfl rfl)
theorem dX6_whyOf_13 : decode cX6_whyOf 13 = .ok (.goto 14, 3) := dk_167 0 14 (dk_at dksX6_whyOf_0 13 rfl rfl)
theorem dX6_whyOf_16 : decode cX6_whyOf 16 = .ok (.aload_n 0, 1) := dk_42 (dk_at dksX6_whyOf_0 16 rfl rfl)
theorem dX6_whyOf_17 : decode cX6_whyOf 17 = .ok (.iload_n 1, 1) := dk_27 (dk_at dksX6_whyOf_0 17 rfl rfl)
theorem dX6_whyOf_18 : decode cX6_whyOf 18 = .ok (.iload_n 2, 1) := dk_28 (dk_at dksX6_whyOf_0 18 rfl rfl)
theorem dX6_whyOf_19 : decode cX6_whyOf 19 = .ok (.iload_n 3, 1) := dk_29 (dk_at dksX6_whyOf_0 19 rfl rfl)
theorem dX6_whyOf_20 : decode cX6_whyOf 20 = .ok (.aload_n 0, 1) := dk_42 (dk_at dksX6_whyOf_0 20 rfl rfl)
theorem dX6_whyOf_21 : decode cX6_whyOf 21 = .ok (.getfield 241, 3) := dk_180 0 241 (dk_at dksX6_whyOf_0 21 rfl rfl)
theorem dX6_whyOf_24 : decode cX6_whyOf 24 = .ok (.invokevirtual 262, 3) := dk_182 1 6 (dk_at dksX6_whyOf_1 0 rfl rfl)
theorem dX6_whyOf_27 : decode cX6_whyOf 27 = .ok (.ireturn, 1) := dk_172 (dk_at dksX6_whyOf_1 3 rfl rfl)

theorem okX6_whyOf : wOkV yX6_whyOf cX6_whyOf 4 (some .int) 3 := ⟨q1776, qs102, q145, q1777, by decide, by decide, by decide +kernel⟩
def fX6_whyOf (N : Nat)  (a1 : Int32) (a2 : Int32) (a3 : Int32) (μ : wMem) : Option (Int32 × wMem) :=
  wBind (fX6_sideOf N  a1 μ) fun v3 μ2 => if v3 = (μ2.1 0 24) then wBind (fX6_whyElse N  a1 a2 a3 (μ2.1 0 24) μ2) fun v7 μ6 => some (v7, μ6) else some (1, μ2)
set_option maxHeartbeats 4000000 in
set_option maxRecDepth 100000 in
theorem tX6_whyOf (l : Launch) {D : va_G} {E : List wCell} {q : Nat → Nat} {ca : wCA} (N : Nat)   (a1 : Int32) (a2 : Int32) (a3 : Int32) (μ : wMem) (r0 : (Int32 × wMem)) (hf : fX6_whyOf N  a1 a2 a3 μ = some r0) : wMi l yX6_whyOf cX6_whyOf 4 (some .int) ({ frames := 2, cells := 0, slots := 0, locals := 50 } : Room) D vwCl (spM ++ E) q ca [.ref (q 0), .int a1, .int a2, .int a3] μ r0 := by
  refine wMi_intro (by decide) (Nat.le_of_ble_eq_true rfl) ?_
  intro p e s m args below meth c A C
  unfold fX6_whyOf at hf
  refine wr_sub [(0, .ref (q 0)), (1, .int a1), (2, .int a2), (3, .int a3)] [0, 1, 2, 3] rfl ?_
  refine wr_aload_n 0 C dX6_whyOf_0 0 rfl rfl ?_
  refine wr_iload_n 1 C dX6_whyOf_1 1 rfl rfl ?_
  obtain ⟨v3, μ2, h1, hf⟩ := o_bind hf
  refine wr_Vi (kc1 := 0) (ks1 := 0) 2 [] C dX6_whyOf_2 (tX6_sideOf l N   a1 μ (v3, μ2) h1) okX6_sideOf q1718 (b := 0) spM_0 rfl ⟨rfl, rfl, Nat.le_of_ble_eq_true rfl, Nat.le_of_ble_eq_true rfl, Nat.zero_le _, Nat.zero_le _⟩ (Nat.le_of_ble_eq_true rfl) rfl ?_
  refine wr_aload_n 5 C dX6_whyOf_5 0 rfl rfl ?_
  refine gespM_0_24_X6 6 C dX6_whyOf_6 ?_
  refine wr_icmp_eq 9 16 C dX6_whyOf_9 (by decide) (fun c4 => ?_) (fun c4 => ?_)
  · replace hf := o_pos c4 hf
    refine wr_aload_n 16 C dX6_whyOf_16 0 rfl rfl ?_
    refine wr_iload_n 17 C dX6_whyOf_17 1 rfl rfl ?_
    refine wr_iload_n 18 C dX6_whyOf_18 2 rfl rfl ?_
    refine wr_iload_n 19 C dX6_whyOf_19 3 rfl rfl ?_
    refine wr_aload_n 20 C dX6_whyOf_20 0 rfl rfl ?_
    refine gespM_0_24_X6 21 C dX6_whyOf_21 ?_
    obtain ⟨v7, μ6, h5, hf⟩ := o_bind hf
    refine wr_Vi (kc1 := 0) (ks1 := 0) 24 [] C dX6_whyOf_24 (tX6_whyElse l N   a1 a2 a3 (μ2.1 0 24) μ2 (v7, μ6) h5) okX6_whyElse q1778 (b := 0) spM_0 rfl ⟨rfl, rfl, Nat.le_of_ble_eq_true rfl, Nat.le_of_ble_eq_true rfl, Nat.zero_le _, Nat.zero_le _⟩ (Nat.le_of_ble_eq_true rfl) rfl ?_
    exact wr_iret 27 C dX6_whyOf_27 ⟨Nat.zero_le _, Nat.zero_le _⟩ (Option.some.inj hf)
  · replace hf := o_neg c4 hf
    refine wr_iconst 12 C dX6_whyOf_12 (v := 1) rfl ?_
    refine wr_goto 13 C dX6_whyOf_13 (tgt := 27) (by decide) ?_
    exact wr_iret 27 C dX6_whyOf_27 ⟨Nat.zero_le _, Nat.zero_le _⟩ (Option.some.inj hf)
abbrev cX6_why : ByteArray := prog_11_method_64_code
def yX6_why : MethodName := ⟨RX6, "why", "(III)I"⟩
def dkwX6_why_1 : List UInt8 := [28, 29, 182, 1, 18, 172]
abbrev dktX6_why_1 : List UInt8 := dkwX6_why_1 ++ []
def dkwX6_why_0 : List UInt8 := [42, 3, 181, 0, 88, 42, 27, 28, 29, 182, 1, 74, 154, 0, 6, 16, 254, 172, 42, 182, 1, 61, 42, 27]
abbrev dktX6_why_0 : List UInt8 := dkwX6_why_0 ++ dktX6_why_1
theorem dksX6_why_0 : cX6_why.data.toList.drop 0 = dktX6_why_0 := by decide +kernel
theorem dksX6_why_1 : cX6_why.data.toList.drop 24 = dktX6_why_1 := dk_seg dksX6_why_0 24 rfl rfl
theorem dX6_why_0 : decode cX6_why 0 = .ok (.aload_n 0, 1) := dk_42 (dk_at dksX6_why_0 0 rfl rfl)
theorem dX6_why_1 : decode cX6_why 1 = .ok (.iconst 0, 1) := dk_3 (dk_at dksX6_why_0 1 rfl rfl)
theorem dX6_why_2 : decode cX6_why 2 = .ok (.putfield 88, 3) := dk_181 0 88 (dk_at dksX6_why_0 2 rfl rfl)
theorem dX6_why_5 : decode cX6_why 5 = .ok (.aload_n 0, 1) := dk_42 (dk_at dksX6_why_0 5 rfl rfl)
theorem dX6_why_6 : decode cX6_why 6 = .ok (.iload_n 1, 1) := dk_27 (dk_at dksX6_why_0 6 rfl rfl)
theorem dX6_why_7 : decode cX6_why 7 = .ok (.iload_n 2, 1) := dk_28 (dk_at dksX6_why_0 7 rfl rfl)
theorem dX6_why_8 : decode cX6_why 8 = .ok (.iload_n 3, 1) := dk_29 (dk_at dksX6_why_0 8 rfl rfl)
theorem dX6_why_9 : decode cX6_why 9 = .ok (.invokevirtual 330, 3) := dk_182 1 74 (dk_at dksX6_why_0 9 rfl rfl)
theorem dX6_why_12 : decode cX6_why 12 = .ok (.ifCond .ne 6, 3) := dk_154 0 6 (dk_at dksX6_why_0 12 rfl rfl)
theorem dX6_why_15 : decode cX6_why 15 = .ok (.bipush (-2), 2) := dk_16 254 (dk_at dksX6_why_0 15 rfl rfl)
theorem dX6_why_17 : decode cX6_why 17 = .ok (.ireturn, 1) := dk_172 (dk_at dksX6_why_0 17 rfl rfl)
theorem dX6_why_18 : decode cX6_why 18 = .ok (.aload_n 0, 1) := dk_42 (dk_at dksX6_why_0 18 rfl rfl)
theorem dX6_why_19 : decode cX6_why 19 = .ok (.invokevirtual 317, 3) := dk_182 1 61 (dk_at dksX6_why_0 19 rfl rfl)
theorem dX6_why_22 : decode cX6_why 22 = .ok (.aload_n 0, 1) := dk_42 (dk_at dksX6_why_0 22 rfl rfl)
theorem dX6_why_23 : decode cX6_why 23 = .ok (.iload_n 1, 1) := dk_27 (dk_at dksX6_why_0 23 rfl rfl)
theorem dX6_why_24 : decode cX6_why 24 = .ok (.iload_n 2, 1) := dk_28 (dk_at dksX6_why_1 0 rfl rfl)
theorem dX6_why_25 : decode cX6_why 25 = .ok (.iload_n 3, 1) := dk_29 (dk_at dksX6_why_1 1 rfl rfl)
theorem dX6_why_26 : decode cX6_why 26 = .ok (.invokevirtual 274, 3) := dk_182 1 18 (dk_at dksX6_why_1 2 rfl rfl)
theorem dX6_why_29 : decode cX6_why 29 = .ok (.ireturn, 1) := dk_172 (dk_at dksX6_why_1 5 rfl rfl)

theorem okX6_why : wOkV yX6_why cX6_why 4 (some .int) 3 := ⟨q1767, q1768, q145, q1769, by decide, by decide, by decide +kernel⟩
def fX6_why (N : Nat)  (a1 : Int32) (a2 : Int32) (a3 : Int32) (μ : wMem) : Option (Int32 × wMem) :=
  wLet (wSI μ 0 0 (0 : Int32)) fun μ1 => wBind (fX6_isCrossing N  a1 a2 a3 μ1) fun v4 μ3 => if v4 = 0 then some ((-2), μ3) else wBindV (fX6_lays N   μ3) fun μ7 => wBind (fX6_whyOf N  a1 a2 a3 μ7) fun v10 μ9 => some (v10, μ9)
set_option maxHeartbeats 4000000 in
set_option maxRecDepth 100000 in
theorem tX6_why (l : Launch) {D : va_G} {E : List wCell} {q : Nat → Nat} {ca : wCA} (N : Nat)   (a1 : Int32) (a2 : Int32) (a3 : Int32) (μ : wMem) (r0 : (Int32 × wMem)) (hf : fX6_why N  a1 a2 a3 μ = some r0) : wMi l yX6_why cX6_why 4 (some .int) ({ frames := 5, cells := 0, slots := 0, locals := 112 } : Room) D vwCl (spM ++ E) q ca [.ref (q 0), .int a1, .int a2, .int a3] μ r0 := by
  refine wMi_intro (by decide) (Nat.le_of_ble_eq_true rfl) ?_
  intro p e s m args below meth c A C
  unfold fX6_why at hf
  refine wr_sub [(0, .ref (q 0)), (1, .int a1), (2, .int a2), (3, .int a3)] [0, 1, 2, 3] rfl ?_
  refine wr_aload_n 0 C dX6_why_0 0 rfl rfl ?_
  refine wr_iconst 1 C dX6_why_1 (v := 0) rfl ?_
  obtain ⟨μ1, eμ1, hf⟩ := o_let hf
  refine puspM_0_0_X6 2 C dX6_why_2 eμ1 ?_
  refine wr_aload_n 5 C dX6_why_5 0 rfl rfl ?_
  refine wr_iload_n 6 C dX6_why_6 1 rfl rfl ?_
  refine wr_iload_n 7 C dX6_why_7 2 rfl rfl ?_
  refine wr_iload_n 8 C dX6_why_8 3 rfl rfl ?_
  obtain ⟨v4, μ3, h2, hf⟩ := o_bind hf
  refine wr_Vi (kc1 := 0) (ks1 := 0) 9 [] C dX6_why_9 (tX6_isCrossing l N   a1 a2 a3 μ1 (v4, μ3) h2) okX6_isCrossing q1770 (b := 0) spM_0 rfl ⟨rfl, rfl, Nat.le_of_ble_eq_true rfl, Nat.le_of_ble_eq_true rfl, Nat.zero_le _, Nat.zero_le _⟩ (Nat.le_of_ble_eq_true rfl) rfl ?_
  refine wr_if_ne 12 18 C dX6_why_12 (by decide) (fun c5 => ?_) (fun c5 => ?_)
  · replace hf := o_neg c5 hf
    refine wr_aload_n 18 C dX6_why_18 0 rfl rfl ?_
    obtain ⟨μ7, h6, hf⟩ := o_bindV hf
    refine wr_Vv (kc1 := 0) (ks1 := 0) 19 [] C dX6_why_19 (tX6_lays l N    μ3 μ7 h6) okX6_lays q1690 (b := 0) spM_0 rfl ⟨rfl, rfl, Nat.le_of_ble_eq_true rfl, Nat.le_of_ble_eq_true rfl, Nat.zero_le _, Nat.zero_le _⟩ (Nat.le_of_ble_eq_true rfl) rfl ?_
    refine wr_aload_n 22 C dX6_why_22 0 rfl rfl ?_
    refine wr_iload_n 23 C dX6_why_23 1 rfl rfl ?_
    refine wr_iload_n 24 C dX6_why_24 2 rfl rfl ?_
    refine wr_iload_n 25 C dX6_why_25 3 rfl rfl ?_
    obtain ⟨v10, μ9, h8, hf⟩ := o_bind hf
    refine wr_Vi (kc1 := 0) (ks1 := 0) 26 [] C dX6_why_26 (tX6_whyOf l N   a1 a2 a3 μ7 (v10, μ9) h8) okX6_whyOf q1774 (b := 0) spM_0 rfl ⟨rfl, rfl, Nat.le_of_ble_eq_true rfl, Nat.le_of_ble_eq_true rfl, Nat.zero_le _, Nat.zero_le _⟩ (Nat.le_of_ble_eq_true rfl) rfl ?_
    exact wr_iret 29 C dX6_why_29 ⟨Nat.zero_le _, Nat.zero_le _⟩ (Option.some.inj hf)
  · replace hf := o_pos c5 hf
    refine wr_bipush 15 C dX6_why_15 (v := (-2)) rfl ?_
    exact wr_iret 17 C dX6_why_17 ⟨Nat.zero_le _, Nat.zero_le _⟩ (Option.some.inj hf)
abbrev cX6_adds : ByteArray := prog_11_method_65_code
def yX6_adds : MethodName := ⟨RX6, "adds", "(I)I"⟩
def dkwX6_adds_1 : List UInt8 := [42, 27, 182, 1, 53, 42, 180, 1, 35, 172]
abbrev dktX6_adds_1 : List UInt8 := dkwX6_adds_1 ++ []
def dkwX6_adds_0 : List UInt8 := [42, 180, 0, 46, 42, 180, 0, 34, 16, 6, 46, 27, 79, 42, 180, 0, 34, 16, 6, 92, 46, 4, 96, 79]
abbrev dktX6_adds_0 : List UInt8 := dkwX6_adds_0 ++ dktX6_adds_1
theorem dksX6_adds_0 : cX6_adds.data.toList.drop 0 = dktX6_adds_0 := by decide +kernel
theorem dksX6_adds_1 : cX6_adds.data.toList.drop 24 = dktX6_adds_1 := dk_seg dksX6_adds_0 24 rfl rfl
theorem dX6_adds_0 : decode cX6_adds 0 = .ok (.aload_n 0, 1) := dk_42 (dk_at dksX6_adds_0 0 rfl rfl)
theorem dX6_adds_1 : decode cX6_adds 1 = .ok (.getfield 46, 3) := dk_180 0 46 (dk_at dksX6_adds_0 1 rfl rfl)
theorem dX6_adds_4 : decode cX6_adds 4 = .ok (.aload_n 0, 1) := dk_42 (dk_at dksX6_adds_0 4 rfl rfl)
theorem dX6_adds_5 : decode cX6_adds 5 = .ok (.getfield 34, 3) := dk_180 0 34 (dk_at dksX6_adds_0 5 rfl rfl)
theorem dX6_adds_8 : decode cX6_adds 8 = .ok (.bipush 6, 2) := dk_16 6 (dk_at dksX6_adds_0 8 rfl rfl)
theorem dX6_adds_10 : decode cX6_adds 10 = .ok (.iaload, 1) := dk_46 (dk_at dksX6_adds_0 10 rfl rfl)
theorem dX6_adds_11 : decode cX6_adds 11 = .ok (.iload_n 1, 1) := dk_27 (dk_at dksX6_adds_0 11 rfl rfl)
theorem dX6_adds_12 : decode cX6_adds 12 = .ok (.iastore, 1) := dk_79 (dk_at dksX6_adds_0 12 rfl rfl)
theorem dX6_adds_13 : decode cX6_adds 13 = .ok (.aload_n 0, 1) := dk_42 (dk_at dksX6_adds_0 13 rfl rfl)
theorem dX6_adds_14 : decode cX6_adds 14 = .ok (.getfield 34, 3) := dk_180 0 34 (dk_at dksX6_adds_0 14 rfl rfl)
theorem dX6_adds_17 : decode cX6_adds 17 = .ok (.bipush 6, 2) := dk_16 6 (dk_at dksX6_adds_0 17 rfl rfl)
theorem dX6_adds_19 : decode cX6_adds 19 = .ok (.dup2, 1) := dk_92 (dk_at dksX6_adds_0 19 rfl rfl)
theorem dX6_adds_20 : decode cX6_adds 20 = .ok (.iaload, 1) := dk_46 (dk_at dksX6_adds_0 20 rfl rfl)
theorem dX6_adds_21 : decode cX6_adds 21 = .ok (.iconst 1, 1) := dk_4 (dk_at dksX6_adds_0 21 rfl rfl)
theorem dX6_adds_22 : decode cX6_adds 22 = .ok (.iadd, 1) := dk_96 (dk_at dksX6_adds_0 22 rfl rfl)
theorem dX6_adds_23 : decode cX6_adds 23 = .ok (.iastore, 1) := dk_79 (dk_at dksX6_adds_0 23 rfl rfl)
theorem dX6_adds_24 : decode cX6_adds 24 = .ok (.aload_n 0, 1) := dk_42 (dk_at dksX6_adds_1 0 rfl rfl)
theorem dX6_adds_25 : decode cX6_adds 25 = .ok (.iload_n 1, 1) := dk_27 (dk_at dksX6_adds_1 1 rfl rfl)
theorem dX6_adds_26 : decode cX6_adds 26 = .ok (.invokevirtual 309, 3) := dk_182 1 53 (dk_at dksX6_adds_1 2 rfl rfl)
theorem dX6_adds_29 : decode cX6_adds 29 = .ok (.aload_n 0, 1) := dk_42 (dk_at dksX6_adds_1 5 rfl rfl)
theorem dX6_adds_30 : decode cX6_adds 30 = .ok (.getfield 291, 3) := dk_180 1 35 (dk_at dksX6_adds_1 6 rfl rfl)
theorem dX6_adds_33 : decode cX6_adds 33 = .ok (.ireturn, 1) := dk_172 (dk_at dksX6_adds_1 9 rfl rfl)

theorem okX6_adds : wOkV yX6_adds cX6_adds 2 (some .int) 1 := ⟨q1792, qs105, q145, q1793, by decide, by decide, by decide +kernel⟩
def fX6_adds (N : Nat)  (a1 : Int32) (μ : wMem) : Option (Int32 × wMem) :=
  wG (ok_in (6 : Int32) 35) (wG (ok_in (μ.1 7 (Int32.toNatClampNeg (6 : Int32))) 200) (wLet (wSI μ 11 (Int32.toNatClampNeg (μ.1 7 (Int32.toNatClampNeg (6 : Int32)))) a1) fun μ3 => wG (ok_in (6 : Int32) 35) (wG (ok_in (6 : Int32) 35) (wLet (wSI μ3 7 (Int32.toNatClampNeg (6 : Int32)) ((μ3.1 7 (Int32.toNatClampNeg (6 : Int32))) + (1 : Int32))) fun μ6 => wBindV (fX6_goes N  a1 μ6) fun μ8 => some (μ8.1 0 28, μ8)))))
set_option maxHeartbeats 4000000 in
set_option maxRecDepth 100000 in
theorem tX6_adds (l : Launch) {D : va_G} {E : List wCell} {q : Nat → Nat} {ca : wCA} (N : Nat)   (a1 : Int32) (μ : wMem) (r0 : (Int32 × wMem)) (hf : fX6_adds N  a1 μ = some r0) : wMi l yX6_adds cX6_adds 2 (some .int) ({ frames := 4, cells := 0, slots := 0, locals := 91 } : Room) D vwCl (spM ++ E) q ca [.ref (q 0), .int a1] μ r0 := by
  refine wMi_intro (by decide) (Nat.le_of_ble_eq_true rfl) ?_
  intro p e s m args below meth c A C
  unfold fX6_adds at hf
  refine wr_sub [(0, .ref (q 0)), (1, .int a1)] [0, 1] rfl ?_
  refine wr_aload_n 0 C dX6_adds_0 0 rfl rfl ?_
  refine gespM_0_21_X6 1 C dX6_adds_1 ?_
  refine wr_aload_n 4 C dX6_adds_4 0 rfl rfl ?_
  refine gespM_0_17_X6 5 C dX6_adds_5 ?_
  refine wr_bipush 8 C dX6_adds_8 (v := 6) rfl ?_
  obtain ⟨g1, hf⟩ := o_g hf
  refine wr_iald 10 C dX6_adds_10 spM_7 g1 ?_
  refine wr_iload_n 11 C dX6_adds_11 1 rfl rfl ?_
  obtain ⟨g2, hf⟩ := o_g hf
  obtain ⟨μ3, eμ3, hf⟩ := o_let hf
  refine wr_iast 12 C dX6_adds_12 spM_11 g2 eμ3 ?_
  refine wr_aload_n 13 C dX6_adds_13 0 rfl rfl ?_
  refine gespM_0_17_X6 14 C dX6_adds_14 ?_
  refine wr_bipush 17 C dX6_adds_17 (v := 6) rfl ?_
  refine wr_dup2 19 C dX6_adds_19 rfl rfl ?_
  obtain ⟨g4, hf⟩ := o_g hf
  refine wr_iald 20 C dX6_adds_20 spM_7 g4 ?_
  refine wr_iconst 21 C dX6_adds_21 (v := 1) rfl ?_
  refine wr_iadd 22 C dX6_adds_22 ?_
  obtain ⟨g5, hf⟩ := o_g hf
  obtain ⟨μ6, eμ6, hf⟩ := o_let hf
  refine wr_iast 23 C dX6_adds_23 spM_7 g5 eμ6 ?_
  refine wr_aload_n 24 C dX6_adds_24 0 rfl rfl ?_
  refine wr_iload_n 25 C dX6_adds_25 1 rfl rfl ?_
  obtain ⟨μ8, h7, hf⟩ := o_bindV hf
  refine wr_Vv (kc1 := 0) (ks1 := 0) 26 [] C dX6_adds_26 (tX6_goes l N   a1 μ6 μ8 h7) okX6_goes q1702 (b := 0) spM_0 rfl ⟨rfl, rfl, Nat.le_of_ble_eq_true rfl, Nat.le_of_ble_eq_true rfl, Nat.zero_le _, Nat.zero_le _⟩ (Nat.le_of_ble_eq_true rfl) rfl ?_
  refine wr_aload_n 29 C dX6_adds_29 0 rfl rfl ?_
  refine gespM_0_28_X6 30 C dX6_adds_30 ?_
  exact wr_iret 33 C dX6_adds_33 ⟨Nat.zero_le _, Nat.zero_le _⟩ (Option.some.inj hf)
abbrev cX6_cross : ByteArray := prog_11_method_66_code
def yX6_cross : MethodName := ⟨RX6, "cross", "(III)I"⟩
def dkwX6_cross_2 : List UInt8 := [167, 0, 20, 42, 16, 100, 29, 104, 16, 10, 28, 4, 96, 104, 96, 27, 96, 182, 1, 77, 172]
abbrev dktX6_cross_2 : List UInt8 := dkwX6_cross_2 ++ []
def dkwX6_cross_1 : List UInt8 := [28, 29, 182, 1, 18, 154, 0, 15, 42, 180, 0, 34, 16, 6, 46, 16, 40, 160, 0, 8, 16, 251]
abbrev dktX6_cross_1 : List UInt8 := dkwX6_cross_1 ++ dktX6_cross_2
def dkwX6_cross_0 : List UInt8 := [42, 3, 181, 0, 88, 42, 27, 28, 29, 182, 1, 74, 154, 0, 6, 16, 254, 172, 42, 182, 1, 61, 42, 27]
abbrev dktX6_cross_0 : List UInt8 := dkwX6_cross_0 ++ dktX6_cross_1
theorem dksX6_cross_0 : cX6_cross.data.toList.drop 0 = dktX6_cross_0 := by decide +kernel
theorem dksX6_cross_1 : cX6_cross.data.toList.drop 24 = dktX6_cross_1 := dk_seg dksX6_cross_0 24 rfl rfl
theorem dksX6_cross_2 : cX6_cross.data.toList.drop 46 = dktX6_cross_2 := dk_seg dksX6_cross_1 22 rfl rfl
theorem dX6_cross_0 : decode cX6_cross 0 = .ok (.aload_n 0, 1) := dk_42 (dk_at dksX6_cross_0 0 rfl rfl)
theorem dX6_cross_1 : decode cX6_cross 1 = .ok (.iconst 0, 1) := dk_3 (dk_at dksX6_cross_0 1 rfl rfl)
theorem dX6_cross_2 : decode cX6_cross 2 = .ok (.putfield 88, 3) := dk_181 0 88 (dk_at dksX6_cross_0 2 rfl rfl)
theorem dX6_cross_5 : decode cX6_cross 5 = .ok (.aload_n 0, 1) := dk_42 (dk_at dksX6_cross_0 5 rfl rfl)
theorem dX6_cross_6 : decode cX6_cross 6 = .ok (.iload_n 1, 1) := dk_27 (dk_at dksX6_cross_0 6 rfl rfl)
theorem dX6_cross_7 : decode cX6_cross 7 = .ok (.iload_n 2, 1) := dk_28 (dk_at dksX6_cross_0 7 rfl rfl)
theorem dX6_cross_8 : decode cX6_cross 8 = .ok (.iload_n 3, 1) := dk_29 (dk_at dksX6_cross_0 8 rfl rfl)
theorem dX6_cross_9 : decode cX6_cross 9 = .ok (.invokevirtual 330, 3) := dk_182 1 74 (dk_at dksX6_cross_0 9 rfl rfl)
theorem dX6_cross_12 : decode cX6_cross 12 = .ok (.ifCond .ne 6, 3) := dk_154 0 6 (dk_at dksX6_cross_0 12 rfl rfl)
theorem dX6_cross_15 : decode cX6_cross 15 = .ok (.bipush (-2), 2) := dk_16 254 (dk_at dksX6_cross_0 15 rfl rfl)
theorem dX6_cross_17 : decode cX6_cross 17 = .ok (.ireturn, 1) := dk_172 (dk_at dksX6_cross_0 17 rfl rfl)
theorem dX6_cross_18 : decode cX6_cross 18 = .ok (.aload_n 0, 1) := dk_42 (dk_at dksX6_cross_0 18 rfl rfl)
theorem dX6_cross_19 : decode cX6_cross 19 = .ok (.invokevirtual 317, 3) := dk_182 1 61 (dk_at dksX6_cross_0 19 rfl rfl)
theorem dX6_cross_22 : decode cX6_cross 22 = .ok (.aload_n 0, 1) := dk_42 (dk_at dksX6_cross_0 22 rfl rfl)
theorem dX6_cross_23 : decode cX6_cross 23 = .ok (.iload_n 1, 1) := dk_27 (dk_at dksX6_cross_0 23 rfl rfl)
theorem dX6_cross_24 : decode cX6_cross 24 = .ok (.iload_n 2, 1) := dk_28 (dk_at dksX6_cross_1 0 rfl rfl)
theorem dX6_cross_25 : decode cX6_cross 25 = .ok (.iload_n 3, 1) := dk_29 (dk_at dksX6_cross_1 1 rfl rfl)
theorem dX6_cross_26 : decode cX6_cross 26 = .ok (.invokevirtual 274, 3) := dk_182 1 18 (dk_at dksX6_cross_1 2 rfl rfl)
theorem dX6_cross_29 : decode cX6_cross 29 = .ok (.ifCond .ne 15, 3) := dk_154 0 15 (dk_at dksX6_cross_1 5 rfl rfl)
theorem dX6_cross_32 : decode cX6_cross 32 = .ok (.aload_n 0, 1) := dk_42 (dk_at dksX6_cross_1 8 rfl rfl)
theorem dX6_cross_33 : decode cX6_cross 33 = .ok (.getfield 34, 3) := dk_180 0 34 (dk_at dksX6_cross_1 9 rfl rfl)
theorem dX6_cross_36 : decode cX6_cross 36 = .ok (.bipush 6, 2) := dk_16 6 (dk_at dksX6_cross_1 12 rfl rfl)
theorem dX6_cross_38 : decode cX6_cross 38 = .ok (.iaload, 1) := dk_46 (dk_at dksX6_cross_1 14 rfl rfl)
theorem dX6_cross_39 : decode cX6_cross 39 = .ok (.bipush 40, 2) := dk_16 40 (dk_at dksX6_cross_1 15 rfl rfl)
theorem dX6_cross_41 : decode cX6_cross 41 = .ok (.if_icmp .ne 8, 3) := dk_160 0 8 (dk_at dksX6_cross_1 17 rfl rfl)
theorem dX6_cross_44 : decode cX6_cross 44 = .ok (.bipush (-5), 2) := dk_16 251 (dk_at dksX6_cross_1 20 rfl rfl)
theorem dX6_cross_46 : decode cX6_cross 46 = .ok (.goto 20, 3) := dk_167 0 20 (dk_at dksX6_cross_2 0 rfl rfl)
theorem dX6_cross_49 : decode cX6_cross 49 = .ok (.aload_n 0, 1) := dk_42 (dk_at dksX6_cross_2 3 rfl rfl)
theorem dX6_cross_50 : decode cX6_cross 50 = .ok (.bipush 100, 2) := dk_16 100 (dk_at dksX6_cross_2 4 rfl rfl)
theorem dX6_cross_52 : decode cX6_cross 52 = .ok (.iload_n 3, 1) := dk_29 (dk_at dksX6_cross_2 6 rfl rfl)
theorem dX6_cross_53 : decode cX6_cross 53 = .ok (.imul, 1) := dk_104 (dk_at dksX6_cross_2 7 rfl rfl)
theorem dX6_cross_54 : decode cX6_cross 54 = .ok (.bipush 10, 2) := dk_16 10 (dk_at dksX6_cross_2 8 rfl rfl)
theorem dX6_cross_56 : decode cX6_cross 56 = .ok (.iload_n 2, 1) := dk_28 (dk_at dksX6_cross_2 10 rfl rfl)
theorem dX6_cross_57 : decode cX6_cross 57 = .ok (.iconst 1, 1) := dk_4 (dk_at dksX6_cross_2 11 rfl rfl)
theorem dX6_cross_58 : decode cX6_cross 58 = .ok (.iadd, 1) := dk_96 (dk_at dksX6_cross_2 12 rfl rfl)
theorem dX6_cross_59 : decode cX6_cross 59 = .ok (.imul, 1) := dk_104 (dk_at dksX6_cross_2 13 rfl rfl)
theorem dX6_cross_60 : decode cX6_cross 60 = .ok (.iadd, 1) := dk_96 (dk_at dksX6_cross_2 14 rfl rfl)
theorem dX6_cross_61 : decode cX6_cross 61 = .ok (.iload_n 1, 1) := dk_27 (dk_at dksX6_cross_2 15 rfl rfl)
theorem dX6_cross_62 : decode cX6_cross 62 = .ok (.iadd, 1) := dk_96 (dk_at dksX6_cross_2 16 rfl rfl)
theorem dX6_cross_63 : decode cX6_cross 63 = .ok (.invokevirtual 333, 3) := dk_182 1 77 (dk_at dksX6_cross_2 17 rfl rfl)
theorem dX6_cross_66 : decode cX6_cross 66 = .ok (.ireturn, 1) := dk_172 (dk_at dksX6_cross_2 20 rfl rfl)

theorem okX6_cross : wOkV yX6_cross cX6_cross 4 (some .int) 3 := ⟨q1787, q1788, q145, q1789, by decide, by decide, by decide +kernel⟩
def fX6_cross (N : Nat)  (a1 : Int32) (a2 : Int32) (a3 : Int32) (μ : wMem) : Option (Int32 × wMem) :=
  wLet (wSI μ 0 0 (0 : Int32)) fun μ1 => wBind (fX6_isCrossing N  a1 a2 a3 μ1) fun v4 μ3 => if v4 = 0 then some ((-2), μ3) else wBindV (fX6_lays N   μ3) fun μ7 => wBind (fX6_whyOf N  a1 a2 a3 μ7) fun v10 μ9 => wLet (fun  (μ11 : wMem) => some ((-5), μ11)) fun Jcross44 => if v10 = 0 then wG (ok_in (6 : Int32) 35) (if (μ9.1 7 (Int32.toNatClampNeg (6 : Int32))) = (40 : Int32) then Jcross44  μ9 else wBind (fX6_adds N  ((((100 : Int32) * a3) + ((10 : Int32) * (a2 + (1 : Int32)))) + a1) μ9) fun v17 μ16 => some (v17, μ16)) else Jcross44  μ9
set_option maxHeartbeats 4000000 in
set_option maxRecDepth 100000 in
theorem tX6_cross (l : Launch) {D : va_G} {E : List wCell} {q : Nat → Nat} {ca : wCA} (N : Nat)   (a1 : Int32) (a2 : Int32) (a3 : Int32) (μ : wMem) (r0 : (Int32 × wMem)) (hf : fX6_cross N  a1 a2 a3 μ = some r0) : wMi l yX6_cross cX6_cross 4 (some .int) ({ frames := 5, cells := 0, slots := 0, locals := 112 } : Room) D vwCl (spM ++ E) q ca [.ref (q 0), .int a1, .int a2, .int a3] μ r0 := by
  refine wMi_intro (by decide) (Nat.le_of_ble_eq_true rfl) ?_
  intro p e s m args below meth c A C
  unfold fX6_cross at hf
  refine wr_sub [(0, .ref (q 0)), (1, .int a1), (2, .int a2), (3, .int a3)] [0, 1, 2, 3] rfl ?_
  refine wr_aload_n 0 C dX6_cross_0 0 rfl rfl ?_
  refine wr_iconst 1 C dX6_cross_1 (v := 0) rfl ?_
  obtain ⟨μ1, eμ1, hf⟩ := o_let hf
  refine puspM_0_0_X6 2 C dX6_cross_2 eμ1 ?_
  refine wr_aload_n 5 C dX6_cross_5 0 rfl rfl ?_
  refine wr_iload_n 6 C dX6_cross_6 1 rfl rfl ?_
  refine wr_iload_n 7 C dX6_cross_7 2 rfl rfl ?_
  refine wr_iload_n 8 C dX6_cross_8 3 rfl rfl ?_
  obtain ⟨v4, μ3, h2, hf⟩ := o_bind hf
  refine wr_Vi (kc1 := 0) (ks1 := 0) 9 [] C dX6_cross_9 (tX6_isCrossing l N   a1 a2 a3 μ1 (v4, μ3) h2) okX6_isCrossing q1770 (b := 0) spM_0 rfl ⟨rfl, rfl, Nat.le_of_ble_eq_true rfl, Nat.le_of_ble_eq_true rfl, Nat.zero_le _, Nat.zero_le _⟩ (Nat.le_of_ble_eq_true rfl) rfl ?_
  refine wr_if_ne 12 18 C dX6_cross_12 (by decide) (fun c5 => ?_) (fun c5 => ?_)
  · replace hf := o_neg c5 hf
    refine wr_aload_n 18 C dX6_cross_18 0 rfl rfl ?_
    obtain ⟨μ7, h6, hf⟩ := o_bindV hf
    refine wr_Vv (kc1 := 0) (ks1 := 0) 19 [] C dX6_cross_19 (tX6_lays l N    μ3 μ7 h6) okX6_lays q1690 (b := 0) spM_0 rfl ⟨rfl, rfl, Nat.le_of_ble_eq_true rfl, Nat.le_of_ble_eq_true rfl, Nat.zero_le _, Nat.zero_le _⟩ (Nat.le_of_ble_eq_true rfl) rfl ?_
    refine wr_aload_n 22 C dX6_cross_22 0 rfl rfl ?_
    refine wr_iload_n 23 C dX6_cross_23 1 rfl rfl ?_
    refine wr_iload_n 24 C dX6_cross_24 2 rfl rfl ?_
    refine wr_iload_n 25 C dX6_cross_25 3 rfl rfl ?_
    obtain ⟨v10, μ9, h8, hf⟩ := o_bind hf
    refine wr_Vi (kc1 := 0) (ks1 := 0) 26 [] C dX6_cross_26 (tX6_whyOf l N   a1 a2 a3 μ7 (v10, μ9) h8) okX6_whyOf q1774 (b := 0) spM_0 rfl ⟨rfl, rfl, Nat.le_of_ble_eq_true rfl, Nat.le_of_ble_eq_true rfl, Nat.zero_le _, Nat.zero_le _⟩ (Nat.le_of_ble_eq_true rfl) rfl ?_
    obtain ⟨Jcross44, eJcross44, hf⟩ := o_let hf
    have hJcross44 : ∀  (μ11 : wMem), Jcross44  μ11 = some r0 → wJ p l e ({ frames := 5, cells := 0, slots := 0, locals := 112 } : Room) s m args below meth c 4 D vwCl (spM ++ E) q ca A (wQi ({ frames := 5, cells := 0, slots := 0, locals := 112 } : Room) D vwCl (spM ++ E) q ca below args s A r0) 0 0 μ11 44 [] [] := by
      intro  μ11 hf
      rw [eJcross44] at hf
      refine wr_bipush 44 C dX6_cross_44 (v := (-5)) rfl ?_
      refine wr_goto 46 C dX6_cross_46 (tgt := 66) (by decide) ?_
      exact wr_iret 66 C dX6_cross_66 ⟨Nat.zero_le _, Nat.zero_le _⟩ (Option.some.inj hf)
    refine wr_if_ne 29 44 C dX6_cross_29 (by decide) (fun c12 => ?_) (fun c12 => ?_)
    · replace hf := o_neg c12 hf
      refine wr_sub [] [] rfl ?_
      exact hJcross44  μ9 hf
    · replace hf := o_pos c12 hf
      refine wr_aload_n 32 C dX6_cross_32 0 rfl rfl ?_
      refine gespM_0_17_X6 33 C dX6_cross_33 ?_
      refine wr_bipush 36 C dX6_cross_36 (v := 6) rfl ?_
      obtain ⟨g13, hf⟩ := o_g hf
      refine wr_iald 38 C dX6_cross_38 spM_7 g13 ?_
      refine wr_bipush 39 C dX6_cross_39 (v := 40) rfl ?_
      refine wr_icmp_ne 41 49 C dX6_cross_41 (by decide) (fun c14 => ?_) (fun c14 => ?_)
      · replace hf := o_neg c14 hf
        refine wr_aload_n 49 C dX6_cross_49 0 rfl rfl ?_
        refine wr_bipush 50 C dX6_cross_50 (v := 100) rfl ?_
        refine wr_iload_n 52 C dX6_cross_52 3 rfl rfl ?_
        refine wr_imul 53 C dX6_cross_53 ?_
        refine wr_bipush 54 C dX6_cross_54 (v := 10) rfl ?_
        refine wr_iload_n 56 C dX6_cross_56 2 rfl rfl ?_
        refine wr_iconst 57 C dX6_cross_57 (v := 1) rfl ?_
        refine wr_iadd 58 C dX6_cross_58 ?_
        refine wr_imul 59 C dX6_cross_59 ?_
        refine wr_iadd 60 C dX6_cross_60 ?_
        refine wr_iload_n 61 C dX6_cross_61 1 rfl rfl ?_
        refine wr_iadd 62 C dX6_cross_62 ?_
        obtain ⟨v17, μ16, h15, hf⟩ := o_bind hf
        refine wr_Vi (kc1 := 0) (ks1 := 0) 63 [] C dX6_cross_63 (tX6_adds l N   ((((100 : Int32) * a3) + ((10 : Int32) * (a2 + (1 : Int32)))) + a1) μ9 (v17, μ16) h15) okX6_adds q1790 (b := 0) spM_0 rfl ⟨rfl, rfl, Nat.le_of_ble_eq_true rfl, Nat.le_of_ble_eq_true rfl, Nat.zero_le _, Nat.zero_le _⟩ (Nat.le_of_ble_eq_true rfl) rfl ?_
        exact wr_iret 66 C dX6_cross_66 ⟨Nat.zero_le _, Nat.zero_le _⟩ (Option.some.inj hf)
      · replace hf := o_pos c14 hf
        refine wr_sub [] [] rfl ?_
        exact hJcross44  μ9 hf
  · replace hf := o_pos c5 hf
    refine wr_bipush 15 C dX6_cross_15 (v := (-2)) rfl ?_
    exact wr_iret 17 C dX6_cross_17 ⟨Nat.zero_le _, Nat.zero_le _⟩ (Option.some.inj hf)
abbrev cX6_loaf : ByteArray := prog_11_method_67_code
def yX6_loaf : MethodName := ⟨RX6, "loaf", "()I"⟩
def dkwX6_loaf_1 : List UInt8 := [16, 6, 46, 16, 40, 160, 0, 8, 16, 251, 167, 0, 10, 42, 17, 0, 200, 182, 1, 77, 172]
abbrev dktX6_loaf_1 : List UInt8 := dkwX6_loaf_1 ++ []
def dkwX6_loaf_0 : List UInt8 := [42, 3, 181, 0, 88, 42, 182, 1, 67, 154, 0, 6, 16, 254, 172, 42, 182, 1, 61, 42, 180, 0, 34]
abbrev dktX6_loaf_0 : List UInt8 := dkwX6_loaf_0 ++ dktX6_loaf_1
theorem dksX6_loaf_0 : cX6_loaf.data.toList.drop 0 = dktX6_loaf_0 := by decide +kernel
theorem dksX6_loaf_1 : cX6_loaf.data.toList.drop 23 = dktX6_loaf_1 := dk_seg dksX6_loaf_0 23 rfl rfl
theorem dX6_loaf_0 : decode cX6_loaf 0 = .ok (.aload_n 0, 1) := dk_42 (dk_at dksX6_loaf_0 0 rfl rfl)
theorem dX6_loaf_1 : decode cX6_loaf 1 = .ok (.iconst 0, 1) := dk_3 (dk_at dksX6_loaf_0 1 rfl rfl)
theorem dX6_loaf_2 : decode cX6_loaf 2 = .ok (.putfield 88, 3) := dk_181 0 88 (dk_at dksX6_loaf_0 2 rfl rfl)
theorem dX6_loaf_5 : decode cX6_loaf 5 = .ok (.aload_n 0, 1) := dk_42 (dk_at dksX6_loaf_0 5 rfl rfl)
theorem dX6_loaf_6 : decode cX6_loaf 6 = .ok (.invokevirtual 323, 3) := dk_182 1 67 (dk_at dksX6_loaf_0 6 rfl rfl)
theorem dX6_loaf_9 : decode cX6_loaf 9 = .ok (.ifCond .ne 6, 3) := dk_154 0 6 (dk_at dksX6_loaf_0 9 rfl rfl)
theorem dX6_loaf_12 : decode cX6_loaf 12 = .ok (.bipush (-2), 2) := dk_16 254 (dk_at dksX6_loaf_0 12 rfl rfl)
theorem dX6_loaf_14 : decode cX6_loaf 14 = .ok (.ireturn, 1) := dk_172 (dk_at dksX6_loaf_0 14 rfl rfl)
theorem dX6_loaf_15 : decode cX6_loaf 15 = .ok (.aload_n 0, 1) := dk_42 (dk_at dksX6_loaf_0 15 rfl rfl)
theorem dX6_loaf_16 : decode cX6_loaf 16 = .ok (.invokevirtual 317, 3) := dk_182 1 61 (dk_at dksX6_loaf_0 16 rfl rfl)
theorem dX6_loaf_19 : decode cX6_loaf 19 = .ok (.aload_n 0, 1) := dk_42 (dk_at dksX6_loaf_0 19 rfl rfl)
theorem dX6_loaf_20 : decode cX6_loaf 20 = .ok (.getfield 34, 3) := dk_180 0 34 (dk_at dksX6_loaf_0 20 rfl rfl)
theorem dX6_loaf_23 : decode cX6_loaf 23 = .ok (.bipush 6, 2) := dk_16 6 (dk_at dksX6_loaf_1 0 rfl rfl)
theorem dX6_loaf_25 : decode cX6_loaf 25 = .ok (.iaload, 1) := dk_46 (dk_at dksX6_loaf_1 2 rfl rfl)
theorem dX6_loaf_26 : decode cX6_loaf 26 = .ok (.bipush 40, 2) := dk_16 40 (dk_at dksX6_loaf_1 3 rfl rfl)
theorem dX6_loaf_28 : decode cX6_loaf 28 = .ok (.if_icmp .ne 8, 3) := dk_160 0 8 (dk_at dksX6_loaf_1 5 rfl rfl)
theorem dX6_loaf_31 : decode cX6_loaf 31 = .ok (.bipush (-5), 2) := dk_16 251 (dk_at dksX6_loaf_1 8 rfl rfl)
theorem dX6_loaf_33 : decode cX6_loaf 33 = .ok (.goto 10, 3) := dk_167 0 10 (dk_at dksX6_loaf_1 10 rfl rfl)
theorem dX6_loaf_36 : decode cX6_loaf 36 = .ok (.aload_n 0, 1) := dk_42 (dk_at dksX6_loaf_1 13 rfl rfl)
theorem dX6_loaf_37 : decode cX6_loaf 37 = .ok (.sipush 200, 3) := dk_17 0 200 (dk_at dksX6_loaf_1 14 rfl rfl)
theorem dX6_loaf_40 : decode cX6_loaf 40 = .ok (.invokevirtual 333, 3) := dk_182 1 77 (dk_at dksX6_loaf_1 17 rfl rfl)
theorem dX6_loaf_43 : decode cX6_loaf 43 = .ok (.ireturn, 1) := dk_172 (dk_at dksX6_loaf_1 20 rfl rfl)

theorem okX6_loaf : wOkV yX6_loaf cX6_loaf 1 (some .int) 0 := ⟨q1795, q1796, q145, q1797, by decide, by decide, by decide +kernel⟩
def fX6_loaf (N : Nat)   (μ : wMem) : Option (Int32 × wMem) :=
  wLet (wSI μ 0 0 (0 : Int32)) fun μ1 => wBind (fX6_isFamily N   μ1) fun v4 μ3 => if v4 = 0 then some ((-2), μ3) else wBindV (fX6_lays N   μ3) fun μ7 => wG (ok_in (6 : Int32) 35) (if (μ7.1 7 (Int32.toNatClampNeg (6 : Int32))) = (40 : Int32) then some ((-5), μ7) else wBind (fX6_adds N  200 μ7) fun v12 μ11 => some (v12, μ11))
set_option maxHeartbeats 4000000 in
set_option maxRecDepth 100000 in
theorem tX6_loaf (l : Launch) {D : va_G} {E : List wCell} {q : Nat → Nat} {ca : wCA} (N : Nat)    (μ : wMem) (r0 : (Int32 × wMem)) (hf : fX6_loaf N   μ = some r0) : wMi l yX6_loaf cX6_loaf 1 (some .int) ({ frames := 5, cells := 0, slots := 0, locals := 112 } : Room) D vwCl (spM ++ E) q ca [.ref (q 0)] μ r0 := by
  refine wMi_intro (by decide) (Nat.le_of_ble_eq_true rfl) ?_
  intro p e s m args below meth c A C
  unfold fX6_loaf at hf
  refine wr_sub [(0, .ref (q 0))] [0] rfl ?_
  refine wr_aload_n 0 C dX6_loaf_0 0 rfl rfl ?_
  refine wr_iconst 1 C dX6_loaf_1 (v := 0) rfl ?_
  obtain ⟨μ1, eμ1, hf⟩ := o_let hf
  refine puspM_0_0_X6 2 C dX6_loaf_2 eμ1 ?_
  refine wr_aload_n 5 C dX6_loaf_5 0 rfl rfl ?_
  obtain ⟨v4, μ3, h2, hf⟩ := o_bind hf
  refine wr_Vi (kc1 := 0) (ks1 := 0) 6 [] C dX6_loaf_6 (tX6_isFamily l N    μ1 (v4, μ3) h2) okX6_isFamily q1750 (b := 0) spM_0 rfl ⟨rfl, rfl, Nat.le_of_ble_eq_true rfl, Nat.le_of_ble_eq_true rfl, Nat.zero_le _, Nat.zero_le _⟩ (Nat.le_of_ble_eq_true rfl) rfl ?_
  refine wr_if_ne 9 15 C dX6_loaf_9 (by decide) (fun c5 => ?_) (fun c5 => ?_)
  · replace hf := o_neg c5 hf
    refine wr_aload_n 15 C dX6_loaf_15 0 rfl rfl ?_
    obtain ⟨μ7, h6, hf⟩ := o_bindV hf
    refine wr_Vv (kc1 := 0) (ks1 := 0) 16 [] C dX6_loaf_16 (tX6_lays l N    μ3 μ7 h6) okX6_lays q1690 (b := 0) spM_0 rfl ⟨rfl, rfl, Nat.le_of_ble_eq_true rfl, Nat.le_of_ble_eq_true rfl, Nat.zero_le _, Nat.zero_le _⟩ (Nat.le_of_ble_eq_true rfl) rfl ?_
    refine wr_aload_n 19 C dX6_loaf_19 0 rfl rfl ?_
    refine gespM_0_17_X6 20 C dX6_loaf_20 ?_
    refine wr_bipush 23 C dX6_loaf_23 (v := 6) rfl ?_
    obtain ⟨g8, hf⟩ := o_g hf
    refine wr_iald 25 C dX6_loaf_25 spM_7 g8 ?_
    refine wr_bipush 26 C dX6_loaf_26 (v := 40) rfl ?_
    refine wr_icmp_ne 28 36 C dX6_loaf_28 (by decide) (fun c9 => ?_) (fun c9 => ?_)
    · replace hf := o_neg c9 hf
      refine wr_aload_n 36 C dX6_loaf_36 0 rfl rfl ?_
      refine wr_sipush 37 C dX6_loaf_37 (v := 200) rfl ?_
      obtain ⟨v12, μ11, h10, hf⟩ := o_bind hf
      refine wr_Vi (kc1 := 0) (ks1 := 0) 40 [] C dX6_loaf_40 (tX6_adds l N   200 μ7 (v12, μ11) h10) okX6_adds q1790 (b := 0) spM_0 rfl ⟨rfl, rfl, Nat.le_of_ble_eq_true rfl, Nat.le_of_ble_eq_true rfl, Nat.zero_le _, Nat.zero_le _⟩ (Nat.le_of_ble_eq_true rfl) rfl ?_
      exact wr_iret 43 C dX6_loaf_43 ⟨Nat.zero_le _, Nat.zero_le _⟩ (Option.some.inj hf)
    · replace hf := o_pos c9 hf
      refine wr_bipush 31 C dX6_loaf_31 (v := (-5)) rfl ?_
      refine wr_goto 33 C dX6_loaf_33 (tgt := 43) (by decide) ?_
      exact wr_iret 43 C dX6_loaf_43 ⟨Nat.zero_le _, Nat.zero_le _⟩ (Option.some.inj hf)
  · replace hf := o_pos c5 hf
    refine wr_bipush 12 C dX6_loaf_12 (v := (-2)) rfl ?_
    exact wr_iret 14 C dX6_loaf_14 ⟨Nat.zero_le _, Nat.zero_le _⟩ (Option.some.inj hf)
