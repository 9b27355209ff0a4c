set_option maxRecDepth 100000
/-- isNext, as what it answers; that the place is one of the tape's -/
def wNx (μ : wMem) (r : Nat) (lo hi : Int32) : Int32 := if μ.1 r 2 < μ.1 r 0 then (if (μ.1 8 (μ.1 r 2).toNatClampNeg).toInt64 < lo.toInt64 then 0 else if hi.toInt64 < (μ.1 8 (μ.1 r 2).toNatClampNeg).toInt64 then 0 else 1) else 0
def wNxOk (μ : wMem) (r : Nat) : Bool := !(decide (μ.1 r 2 < μ.1 r 0)) || ok_in (μ.1 r 2) 600
theorem wNxOk_in {μ : wMem} {r : Nat} (h : wNxOk μ r = true) (h1 : μ.1 r 2 < μ.1 r 0) : ok_in (μ.1 r 2) 600 = true := by
  simpa [wNxOk, h1] using h
theorem wNx_01 {μ : wMem} {r : Nat} {lo hi : Int32} (h : ¬ wNx μ r lo hi = 0) : wNx μ r lo hi = 1 := by
  unfold wNx at h ⊢
  split
  · rename_i h1
    rw [if_pos h1] at h
    split
    · rename_i h2; rw [if_pos h2] at h; exact absurd rfl h
    · rename_i h2
      rw [if_neg h2] at h
      split
      · rename_i h3; rw [if_pos h3] at h; exact absurd rfl h
      · rfl
  · rename_i h1; rw [if_neg h1] at h; exact absurd rfl h
theorem fX0_isIn_eq (N : Nat) (a b c : Int64) (μ : wMem) : fX0_isIn N a b c μ = some (if a < b then 0 else if c < a then 0 else 1, μ) := by
  unfold fX0_isIn
  split
  · rfl
  · split <;> rfl
abbrev cX7_isNext : ByteArray := prog_6_method_2_code
def yX7_isNext : MethodName := ⟨RX7, "isNext", "(II)Z"⟩
def dkwX7_isNext_1 : List UInt8 := [27, 133, 28, 133, 184, 0, 48, 153, 0, 7, 4, 167, 0, 4, 3, 172]
abbrev dktX7_isNext_1 : List UInt8 := dkwX7_isNext_1 ++ []
def dkwX7_isNext_0 : List UInt8 := [42, 180, 0, 41, 42, 180, 0, 19, 162, 0, 30, 42, 180, 0, 3, 180, 0, 44, 42, 180, 0, 41, 51, 133]
abbrev dktX7_isNext_0 : List UInt8 := dkwX7_isNext_0 ++ dktX7_isNext_1
theorem dksX7_isNext_0 : cX7_isNext.data.toList.drop 0 = dktX7_isNext_0 := by decide +kernel
theorem dksX7_isNext_1 : cX7_isNext.data.toList.drop 24 = dktX7_isNext_1 := dk_seg dksX7_isNext_0 24 rfl rfl
theorem dX7_isNext_0 : decode cX7_isNext 0 = .ok (.aload_n 0, 1) := dk_42 (dk_at dksX7_isNext_0 0 rfl rfl)
theorem dX7_isNext_1 : decode cX7_isNext 1 = .ok (.getfield 41, 3) := dk_180 0 41 (dk_at dksX7_isNext_0 1 rfl rfl)
theorem dX7_isNext_4 : decode cX7_isNext 4 = .ok (.aload_n 0, 1) := dk_42 (dk_at dksX7_isNext_0 4 rfl rfl)
theorem dX7_isNext_5 : decode cX7_isNext 5 = .ok (.getfield 19, 3) := dk_180 0 19 (dk_at dksX7_isNext_0 5 rfl rfl)
theorem dX7_isNext_8 : decode cX7_isNext 8 = .ok (.if_icmp .ge 30, 3) := dk_162 0 30 (dk_at dksX7_isNext_0 8 rfl rfl)
theorem dX7_isNext_11 : decode cX7_isNext 11 = .ok (.aload_n 0, 1) := dk_42 (dk_at dksX7_isNext_0 11 rfl rfl)
theorem dX7_isNext_12 : decode cX7_isNext 12 = .ok (.getfield 3, 3) := dk_180 0 3 (dk_at dksX7_isNext_0 12 rfl rfl)
theorem dX7_isNext_15 : decode cX7_isNext 15 = .ok (.getfield 44, 3) := dk_180 0 44 (dk_at dksX7_isNext_0 15 rfl rfl)
theorem dX7_isNext_18 : decode cX7_isNext 18 = .ok (.aload_n 0, 1) := dk_42 (dk_at dksX7_isNext_0 18 rfl rfl)
theorem dX7_isNext_19 : decode cX7_isNext 19 = .ok (.getfield 41, 3) := dk_180 0 41 (dk_at dksX7_isNext_0 19 rfl rfl)
theorem dX7_isNext_22 : decode cX7_isNext 22 = .ok (.baload, 1) := dk_51 (dk_at dksX7_isNext_0 22 rfl rfl)
theorem dX7_isNext_23 : decode cX7_isNext 23 = .ok (.i2l, 1) := dk_133 (dk_at dksX7_isNext_0 23 rfl rfl)
theorem dX7_isNext_24 : decode cX7_isNext 24 = .ok (.iload_n 1, 1) := dk_27 (dk_at dksX7_isNext_1 0 rfl rfl)
theorem dX7_isNext_25 : decode cX7_isNext 25 = .ok (.i2l, 1) := dk_133 (dk_at dksX7_isNext_1 1 rfl rfl)
theorem dX7_isNext_26 : decode cX7_isNext 26 = .ok (.iload_n 2, 1) := dk_28 (dk_at dksX7_isNext_1 2 rfl rfl)
theorem dX7_isNext_27 : decode cX7_isNext 27 = .ok (.i2l, 1) := dk_133 (dk_at dksX7_isNext_1 3 rfl rfl)
theorem dX7_isNext_28 : decode cX7_isNext 28 = .ok (.invokestatic 48, 3) := dk_184 0 48 (dk_at dksX7_isNext_1 4 rfl rfl)
theorem dX7_isNext_31 : decode cX7_isNext 31 = .ok (.ifCond .eq 7, 3) := dk_153 0 7 (dk_at dksX7_isNext_1 7 rfl rfl)
theorem dX7_isNext_34 : decode cX7_isNext 34 = .ok (.iconst 1, 1) := dk_4 (dk_at dksX7_isNext_1 10 rfl rfl)
theorem dX7_isNext_35 : decode cX7_isNext 35 = .ok (.goto 4, 3) := dk_167 0 4 (dk_at dksX7_isNext_1 11 rfl rfl)
theorem dX7_isNext_38 : decode cX7_isNext 38 = .ok (.iconst 0, 1) := dk_3 (dk_at dksX7_isNext_1 14 rfl rfl)
theorem dX7_isNext_39 : decode cX7_isNext 39 = .ok (.ireturn, 1) := dk_172 (dk_at dksX7_isNext_1 15 rfl rfl)
theorem okX7_isNext : wOkV yX7_isNext cX7_isNext 3 (some .boolean) 2 := ⟨q470, qs2, q146, q471, by decide, by decide, by decide +kernel⟩
theorem tX7_isNext (l : Launch) {D : va_G} {E : List wCell} {q : Nat → Nat} {ca : wCA} {r f tk : Nat} (hb : (spX ++ E)[r]? = some (wRdr f tk)) {lo hi : Int32} (μ : wMem) (hok : wNxOk μ r = true) : wMi l yX7_isNext cX7_isNext 3 (some .boolean) ({ frames := 1, cells := 0, slots := 0, locals := 25 } : Room) D vwCl (spX ++ E) q ca [.ref (q r), .int lo, .int hi] μ (wNx μ r lo hi, μ) := by
  refine wMi_intro (by decide) (Nat.le_of_ble_eq_true rfl) ?_
  intro p e s m args below meth c A C
  refine wr_sub [(0, .ref (q r)), (1, .int lo), (2, .int hi)] [0, 1, 2] rfl ?_
  refine wr_aload_n 0 C dX7_isNext_0 0 rfl rfl ?_
  refine wr_getI 1 2 C dX7_isNext_1 hb rfl in_X7 (by decide) rfl q487 ?_
  refine wr_aload_n 4 C dX7_isNext_4 0 rfl rfl ?_
  refine wr_getI 5 0 C dX7_isNext_5 hb rfl in_X7 (by decide) rfl q485 ?_
  refine wr_icmp_ge 8 38 C dX7_isNext_8 (by decide) (fun h => ?_) (fun h => ?_)
  · refine wr_iconst 38 C dX7_isNext_38 (v := 0) rfl ?_
    exact wr_zret 39 C dX7_isNext_39 rfl ⟨Nat.le_refl _, Nat.le_refl _⟩ (by unfold wNx; rw [if_neg (Int32.not_lt.mpr h)])
  · have hlt := Int32.not_le.mp h
    have hin := wNxOk_in hok hlt
    refine wr_aload_n 11 C dX7_isNext_11 0 rfl rfl ?_
    refine wr_getR 12 6 C dX7_isNext_12 hb rfl in_X7 (by decide) rfl q491 ?_
    refine wr_getNR 15 1 C dX7_isNext_15 spX_0 rfl in_X0 (by decide) rfl q330 ?_
    refine wr_aload_n 18 C dX7_isNext_18 0 rfl rfl ?_
    refine wr_getI 19 2 C dX7_isNext_19 hb rfl in_X7 (by decide) rfl q487 ?_
    refine wr_bald 22 C dX7_isNext_22 spX_8 hin ?_
    refine wr_i2l 23 C dX7_isNext_23 ?_
    refine wr_iload_n 24 C dX7_isNext_24 1 rfl rfl ?_
    refine wr_i2l 25 C dX7_isNext_25 ?_
    refine wr_iload_n 26 C dX7_isNext_26 2 rfl rfl ?_
    refine wr_i2l 27 C dX7_isNext_27 ?_
    refine wr_SNi (kc1 := 0) (ks1 := 0) (As := [.long (μ.1 8 (μ.1 r 2).toNatClampNeg).toInt64, .long lo.toInt64, .long hi.toInt64]) 28 [] C dX7_isNext_28 (tX0_isIn l 0 _ _ _ μ _ (fX0_isIn_eq 0 _ _ _ μ)) okX0_isIn q472 ⟨rfl, rfl, Nat.le_of_ble_eq_true rfl, Nat.le_of_ble_eq_true rfl, Nat.zero_le _, Nat.zero_le _⟩ (Nat.le_of_ble_eq_true rfl) rfl ?_
    have hv : (if (μ.1 8 (μ.1 r 2).toNatClampNeg).toInt64 < lo.toInt64 then (0 : Int32) else if hi.toInt64 < (μ.1 8 (μ.1 r 2).toNatClampNeg).toInt64 then 0 else 1) = wNx μ r lo hi := by
      unfold wNx
      rw [if_pos hlt]
    rw [hv]
    refine wr_if_eq 31 38 C dX7_isNext_31 (by decide) (fun h0 => ?_) (fun h0 => ?_)
    · refine wr_iconst 38 C dX7_isNext_38 (v := 0) rfl ?_
      exact wr_zret 39 C dX7_isNext_39 rfl ⟨Nat.le_refl _, Nat.le_refl _⟩ (by rw [h0])
    · refine wr_iconst 34 C dX7_isNext_34 (v := 1) rfl ?_
      refine wr_goto 35 C dX7_isNext_35 (tgt := 39) (by decide) ?_
      have h1 := wNx_01 h0
      exact wr_zret 39 C dX7_isNext_39 rfl ⟨Nat.le_refl _, Nat.le_refl _⟩ (by rw [h1])
abbrev cX7_next : ByteArray := prog_6_method_3_code
def yX7_next : MethodName := ⟨RX7, "next", "()V"⟩
def dkwX7_next_10 : List UInt8 := [167, 0, 6, 178, 0, 78, 181, 0, 35, 42, 89, 180, 0, 41, 4, 96, 181, 0, 41, 177]
abbrev dktX7_next_10 : List UInt8 := dkwX7_next_10 ++ []
def dkwX7_next_9 : List UInt8 := [167, 0, 43, 42, 42, 180, 0, 3, 180, 0, 44, 42, 180, 0, 41, 51, 16, 59, 160, 0, 9, 178, 0, 75]
abbrev dktX7_next_9 : List UInt8 := dkwX7_next_9 ++ dktX7_next_10
def dkwX7_next_8 : List UInt8 := [181, 0, 62, 42, 89, 180, 0, 41, 4, 96, 181, 0, 41, 167, 255, 203, 42, 178, 0, 72, 181, 0, 35]
abbrev dktX7_next_8 : List UInt8 := dkwX7_next_8 ++ dktX7_next_9
def dkwX7_next_7 : List UInt8 := [180, 0, 62, 104, 42, 180, 0, 3, 180, 0, 44, 42, 180, 0, 41, 51, 96, 16, 48, 100, 184, 0, 66]
abbrev dktX7_next_7 : List UInt8 := dkwX7_next_7 ++ dktX7_next_8
def dkwX7_next_6 : List UInt8 := [42, 3, 181, 0, 62, 42, 16, 48, 16, 57, 182, 0, 55, 153, 0, 48, 42, 18, 65, 16, 10, 42]
abbrev dktX7_next_6 : List UInt8 := dkwX7_next_6 ++ dktX7_next_7
def dkwX7_next_5 : List UInt8 := [167, 255, 235, 42, 178, 0, 59, 181, 0, 35, 167, 0, 125, 42, 16, 48, 16, 57, 182, 0, 55, 153, 0, 74]
abbrev dktX7_next_5 : List UInt8 := dkwX7_next_5 ++ dktX7_next_6
def dkwX7_next_4 : List UInt8 := [153, 0, 37, 42, 16, 97, 16, 122, 182, 0, 55, 153, 0, 16, 42, 89, 180, 0, 41, 4, 96, 181, 0, 41]
abbrev dktX7_next_4 : List UInt8 := dkwX7_next_4 ++ dktX7_next_5
def dkwX7_next_3 : List UInt8 := [180, 0, 19, 160, 0, 13, 42, 178, 0, 29, 181, 0, 35, 167, 0, 170, 42, 16, 97, 16, 122, 182, 0, 55]
abbrev dktX7_next_3 : List UInt8 := dkwX7_next_3 ++ dktX7_next_4
def dkwX7_next_2 : List UInt8 := [180, 0, 41, 4, 96, 181, 0, 41, 167, 255, 201, 42, 42, 180, 0, 41, 181, 0, 52, 42, 180, 0, 41, 42]
abbrev dktX7_next_2 : List UInt8 := dkwX7_next_2 ++ dktX7_next_3
def dkwX7_next_1 : List UInt8 := [16, 32, 159, 0, 20, 42, 180, 0, 3, 180, 0, 44, 42, 180, 0, 41, 51, 16, 10, 160, 0, 16, 42, 89]
abbrev dktX7_next_1 : List UInt8 := dkwX7_next_1 ++ dktX7_next_2
def dkwX7_next_0 : List UInt8 := [42, 180, 0, 41, 42, 180, 0, 19, 162, 0, 50, 42, 180, 0, 3, 180, 0, 44, 42, 180, 0, 41, 51]
abbrev dktX7_next_0 : List UInt8 := dkwX7_next_0 ++ dktX7_next_1
theorem dksX7_next_0 : cX7_next.data.toList.drop 0 = dktX7_next_0 := by decide +kernel
theorem dksX7_next_1 : cX7_next.data.toList.drop 23 = dktX7_next_1 := dk_seg dksX7_next_0 23 rfl rfl
theorem dksX7_next_2 : cX7_next.data.toList.drop 47 = dktX7_next_2 := dk_seg dksX7_next_1 24 rfl rfl
theorem dksX7_next_3 : cX7_next.data.toList.drop 71 = dktX7_next_3 := dk_seg dksX7_next_2 24 rfl rfl
theorem dksX7_next_4 : cX7_next.data.toList.drop 95 = dktX7_next_4 := dk_seg dksX7_next_3 24 rfl rfl
theorem dksX7_next_5 : cX7_next.data.toList.drop 119 = dktX7_next_5 := dk_seg dksX7_next_4 24 rfl rfl
theorem dksX7_next_6 : cX7_next.data.toList.drop 143 = dktX7_next_6 := dk_seg dksX7_next_5 24 rfl rfl
theorem dksX7_next_7 : cX7_next.data.toList.drop 165 = dktX7_next_7 := dk_seg dksX7_next_6 22 rfl rfl
theorem dksX7_next_8 : cX7_next.data.toList.drop 188 = dktX7_next_8 := dk_seg dksX7_next_7 23 rfl rfl
theorem dksX7_next_9 : cX7_next.data.toList.drop 211 = dktX7_next_9 := dk_seg dksX7_next_8 23 rfl rfl
theorem dksX7_next_10 : cX7_next.data.toList.drop 235 = dktX7_next_10 := dk_seg dksX7_next_9 24 rfl rfl
theorem dX7_next_0 : decode cX7_next 0 = .ok (.aload_n 0, 1) := dk_42 (dk_at dksX7_next_0 0 rfl rfl)
theorem dX7_next_1 : decode cX7_next 1 = .ok (.getfield 41, 3) := dk_180 0 41 (dk_at dksX7_next_0 1 rfl rfl)
theorem dX7_next_4 : decode cX7_next 4 = .ok (.aload_n 0, 1) := dk_42 (dk_at dksX7_next_0 4 rfl rfl)
theorem dX7_next_5 : decode cX7_next 5 = .ok (.getfield 19, 3) := dk_180 0 19 (dk_at dksX7_next_0 5 rfl rfl)
theorem dX7_next_8 : decode cX7_next 8 = .ok (.if_icmp .ge 50, 3) := dk_162 0 50 (dk_at dksX7_next_0 8 rfl rfl)
theorem dX7_next_11 : decode cX7_next 11 = .ok (.aload_n 0, 1) := dk_42 (dk_at dksX7_next_0 11 rfl rfl)
theorem dX7_next_12 : decode cX7_next 12 = .ok (.getfield 3, 3) := dk_180 0 3 (dk_at dksX7_next_0 12 rfl rfl)
theorem dX7_next_15 : decode cX7_next 15 = .ok (.getfield 44, 3) := dk_180 0 44 (dk_at dksX7_next_0 15 rfl rfl)
theorem dX7_next_18 : decode cX7_next 18 = .ok (.aload_n 0, 1) := dk_42 (dk_at dksX7_next_0 18 rfl rfl)
theorem dX7_next_19 : decode cX7_next 19 = .ok (.getfield 41, 3) := dk_180 0 41 (dk_at dksX7_next_0 19 rfl rfl)
theorem dX7_next_22 : decode cX7_next 22 = .ok (.baload, 1) := dk_51 (dk_at dksX7_next_0 22 rfl rfl)
theorem dX7_next_23 : decode cX7_next 23 = .ok (.bipush 32, 2) := dk_16 32 (dk_at dksX7_next_1 0 rfl rfl)
theorem dX7_next_25 : decode cX7_next 25 = .ok (.if_icmp .eq 20, 3) := dk_159 0 20 (dk_at dksX7_next_1 2 rfl rfl)
theorem dX7_next_28 : decode cX7_next 28 = .ok (.aload_n 0, 1) := dk_42 (dk_at dksX7_next_1 5 rfl rfl)
theorem dX7_next_29 : decode cX7_next 29 = .ok (.getfield 3, 3) := dk_180 0 3 (dk_at dksX7_next_1 6 rfl rfl)
theorem dX7_next_32 : decode cX7_next 32 = .ok (.getfield 44, 3) := dk_180 0 44 (dk_at dksX7_next_1 9 rfl rfl)
theorem dX7_next_35 : decode cX7_next 35 = .ok (.aload_n 0, 1) := dk_42 (dk_at dksX7_next_1 12 rfl rfl)
theorem dX7_next_36 : decode cX7_next 36 = .ok (.getfield 41, 3) := dk_180 0 41 (dk_at dksX7_next_1 13 rfl rfl)
theorem dX7_next_39 : decode cX7_next 39 = .ok (.baload, 1) := dk_51 (dk_at dksX7_next_1 16 rfl rfl)
theorem dX7_next_40 : decode cX7_next 40 = .ok (.bipush 10, 2) := dk_16 10 (dk_at dksX7_next_1 17 rfl rfl)
theorem dX7_next_42 : decode cX7_next 42 = .ok (.if_icmp .ne 16, 3) := dk_160 0 16 (dk_at dksX7_next_1 19 rfl rfl)
theorem dX7_next_45 : decode cX7_next 45 = .ok (.aload_n 0, 1) := dk_42 (dk_at dksX7_next_1 22 rfl rfl)
theorem dX7_next_46 : decode cX7_next 46 = .ok (.dup, 1) := dk_89 (dk_at dksX7_next_1 23 rfl rfl)
theorem dX7_next_47 : decode cX7_next 47 = .ok (.getfield 41, 3) := dk_180 0 41 (dk_at dksX7_next_2 0 rfl rfl)
theorem dX7_next_50 : decode cX7_next 50 = .ok (.iconst 1, 1) := dk_4 (dk_at dksX7_next_2 3 rfl rfl)
theorem dX7_next_51 : decode cX7_next 51 = .ok (.iadd, 1) := dk_96 (dk_at dksX7_next_2 4 rfl rfl)
theorem dX7_next_52 : decode cX7_next 52 = .ok (.putfield 41, 3) := dk_181 0 41 (dk_at dksX7_next_2 5 rfl rfl)
theorem dX7_next_55 : decode cX7_next 55 = .ok (.goto (-55), 3) := dk_167 255 201 (dk_at dksX7_next_2 8 rfl rfl)
theorem dX7_next_58 : decode cX7_next 58 = .ok (.aload_n 0, 1) := dk_42 (dk_at dksX7_next_2 11 rfl rfl)
theorem dX7_next_59 : decode cX7_next 59 = .ok (.aload_n 0, 1) := dk_42 (dk_at dksX7_next_2 12 rfl rfl)
theorem dX7_next_60 : decode cX7_next 60 = .ok (.getfield 41, 3) := dk_180 0 41 (dk_at dksX7_next_2 13 rfl rfl)
theorem dX7_next_63 : decode cX7_next 63 = .ok (.putfield 52, 3) := dk_181 0 52 (dk_at dksX7_next_2 16 rfl rfl)
theorem dX7_next_66 : decode cX7_next 66 = .ok (.aload_n 0, 1) := dk_42 (dk_at dksX7_next_2 19 rfl rfl)
theorem dX7_next_67 : decode cX7_next 67 = .ok (.getfield 41, 3) := dk_180 0 41 (dk_at dksX7_next_2 20 rfl rfl)
theorem dX7_next_70 : decode cX7_next 70 = .ok (.aload_n 0, 1) := dk_42 (dk_at dksX7_next_2 23 rfl rfl)
theorem dX7_next_71 : decode cX7_next 71 = .ok (.getfield 19, 3) := dk_180 0 19 (dk_at dksX7_next_3 0 rfl rfl)
theorem dX7_next_74 : decode cX7_next 74 = .ok (.if_icmp .ne 13, 3) := dk_160 0 13 (dk_at dksX7_next_3 3 rfl rfl)
theorem dX7_next_77 : decode cX7_next 77 = .ok (.aload_n 0, 1) := dk_42 (dk_at dksX7_next_3 6 rfl rfl)
theorem dX7_next_78 : decode cX7_next 78 = .ok (.getstatic 29, 3) := dk_178 0 29 (dk_at dksX7_next_3 7 rfl rfl)
theorem dX7_next_81 : decode cX7_next 81 = .ok (.putfield 35, 3) := dk_181 0 35 (dk_at dksX7_next_3 10 rfl rfl)
theorem dX7_next_84 : decode cX7_next 84 = .ok (.goto 170, 3) := dk_167 0 170 (dk_at dksX7_next_3 13 rfl rfl)
theorem dX7_next_87 : decode cX7_next 87 = .ok (.aload_n 0, 1) := dk_42 (dk_at dksX7_next_3 16 rfl rfl)
theorem dX7_next_88 : decode cX7_next 88 = .ok (.bipush 97, 2) := dk_16 97 (dk_at dksX7_next_3 17 rfl rfl)
theorem dX7_next_90 : decode cX7_next 90 = .ok (.bipush 122, 2) := dk_16 122 (dk_at dksX7_next_3 19 rfl rfl)
theorem dX7_next_92 : decode cX7_next 92 = .ok (.invokevirtual 55, 3) := dk_182 0 55 (dk_at dksX7_next_3 21 rfl rfl)
theorem dX7_next_95 : decode cX7_next 95 = .ok (.ifCond .eq 37, 3) := dk_153 0 37 (dk_at dksX7_next_4 0 rfl rfl)
theorem dX7_next_98 : decode cX7_next 98 = .ok (.aload_n 0, 1) := dk_42 (dk_at dksX7_next_4 3 rfl rfl)
theorem dX7_next_99 : decode cX7_next 99 = .ok (.bipush 97, 2) := dk_16 97 (dk_at dksX7_next_4 4 rfl rfl)
theorem dX7_next_101 : decode cX7_next 101 = .ok (.bipush 122, 2) := dk_16 122 (dk_at dksX7_next_4 6 rfl rfl)
theorem dX7_next_103 : decode cX7_next 103 = .ok (.invokevirtual 55, 3) := dk_182 0 55 (dk_at dksX7_next_4 8 rfl rfl)
theorem dX7_next_106 : decode cX7_next 106 = .ok (.ifCond .eq 16, 3) := dk_153 0 16 (dk_at dksX7_next_4 11 rfl rfl)
theorem dX7_next_109 : decode cX7_next 109 = .ok (.aload_n 0, 1) := dk_42 (dk_at dksX7_next_4 14 rfl rfl)
theorem dX7_next_110 : decode cX7_next 110 = .ok (.dup, 1) := dk_89 (dk_at dksX7_next_4 15 rfl rfl)
theorem dX7_next_111 : decode cX7_next 111 = .ok (.getfield 41, 3) := dk_180 0 41 (dk_at dksX7_next_4 16 rfl rfl)
theorem dX7_next_114 : decode cX7_next 114 = .ok (.iconst 1, 1) := dk_4 (dk_at dksX7_next_4 19 rfl rfl)
theorem dX7_next_115 : decode cX7_next 115 = .ok (.iadd, 1) := dk_96 (dk_at dksX7_next_4 20 rfl rfl)
theorem dX7_next_116 : decode cX7_next 116 = .ok (.putfield 41, 3) := dk_181 0 41 (dk_at dksX7_next_4 21 rfl rfl)
theorem dX7_next_119 : decode cX7_next 119 = .ok (.goto (-21), 3) := dk_167 255 235 (dk_at dksX7_next_5 0 rfl rfl)
theorem dX7_next_122 : decode cX7_next 122 = .ok (.aload_n 0, 1) := dk_42 (dk_at dksX7_next_5 3 rfl rfl)
theorem dX7_next_123 : decode cX7_next 123 = .ok (.getstatic 59, 3) := dk_178 0 59 (dk_at dksX7_next_5 4 rfl rfl)
theorem dX7_next_126 : decode cX7_next 126 = .ok (.putfield 35, 3) := dk_181 0 35 (dk_at dksX7_next_5 7 rfl rfl)
theorem dX7_next_129 : decode cX7_next 129 = .ok (.goto 125, 3) := dk_167 0 125 (dk_at dksX7_next_5 10 rfl rfl)
theorem dX7_next_132 : decode cX7_next 132 = .ok (.aload_n 0, 1) := dk_42 (dk_at dksX7_next_5 13 rfl rfl)
theorem dX7_next_133 : decode cX7_next 133 = .ok (.bipush 48, 2) := dk_16 48 (dk_at dksX7_next_5 14 rfl rfl)
theorem dX7_next_135 : decode cX7_next 135 = .ok (.bipush 57, 2) := dk_16 57 (dk_at dksX7_next_5 16 rfl rfl)
theorem dX7_next_137 : decode cX7_next 137 = .ok (.invokevirtual 55, 3) := dk_182 0 55 (dk_at dksX7_next_5 18 rfl rfl)
theorem dX7_next_140 : decode cX7_next 140 = .ok (.ifCond .eq 74, 3) := dk_153 0 74 (dk_at dksX7_next_5 21 rfl rfl)
theorem dX7_next_143 : decode cX7_next 143 = .ok (.aload_n 0, 1) := dk_42 (dk_at dksX7_next_6 0 rfl rfl)
theorem dX7_next_144 : decode cX7_next 144 = .ok (.iconst 0, 1) := dk_3 (dk_at dksX7_next_6 1 rfl rfl)
theorem dX7_next_145 : decode cX7_next 145 = .ok (.putfield 62, 3) := dk_181 0 62 (dk_at dksX7_next_6 2 rfl rfl)
theorem dX7_next_148 : decode cX7_next 148 = .ok (.aload_n 0, 1) := dk_42 (dk_at dksX7_next_6 5 rfl rfl)
theorem dX7_next_149 : decode cX7_next 149 = .ok (.bipush 48, 2) := dk_16 48 (dk_at dksX7_next_6 6 rfl rfl)
theorem dX7_next_151 : decode cX7_next 151 = .ok (.bipush 57, 2) := dk_16 57 (dk_at dksX7_next_6 8 rfl rfl)
theorem dX7_next_153 : decode cX7_next 153 = .ok (.invokevirtual 55, 3) := dk_182 0 55 (dk_at dksX7_next_6 10 rfl rfl)
theorem dX7_next_156 : decode cX7_next 156 = .ok (.ifCond .eq 48, 3) := dk_153 0 48 (dk_at dksX7_next_6 13 rfl rfl)
theorem dX7_next_159 : decode cX7_next 159 = .ok (.aload_n 0, 1) := dk_42 (dk_at dksX7_next_6 16 rfl rfl)
theorem dX7_next_160 : decode cX7_next 160 = .ok (.ldc 65, 2) := dk_18 65 (dk_at dksX7_next_6 17 rfl rfl)
theorem dX7_next_162 : decode cX7_next 162 = .ok (.bipush 10, 2) := dk_16 10 (dk_at dksX7_next_6 19 rfl rfl)
theorem dX7_next_164 : decode cX7_next 164 = .ok (.aload_n 0, 1) := dk_42 (dk_at dksX7_next_6 21 rfl rfl)
theorem dX7_next_165 : decode cX7_next 165 = .ok (.getfield 62, 3) := dk_180 0 62 (dk_at dksX7_next_7 0 rfl rfl)
theorem dX7_next_168 : decode cX7_next 168 = .ok (.imul, 1) := dk_104 (dk_at dksX7_next_7 3 rfl rfl)
theorem dX7_next_169 : decode cX7_next 169 = .ok (.aload_n 0, 1) := dk_42 (dk_at dksX7_next_7 4 rfl rfl)
theorem dX7_next_170 : decode cX7_next 170 = .ok (.getfield 3, 3) := dk_180 0 3 (dk_at dksX7_next_7 5 rfl rfl)
theorem dX7_next_173 : decode cX7_next 173 = .ok (.getfield 44, 3) := dk_180 0 44 (dk_at dksX7_next_7 8 rfl rfl)
theorem dX7_next_176 : decode cX7_next 176 = .ok (.aload_n 0, 1) := dk_42 (dk_at dksX7_next_7 11 rfl rfl)
theorem dX7_next_177 : decode cX7_next 177 = .ok (.getfield 41, 3) := dk_180 0 41 (dk_at dksX7_next_7 12 rfl rfl)
theorem dX7_next_180 : decode cX7_next 180 = .ok (.baload, 1) := dk_51 (dk_at dksX7_next_7 15 rfl rfl)
theorem dX7_next_181 : decode cX7_next 181 = .ok (.iadd, 1) := dk_96 (dk_at dksX7_next_7 16 rfl rfl)
theorem dX7_next_182 : decode cX7_next 182 = .ok (.bipush 48, 2) := dk_16 48 (dk_at dksX7_next_7 17 rfl rfl)
theorem dX7_next_184 : decode cX7_next 184 = .ok (.isub, 1) := dk_100 (dk_at dksX7_next_7 19 rfl rfl)
theorem dX7_next_185 : decode cX7_next 185 = .ok (.invokestatic 66, 3) := dk_184 0 66 (dk_at dksX7_next_7 20 rfl rfl)
theorem dX7_next_188 : decode cX7_next 188 = .ok (.putfield 62, 3) := dk_181 0 62 (dk_at dksX7_next_8 0 rfl rfl)
theorem dX7_next_191 : decode cX7_next 191 = .ok (.aload_n 0, 1) := dk_42 (dk_at dksX7_next_8 3 rfl rfl)
theorem dX7_next_192 : decode cX7_next 192 = .ok (.dup, 1) := dk_89 (dk_at dksX7_next_8 4 rfl rfl)
theorem dX7_next_193 : decode cX7_next 193 = .ok (.getfield 41, 3) := dk_180 0 41 (dk_at dksX7_next_8 5 rfl rfl)
theorem dX7_next_196 : decode cX7_next 196 = .ok (.iconst 1, 1) := dk_4 (dk_at dksX7_next_8 8 rfl rfl)
theorem dX7_next_197 : decode cX7_next 197 = .ok (.iadd, 1) := dk_96 (dk_at dksX7_next_8 9 rfl rfl)
theorem dX7_next_198 : decode cX7_next 198 = .ok (.putfield 41, 3) := dk_181 0 41 (dk_at dksX7_next_8 10 rfl rfl)
theorem dX7_next_201 : decode cX7_next 201 = .ok (.goto (-53), 3) := dk_167 255 203 (dk_at dksX7_next_8 13 rfl rfl)
theorem dX7_next_204 : decode cX7_next 204 = .ok (.aload_n 0, 1) := dk_42 (dk_at dksX7_next_8 16 rfl rfl)
theorem dX7_next_205 : decode cX7_next 205 = .ok (.getstatic 72, 3) := dk_178 0 72 (dk_at dksX7_next_8 17 rfl rfl)
theorem dX7_next_208 : decode cX7_next 208 = .ok (.putfield 35, 3) := dk_181 0 35 (dk_at dksX7_next_8 20 rfl rfl)
theorem dX7_next_211 : decode cX7_next 211 = .ok (.goto 43, 3) := dk_167 0 43 (dk_at dksX7_next_9 0 rfl rfl)
theorem dX7_next_214 : decode cX7_next 214 = .ok (.aload_n 0, 1) := dk_42 (dk_at dksX7_next_9 3 rfl rfl)
theorem dX7_next_215 : decode cX7_next 215 = .ok (.aload_n 0, 1) := dk_42 (dk_at dksX7_next_9 4 rfl rfl)
theorem dX7_next_216 : decode cX7_next 216 = .ok (.getfield 3, 3) := dk_180 0 3 (dk_at dksX7_next_9 5 rfl rfl)
theorem dX7_next_219 : decode cX7_next 219 = .ok (.getfield 44, 3) := dk_180 0 44 (dk_at dksX7_next_9 8 rfl rfl)
theorem dX7_next_222 : decode cX7_next 222 = .ok (.aload_n 0, 1) := dk_42 (dk_at dksX7_next_9 11 rfl rfl)
theorem dX7_next_223 : decode cX7_next 223 = .ok (.getfield 41, 3) := dk_180 0 41 (dk_at dksX7_next_9 12 rfl rfl)
theorem dX7_next_226 : decode cX7_next 226 = .ok (.baload, 1) := dk_51 (dk_at dksX7_next_9 15 rfl rfl)
theorem dX7_next_227 : decode cX7_next 227 = .ok (.bipush 59, 2) := dk_16 59 (dk_at dksX7_next_9 16 rfl rfl)
theorem dX7_next_229 : decode cX7_next 229 = .ok (.if_icmp .ne 9, 3) := dk_160 0 9 (dk_at dksX7_next_9 18 rfl rfl)
theorem dX7_next_232 : decode cX7_next 232 = .ok (.getstatic 75, 3) := dk_178 0 75 (dk_at dksX7_next_9 21 rfl rfl)
theorem dX7_next_235 : decode cX7_next 235 = .ok (.goto 6, 3) := dk_167 0 6 (dk_at dksX7_next_10 0 rfl rfl)
theorem dX7_next_238 : decode cX7_next 238 = .ok (.getstatic 78, 3) := dk_178 0 78 (dk_at dksX7_next_10 3 rfl rfl)
theorem dX7_next_241 : decode cX7_next 241 = .ok (.putfield 35, 3) := dk_181 0 35 (dk_at dksX7_next_10 6 rfl rfl)
theorem dX7_next_244 : decode cX7_next 244 = .ok (.aload_n 0, 1) := dk_42 (dk_at dksX7_next_10 9 rfl rfl)
theorem dX7_next_245 : decode cX7_next 245 = .ok (.dup, 1) := dk_89 (dk_at dksX7_next_10 10 rfl rfl)
theorem dX7_next_246 : decode cX7_next 246 = .ok (.getfield 41, 3) := dk_180 0 41 (dk_at dksX7_next_10 11 rfl rfl)
theorem dX7_next_249 : decode cX7_next 249 = .ok (.iconst 1, 1) := dk_4 (dk_at dksX7_next_10 14 rfl rfl)
theorem dX7_next_250 : decode cX7_next 250 = .ok (.iadd, 1) := dk_96 (dk_at dksX7_next_10 15 rfl rfl)
theorem dX7_next_251 : decode cX7_next 251 = .ok (.putfield 41, 3) := dk_181 0 41 (dk_at dksX7_next_10 16 rfl rfl)
theorem dX7_next_254 : decode cX7_next 254 = .ok (.return_, 1) := dk_177 (dk_at dksX7_next_10 19 rfl rfl)
theorem okX7_next : wOkV yX7_next cX7_next 1 none 0 := ⟨q466, qs1, q146, q467, by decide, by decide, by decide +kernel⟩
def wInc (μ : wMem) (r : Nat) : wMem := wSI μ r 2 (μ.1 r 2 + 1)
/-- the byte at the place -/
abbrev wBy (μ : wMem) (r : Nat) : Int32 := μ.1 8 (μ.1 r 2).toNatClampNeg
def wSkip : Nat → Nat → wMem → Option wMem
  | 0, _, _ => none
  | N + 1, r, μ => if μ.1 r 2 < μ.1 r 0 then (if ok_in (μ.1 r 2) 600 = true then (if wBy μ r = 32 then wSkip N r (wInc μ r) else if wBy μ r = 10 then wSkip N r (wInc μ r) else some μ) else none) else some μ
def wRun (lo hi : Int32) : Nat → Nat → wMem → Option wMem
  | 0, _, _ => none
  | N + 1, r, μ => if wNxOk μ r = true then (if wNx μ r lo hi = 0 then some μ else wRun lo hi N r (wInc μ r)) else none
def wNum : Nat → Nat → wMem → Option wMem
  | 0, _, _ => none
  | N + 1, r, μ => if wNxOk μ r = true then (if wNx μ r 48 57 = 0 then some μ else wNum N r (wInc (wSI μ r 4 (if 10 * μ.1 r 4 + wBy μ r - 48 < 99999 then 10 * μ.1 r 4 + wBy μ r - 48 else 99999)) r)) else none
/-- what next does: the token's number, the memory -/
def wNext (N r : Nat) (μ : wMem) : Option (Nat × wMem) :=
  wBindV (wSkip N r μ) fun μ1 => wLet (wSI μ1 r 3 (μ1.1 r 2)) fun μ2 =>
    if μ2.1 r 2 = μ2.1 r 0 then some (0, μ2) else if wNxOk μ2 r = true then (if wNx μ2 r 97 122 = 0 then (if wNx μ2 r 48 57 = 0 then (if ok_in (μ2.1 r 2) 600 = true then some (if wBy μ2 r = 59 then 3 else 4, wInc μ2 r) else none) else wBindV (wNum N r (wSI μ2 r 4 0)) fun μ3 => some (2, μ3)) else wBindV (wRun 97 122 N r μ2) fun μ3 => some (1, μ3)) else none
theorem wNx_lt {μ : wMem} {r : Nat} {lo hi : Int32} (h : ¬ wNx μ r lo hi = 0) : μ.1 r 2 < μ.1 r 0 := by
  by_cases h1 : μ.1 r 2 < μ.1 r 0
  · exact h1
  · unfold wNx at h
    rw [if_neg h1] at h
    exact absurd rfl h
theorem tX7_skip {p : Program} {l : Launch} {e : Env} {s : State} {m : MethodId} {args : Array Value} {below : List Frame} {meth : Method} {c : Code} {D : va_G} {E : List wCell} {q : Nat → Nat} {ca : wCA} {A : Nat → Prop} {Q : State → Prop} {r f tk : Nat} (hb : (spX ++ E)[r]? = some (wRdr f tk)) (C : wC p ({ frames := 2, cells := 0, slots := 0, locals := 47 } : Room) s m args meth c cX7_next yX7_next.cls 1 none D vwCl (spX ++ E) q ca A) : ∀ (N : Nat) (μ μ1 : wMem), wSkip N r μ = some μ1 → wJ p l e ({ frames := 2, cells := 0, slots := 0, locals := 47 } : Room) s m args below meth c 1 D vwCl (spX ++ E) q ca A Q 0 0 μ1 58 [(0, .ref (q r))] [] → wJ p l e ({ frames := 2, cells := 0, slots := 0, locals := 47 } : Room) s m args below meth c 1 D vwCl (spX ++ E) q ca A Q 0 0 μ 0 [(0, .ref (q r))] [] := by
  intro N
  induction N with
  | zero =>
    intro μ μ1 h k
    simp [wSkip] at h
  | succ N ih =>
    intro μ μ1 h k
    unfold wSkip at h
    refine wr_aload_n 0 C dX7_next_0 0 rfl rfl ?_
    refine wr_getI 1 2 C dX7_next_1 hb rfl in_X7 (by decide) rfl q487 ?_
    refine wr_aload_n 4 C dX7_next_4 0 rfl rfl ?_
    refine wr_getI 5 0 C dX7_next_5 hb rfl in_X7 (by decide) rfl q485 ?_
    refine wr_icmp_ge 8 58 C dX7_next_8 (by decide) (fun hc => ?_) (fun hc => ?_)
    · rw [if_neg (Int32.not_lt.mpr hc)] at h
      obtain rfl := Option.some.inj h
      exact k
    · have hlt := Int32.not_le.mp hc
      rw [if_pos hlt] at h
      by_cases hin : ok_in (μ.1 r 2) 600 = true
      · rw [if_pos hin] at h
        refine wr_aload_n 11 C dX7_next_11 0 rfl rfl ?_
        refine wr_getR 12 6 C dX7_next_12 hb rfl in_X7 (by decide) rfl q491 ?_
        refine wr_getNR 15 1 C dX7_next_15 spX_0 rfl in_X0 (by decide) rfl q330 ?_
        refine wr_aload_n 18 C dX7_next_18 0 rfl rfl ?_
        refine wr_getI 19 2 C dX7_next_19 hb rfl in_X7 (by decide) rfl q487 ?_
        refine wr_bald 22 C dX7_next_22 spX_8 hin ?_
        refine wr_bipush 23 C dX7_next_23 (v := 32) rfl ?_
        refine wr_icmp_eq 25 45 C dX7_next_25 (by decide) (fun h32 => ?_) (fun h32 => ?_)
        · rw [if_pos h32] at h
          refine wr_aload_n 45 C dX7_next_45 0 rfl rfl ?_
          refine wr_dup 46 C dX7_next_46 rfl ?_
          refine wr_getI 47 2 C dX7_next_47 hb rfl in_X7 (by decide) rfl q487 ?_
          refine wr_iconst 50 C dX7_next_50 (v := 1) rfl ?_
          refine wr_iadd 51 C dX7_next_51 ?_
          refine wr_putI 52 2 C dX7_next_52 hb rfl in_X7 tyX7 tyX7_ok nmX7 (by decide) rfl q487 rfl rfl rfl ?_
          refine wr_goto 55 C dX7_next_55 (tgt := 0) (by decide) ?_
          exact ih _ _ h k
        · rw [if_neg h32] at h
          refine wr_aload_n 28 C dX7_next_28 0 rfl rfl ?_
          refine wr_getR 29 6 C dX7_next_29 hb rfl in_X7 (by decide) rfl q491 ?_
          refine wr_getNR 32 1 C dX7_next_32 spX_0 rfl in_X0 (by decide) rfl q330 ?_
          refine wr_aload_n 35 C dX7_next_35 0 rfl rfl ?_
          refine wr_getI 36 2 C dX7_next_36 hb rfl in_X7 (by decide) rfl q487 ?_
          refine wr_bald 39 C dX7_next_39 spX_8 hin ?_
          refine wr_bipush 40 C dX7_next_40 (v := 10) rfl ?_
          refine wr_icmp_ne 42 58 C dX7_next_42 (by decide) (fun h10 => ?_) (fun h10 => ?_)
          · rw [if_neg h10] at h
            obtain rfl := Option.some.inj h
            exact k
          · rw [if_pos h10] at h
            refine wr_aload_n 45 C dX7_next_45 0 rfl rfl ?_
            refine wr_dup 46 C dX7_next_46 rfl ?_
            refine wr_getI 47 2 C dX7_next_47 hb rfl in_X7 (by decide) rfl q487 ?_
            refine wr_iconst 50 C dX7_next_50 (v := 1) rfl ?_
            refine wr_iadd 51 C dX7_next_51 ?_
            refine wr_putI 52 2 C dX7_next_52 hb rfl in_X7 tyX7 tyX7_ok nmX7 (by decide) rfl q487 rfl rfl rfl ?_
            refine wr_goto 55 C dX7_next_55 (tgt := 0) (by decide) ?_
            exact ih _ _ h k
      · rw [if_neg hin] at h
        cases h
theorem tX7_run {p : Program} {l : Launch} {e : Env} {s : State} {m : MethodId} {args : Array Value} {below : List Frame} {meth : Method} {c : Code} {D : va_G} {E : List wCell} {q : Nat → Nat} {ca : wCA} {A : Nat → Prop} {Q : State → Prop} {r f tk : Nat} (hb : (spX ++ E)[r]? = some (wRdr f tk)) (C : wC p ({ frames := 2, cells := 0, slots := 0, locals := 47 } : Room) s m args meth c cX7_next yX7_next.cls 1 none D vwCl (spX ++ E) q ca A) : ∀ (N : Nat) (μ μ1 : wMem), wRun 97 122 N r μ = some μ1 → wJ p l e ({ frames := 2, cells := 0, slots := 0, locals := 47 } : Room) s m args below meth c 1 D vwCl (spX ++ E) q ca A Q 0 0 μ1 122 [(0, .ref (q r))] [] → wJ p l e ({ frames := 2, cells := 0, slots := 0, locals := 47 } : Room) s m args below meth c 1 D vwCl (spX ++ E) q ca A Q 0 0 μ 98 [(0, .ref (q r))] [] := by
  intro N
  induction N with
  | zero =>
    intro μ μ1 h k
    simp [wRun] at h
  | succ N ih =>
    intro μ μ1 h k
    unfold wRun at h
    by_cases hok : wNxOk μ r = true
    · rw [if_pos hok] at h
      refine wr_aload_n 98 C dX7_next_98 0 rfl rfl ?_
      refine wr_bipush 99 C dX7_next_99 (v := 97) rfl ?_
      refine wr_bipush 101 C dX7_next_101 (v := 122) rfl ?_
      refine wr_Vi (kc1 := 0) (ks1 := 0) (As := [.int 97, .int 122]) (b := r) 103 [] C dX7_next_103 (tX7_isNext l hb μ hok) okX7_isNext q468 hb rfl ⟨rfl, rfl, Nat.le_of_ble_eq_true rfl, Nat.le_of_ble_eq_true rfl, Nat.zero_le _, Nat.zero_le _⟩ (Nat.le_of_ble_eq_true rfl) rfl ?_
      refine wr_if_eq 106 122 C dX7_next_106 (by decide) (fun h0 => ?_) (fun h0 => ?_)
      · rw [if_pos h0] at h
        obtain rfl := Option.some.inj h
        exact k
      · rw [if_neg h0] at h
        refine wr_aload_n 109 C dX7_next_109 0 rfl rfl ?_
        refine wr_dup 110 C dX7_next_110 rfl ?_
        refine wr_getI 111 2 C dX7_next_111 hb rfl in_X7 (by decide) rfl q487 ?_
        refine wr_iconst 114 C dX7_next_114 (v := 1) rfl ?_
        refine wr_iadd 115 C dX7_next_115 ?_
        refine wr_putI 116 2 C dX7_next_116 hb rfl in_X7 tyX7 tyX7_ok nmX7 (by decide) rfl q487 rfl rfl rfl ?_
        refine wr_goto 119 C dX7_next_119 (tgt := 98) (by decide) ?_
        exact ih _ _ h k
    · rw [if_neg hok] at h
      cases h
theorem tX7_num {p : Program} {l : Launch} {e : Env} {s : State} {m : MethodId} {args : Array Value} {below : List Frame} {meth : Method} {c : Code} {D : va_G} {E : List wCell} {q : Nat → Nat} {ca : wCA} {A : Nat → Prop} {Q : State → Prop} {r f tk : Nat} (hb : (spX ++ E)[r]? = some (wRdr f tk)) (C : wC p ({ frames := 2, cells := 0, slots := 0, locals := 47 } : Room) s m args meth c cX7_next yX7_next.cls 1 none D vwCl (spX ++ E) q ca A) : ∀ (N : Nat) (μ μ1 : wMem), wNum N r μ = some μ1 → wJ p l e ({ frames := 2, cells := 0, slots := 0, locals := 47 } : Room) s m args below meth c 1 D vwCl (spX ++ E) q ca A Q 0 0 μ1 204 [(0, .ref (q r))] [] → wJ p l e ({ frames := 2, cells := 0, slots := 0, locals := 47 } : Room) s m args below meth c 1 D vwCl (spX ++ E) q ca A Q 0 0 μ 148 [(0, .ref (q r))] [] := by
  intro N
  induction N with
  | zero =>
    intro μ μ1 h k
    simp [wNum] at h
  | succ N ih =>
    intro μ μ1 h k
    unfold wNum at h
    by_cases hok : wNxOk μ r = true
    · rw [if_pos hok] at h
      refine wr_aload_n 148 C dX7_next_148 0 rfl rfl ?_
      refine wr_bipush 149 C dX7_next_149 (v := 48) rfl ?_
      refine wr_bipush 151 C dX7_next_151 (v := 57) rfl ?_
      refine wr_Vi (kc1 := 0) (ks1 := 0) (As := [.int 48, .int 57]) (b := r) 153 [] C dX7_next_153 (tX7_isNext l hb μ hok) okX7_isNext q468 hb rfl ⟨rfl, rfl, Nat.le_of_ble_eq_true rfl, Nat.le_of_ble_eq_true rfl, Nat.zero_le _, Nat.zero_le _⟩ (Nat.le_of_ble_eq_true rfl) rfl ?_
      refine wr_if_eq 156 204 C dX7_next_156 (by decide) (fun h0 => ?_) (fun h0 => ?_)
      · rw [if_pos h0] at h
        obtain rfl := Option.some.inj h
        exact k
      · rw [if_neg h0] at h
        have hin := wNxOk_in hok (wNx_lt h0)
        refine wr_aload_n 159 C dX7_next_159 0 rfl rfl ?_
        refine wr_ldc 160 C dX7_next_160 q475 ?_
        refine wr_bipush 162 C dX7_next_162 (v := 10) rfl ?_
        refine wr_aload_n 164 C dX7_next_164 0 rfl rfl ?_
        refine wr_getI 165 4 C dX7_next_165 hb rfl in_X7 (by decide) rfl q489 ?_
        refine wr_imul 168 C dX7_next_168 ?_
        refine wr_aload_n 169 C dX7_next_169 0 rfl rfl ?_
        refine wr_getR 170 6 C dX7_next_170 hb rfl in_X7 (by decide) rfl q491 ?_
        refine wr_getNR 173 1 C dX7_next_173 spX_0 rfl in_X0 (by decide) rfl q330 ?_
        refine wr_aload_n 176 C dX7_next_176 0 rfl rfl ?_
        refine wr_getI 177 2 C dX7_next_177 hb rfl in_X7 (by decide) rfl q487 ?_
        refine wr_bald 180 C dX7_next_180 spX_8 hin ?_
        refine wr_iadd 181 C dX7_next_181 ?_
        refine wr_bipush 182 C dX7_next_182 (v := 48) rfl ?_
        refine wr_isub 184 C dX7_next_184 ?_
        refine wr_mmin 185 C dX7_next_185 q476 q477 q149 q478 ⟨Nat.le_of_ble_eq_true rfl, Nat.le_of_ble_eq_true rfl, Nat.le_of_ble_eq_true rfl, Nat.le_of_ble_eq_true rfl⟩ (Nat.le_of_ble_eq_true rfl) ?_
        refine wr_putI 188 4 C dX7_next_188 hb rfl in_X7 tyX7 tyX7_ok nmX7 (by decide) rfl q489 rfl rfl rfl ?_
        refine wr_aload_n 191 C dX7_next_191 0 rfl rfl ?_
        refine wr_dup 192 C dX7_next_192 rfl ?_
        refine wr_getI 193 2 C dX7_next_193 hb rfl in_X7 (by decide) rfl q487 ?_
        refine wr_iconst 196 C dX7_next_196 (v := 1) rfl ?_
        refine wr_iadd 197 C dX7_next_197 ?_
        refine wr_putI 198 2 C dX7_next_198 hb rfl in_X7 tyX7 tyX7_ok nmX7 (by decide) rfl q487 rfl rfl rfl ?_
        refine wr_goto 201 C dX7_next_201 (tgt := 148) (by decide) ?_
        exact ih _ _ h k
    · rw [if_neg hok] at h
      cases h
set_option maxHeartbeats 4000000 in
theorem tX7_next (l : Launch) {D : va_G} {E : List wCell} {q : Nat → Nat} {ca : wCA} {r f tk : Nat} (hb : (spX ++ E)[r]? = some (wRdr f tk)) {ad : Nat → Nat} (N i : Nat) (μ μ1 : wMem) (hf : wNext N r μ = some (i, μ1)) : wMPv (wZk ad) l yX7_next cX7_next 1 none ({ frames := 2, cells := 0, slots := 0, locals := 47 } : Room) D vwCl (spX ++ E) ((spX ++ E).set r (wRdr f (ad i))) q ca [.ref (q r)] μ μ1 := by
  have hlt : r < (spX ++ E).length := (List.getElem?_eq_some_iff.mp hb).1
  refine wMPv_intro (by decide) (Nat.le_of_ble_eq_true rfl) ?_
  intro p e s m args below meth c A C hZ
  refine wr_sub [(0, .ref (q r))] [0] rfl ?_
  unfold wNext at hf
  obtain ⟨μ0, hs, hf⟩ := o_bindV hf
  refine tX7_skip hb C N μ μ0 hs ?_
  refine wr_aload_n 58 C dX7_next_58 0 rfl rfl ?_
  refine wr_aload_n 59 C dX7_next_59 0 rfl rfl ?_
  refine wr_getI 60 2 C dX7_next_60 hb rfl in_X7 (by decide) rfl q487 ?_
  refine wr_putI 63 3 C dX7_next_63 hb rfl in_X7 tyX7 tyX7_ok nmX7 (by decide) rfl q488 rfl rfl rfl ?_
  obtain ⟨μ2, e2, hf⟩ := o_let hf
  rw [← e2]
  refine wr_aload_n 66 C dX7_next_66 0 rfl rfl ?_
  refine wr_getI 67 2 C dX7_next_67 hb rfl in_X7 (by decide) rfl q487 ?_
  refine wr_aload_n 70 C dX7_next_70 0 rfl rfl ?_
  refine wr_getI 71 0 C dX7_next_71 hb rfl in_X7 (by decide) rfl q485 ?_
  refine wr_icmp_ne 74 87 C dX7_next_74 (by decide) (fun hne => ?_) (fun heq => ?_)
  · rw [if_neg hne] at hf
    by_cases hok : wNxOk μ2 r = true
    · rw [if_pos hok] at hf
      refine wr_aload_n 87 C dX7_next_87 0 rfl rfl ?_
      refine wr_bipush 88 C dX7_next_88 (v := 97) rfl ?_
      refine wr_bipush 90 C dX7_next_90 (v := 122) rfl ?_
      refine wr_Vi (kc1 := 0) (ks1 := 0) (As := [.int 97, .int 122]) (b := r) 92 [] C dX7_next_92 (tX7_isNext l hb μ2 hok) okX7_isNext q468 hb rfl ⟨rfl, rfl, Nat.le_of_ble_eq_true rfl, Nat.le_of_ble_eq_true rfl, Nat.zero_le _, Nat.zero_le _⟩ (Nat.le_of_ble_eq_true rfl) rfl ?_
      refine wr_if_eq 95 132 C dX7_next_95 (by decide) (fun h0 => ?_) (fun h0 => ?_)
      · rw [if_pos h0] at hf
        refine wr_aload_n 132 C dX7_next_132 0 rfl rfl ?_
        refine wr_bipush 133 C dX7_next_133 (v := 48) rfl ?_
        refine wr_bipush 135 C dX7_next_135 (v := 57) rfl ?_
        refine wr_Vi (kc1 := 0) (ks1 := 0) (As := [.int 48, .int 57]) (b := r) 137 [] C dX7_next_137 (tX7_isNext l hb μ2 hok) okX7_isNext q468 hb rfl ⟨rfl, rfl, Nat.le_of_ble_eq_true rfl, Nat.le_of_ble_eq_true rfl, Nat.zero_le _, Nat.zero_le _⟩ (Nat.le_of_ble_eq_true rfl) rfl ?_
        refine wr_if_eq 140 214 C dX7_next_140 (by decide) (fun h1 => ?_) (fun h1 => ?_)
        · rw [if_pos h1] at hf
          by_cases hin : ok_in (μ2.1 r 2) 600 = true
          · rw [if_pos hin] at hf
            refine wr_aload_n 214 C dX7_next_214 0 rfl rfl ?_
            refine wr_aload_n 215 C dX7_next_215 0 rfl rfl ?_
            refine wr_getR 216 6 C dX7_next_216 hb rfl in_X7 (by decide) rfl q491 ?_
            refine wr_getNR 219 1 C dX7_next_219 spX_0 rfl in_X0 (by decide) rfl q330 ?_
            refine wr_aload_n 222 C dX7_next_222 0 rfl rfl ?_
            refine wr_getI 223 2 C dX7_next_223 hb rfl in_X7 (by decide) rfl q487 ?_
            refine wr_bald 226 C dX7_next_226 spX_8 hin ?_
            refine wr_bipush 227 C dX7_next_227 (v := 59) rfl ?_
            refine wr_icmp_ne 229 238 C dX7_next_229 (by decide) (fun h59 => ?_) (fun h59 => ?_)
            · rw [if_neg h59] at hf
              obtain ⟨rfl, rfl⟩ := Prod.mk.inj (Option.some.inj hf)
              refine wr_getsA 238 C dX7_next_238 (hZ 4 (by decide)) q483 ?_
              refine wr_putA (a := ad 4) 241 5 ((spX ++ E).set r (wRdr f (ad 4))) C dX7_next_241 hb rfl in_X7 tyX7 tyX7_ok nmX7 (by decide) (by show 5 < 7; decide) q490 rfl (fun _ => rfl) (fun _ => rfl) rfl ?_
              intro C1
              have hb1 : ((spX ++ E).set r (wRdr f (ad 4)))[r]? = some (wRdr f (ad 4)) := List.getElem?_set_self hlt
              refine wr_aload_n 244 C1 dX7_next_244 0 rfl rfl ?_
              refine wr_dup 245 C1 dX7_next_245 rfl ?_
              refine wr_getI 246 2 C1 dX7_next_246 hb1 rfl in_X7 (by decide) rfl q487 ?_
              refine wr_iconst 249 C1 dX7_next_249 (v := 1) rfl ?_
              refine wr_iadd 250 C1 dX7_next_250 ?_
              refine wr_putI 251 2 C1 dX7_next_251 hb1 rfl in_X7 tyX7 tyX7_ok nmX7 (by decide) rfl q487 rfl rfl rfl ?_
              exact wr_retPv 254 C1 dX7_next_254 ⟨Nat.le_refl _, Nat.le_refl _⟩ rfl
            · rw [if_pos h59] at hf
              obtain ⟨rfl, rfl⟩ := Prod.mk.inj (Option.some.inj hf)
              refine wr_getsA 232 C dX7_next_232 (hZ 3 (by decide)) q481 ?_
              refine wr_goto 235 C dX7_next_235 (tgt := 241) (by decide) ?_
              refine wr_putA (a := ad 3) 241 5 ((spX ++ E).set r (wRdr f (ad 3))) C dX7_next_241 hb rfl in_X7 tyX7 tyX7_ok nmX7 (by decide) (by show 5 < 7; decide) q490 rfl (fun _ => rfl) (fun _ => rfl) rfl ?_
              intro C1
              have hb1 : ((spX ++ E).set r (wRdr f (ad 3)))[r]? = some (wRdr f (ad 3)) := List.getElem?_set_self hlt
              refine wr_aload_n 244 C1 dX7_next_244 0 rfl rfl ?_
              refine wr_dup 245 C1 dX7_next_245 rfl ?_
              refine wr_getI 246 2 C1 dX7_next_246 hb1 rfl in_X7 (by decide) rfl q487 ?_
              refine wr_iconst 249 C1 dX7_next_249 (v := 1) rfl ?_
              refine wr_iadd 250 C1 dX7_next_250 ?_
              refine wr_putI 251 2 C1 dX7_next_251 hb1 rfl in_X7 tyX7 tyX7_ok nmX7 (by decide) rfl q487 rfl rfl rfl ?_
              exact wr_retPv 254 C1 dX7_next_254 ⟨Nat.le_refl _, Nat.le_refl _⟩ rfl
          · rw [if_neg hin] at hf
            cases hf
        · rw [if_neg h1] at hf
          obtain ⟨μ3, h3, hf⟩ := o_bindV hf
          obtain ⟨rfl, rfl⟩ := Prod.mk.inj (Option.some.inj hf)
          refine wr_aload_n 143 C dX7_next_143 0 rfl rfl ?_
          refine wr_iconst 144 C dX7_next_144 (v := 0) rfl ?_
          refine wr_putI 145 4 C dX7_next_145 hb rfl in_X7 tyX7 tyX7_ok nmX7 (by decide) rfl q489 rfl rfl rfl ?_
          refine tX7_num hb C N _ _ h3 ?_
          refine wr_aload_n 204 C dX7_next_204 0 rfl rfl ?_
          refine wr_getsA 205 C dX7_next_205 (hZ 2 (by decide)) q479 ?_
          refine wr_putA (a := ad 2) 208 5 ((spX ++ E).set r (wRdr f (ad 2))) C dX7_next_208 hb rfl in_X7 tyX7 tyX7_ok nmX7 (by decide) (by show 5 < 7; decide) q490 rfl (fun _ => rfl) (fun _ => rfl) rfl ?_
          intro C1
          refine wr_goto 211 C1 dX7_next_211 (tgt := 254) (by decide) ?_
          exact wr_retPv 254 C1 dX7_next_254 ⟨Nat.le_refl _, Nat.le_refl _⟩ rfl
      · rw [if_neg h0] at hf
        obtain ⟨μ3, h3, hf⟩ := o_bindV hf
        obtain ⟨rfl, rfl⟩ := Prod.mk.inj (Option.some.inj hf)
        refine tX7_run hb C N _ _ h3 ?_
        refine wr_aload_n 122 C dX7_next_122 0 rfl rfl ?_
        refine wr_getsA 123 C dX7_next_123 (hZ 1 (by decide)) q473 ?_
        refine wr_putA (a := ad 1) 126 5 ((spX ++ E).set r (wRdr f (ad 1))) C dX7_next_126 hb rfl in_X7 tyX7 tyX7_ok nmX7 (by decide) (by show 5 < 7; decide) q490 rfl (fun _ => rfl) (fun _ => rfl) rfl ?_
        intro C1
        refine wr_goto 129 C1 dX7_next_129 (tgt := 254) (by decide) ?_
        exact wr_retPv 254 C1 dX7_next_254 ⟨Nat.le_refl _, Nat.le_refl _⟩ rfl
    · rw [if_neg hok] at hf
      cases hf
  · rw [if_pos heq] at hf
    obtain ⟨rfl, rfl⟩ := Prod.mk.inj (Option.some.inj hf)
    refine wr_aload_n 77 C dX7_next_77 0 rfl rfl ?_
    refine wr_getsA 78 C dX7_next_78 (hZ 0 (by decide)) q462 ?_
    refine wr_putA (a := ad 0) 81 5 ((spX ++ E).set r (wRdr f (ad 0))) C dX7_next_81 hb rfl in_X7 tyX7 tyX7_ok nmX7 (by decide) (by show 5 < 7; decide) q490 rfl (fun _ => rfl) (fun _ => rfl) rfl ?_
    intro C1
    refine wr_goto 84 C1 dX7_next_84 (tgt := 254) (by decide) ?_
    exact wr_retPv 254 C1 dX7_next_254 ⟨Nat.le_refl _, Nat.le_refl _⟩ rfl
