set_option maxRecDepth 100000
abbrev cX6_undo : ByteArray := prog_11_method_68_code
def yX6_undo : MethodName := ⟨RX6, "undo", "()I"⟩
def dkwX6_undo_2 : List UInt8 := [172]
abbrev dktX6_undo_2 : List UInt8 := dkwX6_undo_2 ++ []
def dkwX6_undo_1 : List UInt8 := [154, 0, 6, 16, 251, 172, 42, 180, 0, 34, 16, 6, 92, 46, 4, 100, 79, 42, 180, 0, 34, 16, 6, 46]
abbrev dktX6_undo_1 : List UInt8 := dkwX6_undo_1 ++ dktX6_undo_2
def dkwX6_undo_0 : List UInt8 := [42, 3, 181, 0, 88, 42, 182, 1, 67, 154, 0, 6, 16, 254, 172, 42, 180, 0, 34, 16, 6, 46]
abbrev dktX6_undo_0 : List UInt8 := dkwX6_undo_0 ++ dktX6_undo_1
theorem dksX6_undo_0 : cX6_undo.data.toList.drop 0 = dktX6_undo_0 := by decide +kernel
theorem dksX6_undo_1 : cX6_undo.data.toList.drop 22 = dktX6_undo_1 := dk_seg dksX6_undo_0 22 rfl rfl
theorem dksX6_undo_2 : cX6_undo.data.toList.drop 46 = dktX6_undo_2 := dk_seg dksX6_undo_1 24 rfl rfl
theorem dX6_undo_0 : decode cX6_undo 0 = .ok (.aload_n 0, 1) := dk_42 (dk_at dksX6_undo_0 0 rfl rfl)
theorem dX6_undo_1 : decode cX6_undo 1 = .ok (.iconst 0, 1) := dk_3 (dk_at dksX6_undo_0 1 rfl rfl)
theorem dX6_undo_2 : decode cX6_undo 2 = .ok (.putfield 88, 3) := dk_181 0 88 (dk_at dksX6_undo_0 2 rfl rfl)
theorem dX6_undo_5 : decode cX6_undo 5 = .ok (.aload_n 0, 1) := dk_42 (dk_at dksX6_undo_0 5 rfl rfl)
theorem dX6_undo_6 : decode cX6_undo 6 = .ok (.invokevirtual 323, 3) := dk_182 1 67 (dk_at dksX6_undo_0 6 rfl rfl)
theorem dX6_undo_9 : decode cX6_undo 9 = .ok (.ifCond .ne 6, 3) := dk_154 0 6 (dk_at dksX6_undo_0 9 rfl rfl)
theorem dX6_undo_12 : decode cX6_undo 12 = .ok (.bipush (-2), 2) := dk_16 254 (dk_at dksX6_undo_0 12 rfl rfl)
theorem dX6_undo_14 : decode cX6_undo 14 = .ok (.ireturn, 1) := dk_172 (dk_at dksX6_undo_0 14 rfl rfl)
theorem dX6_undo_15 : decode cX6_undo 15 = .ok (.aload_n 0, 1) := dk_42 (dk_at dksX6_undo_0 15 rfl rfl)
theorem dX6_undo_16 : decode cX6_undo 16 = .ok (.getfield 34, 3) := dk_180 0 34 (dk_at dksX6_undo_0 16 rfl rfl)
theorem dX6_undo_19 : decode cX6_undo 19 = .ok (.bipush 6, 2) := dk_16 6 (dk_at dksX6_undo_0 19 rfl rfl)
theorem dX6_undo_21 : decode cX6_undo 21 = .ok (.iaload, 1) := dk_46 (dk_at dksX6_undo_0 21 rfl rfl)
theorem dX6_undo_22 : decode cX6_undo 22 = .ok (.ifCond .ne 6, 3) := dk_154 0 6 (dk_at dksX6_undo_1 0 rfl rfl)
theorem dX6_undo_25 : decode cX6_undo 25 = .ok (.bipush (-5), 2) := dk_16 251 (dk_at dksX6_undo_1 3 rfl rfl)
theorem dX6_undo_27 : decode cX6_undo 27 = .ok (.ireturn, 1) := dk_172 (dk_at dksX6_undo_1 5 rfl rfl)
theorem dX6_undo_28 : decode cX6_undo 28 = .ok (.aload_n 0, 1) := dk_42 (dk_at dksX6_undo_1 6 rfl rfl)
theorem dX6_undo_29 : decode cX6_undo 29 = .ok (.getfield 34, 3) := dk_180 0 34 (dk_at dksX6_undo_1 7 rfl rfl)
theorem dX6_undo_32 : decode cX6_undo 32 = .ok (.bipush 6, 2) := dk_16 6 (dk_at dksX6_undo_1 10 rfl rfl)
theorem dX6_undo_34 : decode cX6_undo 34 = .ok (.dup2, 1) := dk_92 (dk_at dksX6_undo_1 12 rfl rfl)
theorem dX6_undo_35 : decode cX6_undo 35 = .ok (.iaload, 1) := dk_46 (dk_at dksX6_undo_1 13 rfl rfl)
theorem dX6_undo_36 : decode cX6_undo 36 = .ok (.iconst 1, 1) := dk_4 (dk_at dksX6_undo_1 14 rfl rfl)
theorem dX6_undo_37 : decode cX6_undo 37 = .ok (.isub, 1) := dk_100 (dk_at dksX6_undo_1 15 rfl rfl)
theorem dX6_undo_38 : decode cX6_undo 38 = .ok (.iastore, 1) := dk_79 (dk_at dksX6_undo_1 16 rfl rfl)
theorem dX6_undo_39 : decode cX6_undo 39 = .ok (.aload_n 0, 1) := dk_42 (dk_at dksX6_undo_1 17 rfl rfl)
theorem dX6_undo_40 : decode cX6_undo 40 = .ok (.getfield 34, 3) := dk_180 0 34 (dk_at dksX6_undo_1 18 rfl rfl)
theorem dX6_undo_43 : decode cX6_undo 43 = .ok (.bipush 6, 2) := dk_16 6 (dk_at dksX6_undo_1 21 rfl rfl)
theorem dX6_undo_45 : decode cX6_undo 45 = .ok (.iaload, 1) := dk_46 (dk_at dksX6_undo_1 23 rfl rfl)
theorem dX6_undo_46 : decode cX6_undo 46 = .ok (.ireturn, 1) := dk_172 (dk_at dksX6_undo_2 0 rfl rfl)

theorem okX6_undo : wOkV yX6_undo cX6_undo 1 (some .int) 0 := ⟨q1799, q1800, q145, q1801, by decide, by decide, by decide +kernel⟩
def fX6_undo (N : Nat)   (μ : wMem) : Option (Int32 × wMem) :=
  wLet (wSI μ 0 0 (0 : Int32)) fun μ1 => wBind (fX6_isFamily N   μ1) fun v4 μ3 => if v4 = 0 then some ((-2), μ3) else wG (ok_in (6 : Int32) 35) (if (μ3.1 7 (Int32.toNatClampNeg (6 : Int32))) = 0 then some ((-5), μ3) else wG (ok_in (6 : Int32) 35) (wG (ok_in (6 : Int32) 35) (wLet (wSI μ3 7 (Int32.toNatClampNeg (6 : Int32)) ((μ3.1 7 (Int32.toNatClampNeg (6 : Int32))) - (1 : Int32))) fun μ10 => wG (ok_in (6 : Int32) 35) (some (μ10.1 7 (Int32.toNatClampNeg (6 : Int32)), μ10)))))
set_option maxHeartbeats 4000000 in
set_option maxRecDepth 100000 in
theorem tX6_undo (l : Launch) {D : va_G} {E : List wCell} {q : Nat → Nat} {ca : wCA} (N : Nat)    (μ : wMem) (r0 : (Int32 × wMem)) (hf : fX6_undo N   μ = some r0) : wMi l yX6_undo cX6_undo 1 (some .int) ({ frames := 1, cells := 0, slots := 0, locals := 20 } : Room) D vwCl (spM ++ E) q ca [.ref (q 0)] μ r0 := by
  refine wMi_intro (by decide) (Nat.le_of_ble_eq_true rfl) ?_
  intro p e s m args below meth c A C
  unfold fX6_undo at hf
  refine wr_sub [(0, .ref (q 0))] [0] rfl ?_
  refine wr_aload_n 0 C dX6_undo_0 0 rfl rfl ?_
  refine wr_iconst 1 C dX6_undo_1 (v := 0) rfl ?_
  obtain ⟨μ1, eμ1, hf⟩ := o_let hf
  refine puspM_0_0_X6 2 C dX6_undo_2 eμ1 ?_
  refine wr_aload_n 5 C dX6_undo_5 0 rfl rfl ?_
  obtain ⟨v4, μ3, h2, hf⟩ := o_bind hf
  refine wr_Vi (kc1 := 0) (ks1 := 0) 6 [] C dX6_undo_6 (tX6_isFamily l N    μ1 (v4, μ3) h2) okX6_isFamily q1750 (b := 0) spM_0 rfl ⟨rfl, rfl, Nat.le_of_ble_eq_true rfl, Nat.le_of_ble_eq_true rfl, Nat.zero_le _, Nat.zero_le _⟩ (Nat.le_of_ble_eq_true rfl) rfl ?_
  refine wr_if_ne 9 15 C dX6_undo_9 (by decide) (fun c5 => ?_) (fun c5 => ?_)
  · replace hf := o_neg c5 hf
    refine wr_aload_n 15 C dX6_undo_15 0 rfl rfl ?_
    refine gespM_0_17_X6 16 C dX6_undo_16 ?_
    refine wr_bipush 19 C dX6_undo_19 (v := 6) rfl ?_
    obtain ⟨g6, hf⟩ := o_g hf
    refine wr_iald 21 C dX6_undo_21 spM_7 g6 ?_
    refine wr_if_ne 22 28 C dX6_undo_22 (by decide) (fun c7 => ?_) (fun c7 => ?_)
    · replace hf := o_neg c7 hf
      refine wr_aload_n 28 C dX6_undo_28 0 rfl rfl ?_
      refine gespM_0_17_X6 29 C dX6_undo_29 ?_
      refine wr_bipush 32 C dX6_undo_32 (v := 6) rfl ?_
      refine wr_dup2 34 C dX6_undo_34 rfl rfl ?_
      obtain ⟨g8, hf⟩ := o_g hf
      refine wr_iald 35 C dX6_undo_35 spM_7 g8 ?_
      refine wr_iconst 36 C dX6_undo_36 (v := 1) rfl ?_
      refine wr_isub 37 C dX6_undo_37 ?_
      obtain ⟨g9, hf⟩ := o_g hf
      obtain ⟨μ10, eμ10, hf⟩ := o_let hf
      refine wr_iast 38 C dX6_undo_38 spM_7 g9 eμ10 ?_
      refine wr_aload_n 39 C dX6_undo_39 0 rfl rfl ?_
      refine gespM_0_17_X6 40 C dX6_undo_40 ?_
      refine wr_bipush 43 C dX6_undo_43 (v := 6) rfl ?_
      obtain ⟨g11, hf⟩ := o_g hf
      refine wr_iald 45 C dX6_undo_45 spM_7 g11 ?_
      exact wr_iret 46 C dX6_undo_46 ⟨Nat.zero_le _, Nat.zero_le _⟩ (Option.some.inj hf)
    · replace hf := o_pos c7 hf
      refine wr_bipush 25 C dX6_undo_25 (v := (-5)) rfl ?_
      exact wr_iret 27 C dX6_undo_27 ⟨Nat.zero_le _, Nat.zero_le _⟩ (Option.some.inj hf)
  · replace hf := o_pos c5 hf
    refine wr_bipush 12 C dX6_undo_12 (v := (-2)) rfl ?_
    exact wr_iret 14 C dX6_undo_14 ⟨Nat.zero_le _, Nat.zero_le _⟩ (Option.some.inj hf)
abbrev cX6_anew : ByteArray := prog_11_method_69_code
def yX6_anew : MethodName := ⟨RX6, "anew", "()I"⟩
def dkwX6_anew_1 : List UInt8 := [180, 0, 34, 16, 6, 3, 79, 27, 172]
abbrev dktX6_anew_1 : List UInt8 := dkwX6_anew_1 ++ []
def dkwX6_anew_0 : List UInt8 := [42, 3, 181, 0, 88, 42, 182, 1, 67, 154, 0, 6, 16, 254, 172, 42, 180, 0, 34, 16, 6, 46, 60, 42]
abbrev dktX6_anew_0 : List UInt8 := dkwX6_anew_0 ++ dktX6_anew_1
theorem dksX6_anew_0 : cX6_anew.data.toList.drop 0 = dktX6_anew_0 := by decide +kernel
theorem dksX6_anew_1 : cX6_anew.data.toList.drop 24 = dktX6_anew_1 := dk_seg dksX6_anew_0 24 rfl rfl
theorem dX6_anew_0 : decode cX6_anew 0 = .ok (.aload_n 0, 1) := dk_42 (dk_at dksX6_anew_0 0 rfl rfl)
theorem dX6_anew_1 : decode cX6_anew 1 = .ok (.iconst 0, 1) := dk_3 (dk_at dksX6_anew_0 1 rfl rfl)
theorem dX6_anew_2 : decode cX6_anew 2 = .ok (.putfield 88, 3) := dk_181 0 88 (dk_at dksX6_anew_0 2 rfl rfl)
theorem dX6_anew_5 : decode cX6_anew 5 = .ok (.aload_n 0, 1) := dk_42 (dk_at dksX6_anew_0 5 rfl rfl)
theorem dX6_anew_6 : decode cX6_anew 6 = .ok (.invokevirtual 323, 3) := dk_182 1 67 (dk_at dksX6_anew_0 6 rfl rfl)
theorem dX6_anew_9 : decode cX6_anew 9 = .ok (.ifCond .ne 6, 3) := dk_154 0 6 (dk_at dksX6_anew_0 9 rfl rfl)
theorem dX6_anew_12 : decode cX6_anew 12 = .ok (.bipush (-2), 2) := dk_16 254 (dk_at dksX6_anew_0 12 rfl rfl)
theorem dX6_anew_14 : decode cX6_anew 14 = .ok (.ireturn, 1) := dk_172 (dk_at dksX6_anew_0 14 rfl rfl)
theorem dX6_anew_15 : decode cX6_anew 15 = .ok (.aload_n 0, 1) := dk_42 (dk_at dksX6_anew_0 15 rfl rfl)
theorem dX6_anew_16 : decode cX6_anew 16 = .ok (.getfield 34, 3) := dk_180 0 34 (dk_at dksX6_anew_0 16 rfl rfl)
theorem dX6_anew_19 : decode cX6_anew 19 = .ok (.bipush 6, 2) := dk_16 6 (dk_at dksX6_anew_0 19 rfl rfl)
theorem dX6_anew_21 : decode cX6_anew 21 = .ok (.iaload, 1) := dk_46 (dk_at dksX6_anew_0 21 rfl rfl)
theorem dX6_anew_22 : decode cX6_anew 22 = .ok (.istore_n 1, 1) := dk_60 (dk_at dksX6_anew_0 22 rfl rfl)
theorem dX6_anew_23 : decode cX6_anew 23 = .ok (.aload_n 0, 1) := dk_42 (dk_at dksX6_anew_0 23 rfl rfl)
theorem dX6_anew_24 : decode cX6_anew 24 = .ok (.getfield 34, 3) := dk_180 0 34 (dk_at dksX6_anew_1 0 rfl rfl)
theorem dX6_anew_27 : decode cX6_anew 27 = .ok (.bipush 6, 2) := dk_16 6 (dk_at dksX6_anew_1 3 rfl rfl)
theorem dX6_anew_29 : decode cX6_anew 29 = .ok (.iconst 0, 1) := dk_3 (dk_at dksX6_anew_1 5 rfl rfl)
theorem dX6_anew_30 : decode cX6_anew 30 = .ok (.iastore, 1) := dk_79 (dk_at dksX6_anew_1 6 rfl rfl)
theorem dX6_anew_31 : decode cX6_anew 31 = .ok (.iload_n 1, 1) := dk_27 (dk_at dksX6_anew_1 7 rfl rfl)
theorem dX6_anew_32 : decode cX6_anew 32 = .ok (.ireturn, 1) := dk_172 (dk_at dksX6_anew_1 8 rfl rfl)

theorem okX6_anew : wOkV yX6_anew cX6_anew 2 (some .int) 0 := ⟨q1803, q1804, q145, q1805, by decide, by decide, by decide +kernel⟩
def fX6_anew (N : Nat)   (μ : wMem) : Option (Int32 × wMem) :=
  wLet (wSI μ 0 0 (0 : Int32)) fun μ1 => wBind (fX6_isFamily N   μ1) fun v4 μ3 => if v4 = 0 then some ((-2), μ3) else wG (ok_in (6 : Int32) 35) (wLet (μ3.1 7 (Int32.toNatClampNeg (6 : Int32)) : Int32) fun x7 => wG (ok_in (6 : Int32) 35) (wLet (wSI μ3 7 (Int32.toNatClampNeg (6 : Int32)) (0 : Int32)) fun μ9 => some (x7, μ9)))
set_option maxHeartbeats 4000000 in
set_option maxRecDepth 100000 in
theorem tX6_anew (l : Launch) {D : va_G} {E : List wCell} {q : Nat → Nat} {ca : wCA} (N : Nat)    (μ : wMem) (r0 : (Int32 × wMem)) (hf : fX6_anew N   μ = some r0) : wMi l yX6_anew cX6_anew 2 (some .int) ({ frames := 1, cells := 0, slots := 0, locals := 20 } : Room) D vwCl (spM ++ E) q ca [.ref (q 0)] μ r0 := by
  refine wMi_intro (by decide) (Nat.le_of_ble_eq_true rfl) ?_
  intro p e s m args below meth c A C
  unfold fX6_anew at hf
  refine wr_sub [(0, .ref (q 0))] [0] rfl ?_
  refine wr_aload_n 0 C dX6_anew_0 0 rfl rfl ?_
  refine wr_iconst 1 C dX6_anew_1 (v := 0) rfl ?_
  obtain ⟨μ1, eμ1, hf⟩ := o_let hf
  refine puspM_0_0_X6 2 C dX6_anew_2 eμ1 ?_
  refine wr_aload_n 5 C dX6_anew_5 0 rfl rfl ?_
  obtain ⟨v4, μ3, h2, hf⟩ := o_bind hf
  refine wr_Vi (kc1 := 0) (ks1 := 0) 6 [] C dX6_anew_6 (tX6_isFamily l N    μ1 (v4, μ3) h2) okX6_isFamily q1750 (b := 0) spM_0 rfl ⟨rfl, rfl, Nat.le_of_ble_eq_true rfl, Nat.le_of_ble_eq_true rfl, Nat.zero_le _, Nat.zero_le _⟩ (Nat.le_of_ble_eq_true rfl) rfl ?_
  refine wr_if_ne 9 15 C dX6_anew_9 (by decide) (fun c5 => ?_) (fun c5 => ?_)
  · replace hf := o_neg c5 hf
    refine wr_aload_n 15 C dX6_anew_15 0 rfl rfl ?_
    refine gespM_0_17_X6 16 C dX6_anew_16 ?_
    refine wr_bipush 19 C dX6_anew_19 (v := 6) rfl ?_
    obtain ⟨g6, hf⟩ := o_g hf
    refine wr_iald 21 C dX6_anew_21 spM_7 g6 ?_
    obtain ⟨x7, ex7, hf⟩ := o_let hf
    refine wr_istore_n 22 [(1, .int x7), (0, .ref (q 0))] C dX6_anew_22 ex7 rfl (Nat.le_of_ble_eq_true rfl) rfl ?_
    refine wr_aload_n 23 C dX6_anew_23 1 rfl rfl ?_
    refine gespM_0_17_X6 24 C dX6_anew_24 ?_
    refine wr_bipush 27 C dX6_anew_27 (v := 6) rfl ?_
    refine wr_iconst 29 C dX6_anew_29 (v := 0) rfl ?_
    obtain ⟨g8, hf⟩ := o_g hf
    obtain ⟨μ9, eμ9, hf⟩ := o_let hf
    refine wr_iast 30 C dX6_anew_30 spM_7 g8 eμ9 ?_
    refine wr_iload_n 31 C dX6_anew_31 0 rfl rfl ?_
    exact wr_iret 32 C dX6_anew_32 ⟨Nat.zero_le _, Nat.zero_le _⟩ (Option.some.inj hf)
  · replace hf := o_pos c5 hf
    refine wr_bipush 12 C dX6_anew_12 (v := (-2)) rfl ?_
    exact wr_iret 14 C dX6_anew_14 ⟨Nat.zero_le _, Nat.zero_le _⟩ (Option.some.inj hf)
abbrev cX6_act : ByteArray := prog_11_method_70_code
def yX6_act : MethodName := ⟨RX6, "act", "(I)I"⟩
def dkwX6_act_1 : List UInt8 := [16, 6, 46, 4, 100, 133, 184, 0, 93, 153, 0, 12, 42, 180, 0, 46, 27, 46, 167, 0, 4, 2, 172]
abbrev dktX6_act_1 : List UInt8 := dkwX6_act_1 ++ []
def dkwX6_act_0 : List UInt8 := [42, 3, 181, 0, 88, 42, 182, 1, 67, 154, 0, 8, 16, 254, 167, 0, 32, 27, 133, 9, 42, 180, 0, 34]
abbrev dktX6_act_0 : List UInt8 := dkwX6_act_0 ++ dktX6_act_1
theorem dksX6_act_0 : cX6_act.data.toList.drop 0 = dktX6_act_0 := by decide +kernel
theorem dksX6_act_1 : cX6_act.data.toList.drop 24 = dktX6_act_1 := dk_seg dksX6_act_0 24 rfl rfl
theorem dX6_act_0 : decode cX6_act 0 = .ok (.aload_n 0, 1) := dk_42 (dk_at dksX6_act_0 0 rfl rfl)
theorem dX6_act_1 : decode cX6_act 1 = .ok (.iconst 0, 1) := dk_3 (dk_at dksX6_act_0 1 rfl rfl)
theorem dX6_act_2 : decode cX6_act 2 = .ok (.putfield 88, 3) := dk_181 0 88 (dk_at dksX6_act_0 2 rfl rfl)
theorem dX6_act_5 : decode cX6_act 5 = .ok (.aload_n 0, 1) := dk_42 (dk_at dksX6_act_0 5 rfl rfl)
theorem dX6_act_6 : decode cX6_act 6 = .ok (.invokevirtual 323, 3) := dk_182 1 67 (dk_at dksX6_act_0 6 rfl rfl)
theorem dX6_act_9 : decode cX6_act 9 = .ok (.ifCond .ne 8, 3) := dk_154 0 8 (dk_at dksX6_act_0 9 rfl rfl)
theorem dX6_act_12 : decode cX6_act 12 = .ok (.bipush (-2), 2) := dk_16 254 (dk_at dksX6_act_0 12 rfl rfl)
theorem dX6_act_14 : decode cX6_act 14 = .ok (.goto 32, 3) := dk_167 0 32 (dk_at dksX6_act_0 14 rfl rfl)
theorem dX6_act_17 : decode cX6_act 17 = .ok (.iload_n 1, 1) := dk_27 (dk_at dksX6_act_0 17 rfl rfl)
theorem dX6_act_18 : decode cX6_act 18 = .ok (.i2l, 1) := dk_133 (dk_at dksX6_act_0 18 rfl rfl)
theorem dX6_act_19 : decode cX6_act 19 = .ok (.lconst 0, 1) := dk_9 (dk_at dksX6_act_0 19 rfl rfl)
theorem dX6_act_20 : decode cX6_act 20 = .ok (.aload_n 0, 1) := dk_42 (dk_at dksX6_act_0 20 rfl rfl)
theorem dX6_act_21 : decode cX6_act 21 = .ok (.getfield 34, 3) := dk_180 0 34 (dk_at dksX6_act_0 21 rfl rfl)
theorem dX6_act_24 : decode cX6_act 24 = .ok (.bipush 6, 2) := dk_16 6 (dk_at dksX6_act_1 0 rfl rfl)
theorem dX6_act_26 : decode cX6_act 26 = .ok (.iaload, 1) := dk_46 (dk_at dksX6_act_1 2 rfl rfl)
theorem dX6_act_27 : decode cX6_act 27 = .ok (.iconst 1, 1) := dk_4 (dk_at dksX6_act_1 3 rfl rfl)
theorem dX6_act_28 : decode cX6_act 28 = .ok (.isub, 1) := dk_100 (dk_at dksX6_act_1 4 rfl rfl)
theorem dX6_act_29 : decode cX6_act 29 = .ok (.i2l, 1) := dk_133 (dk_at dksX6_act_1 5 rfl rfl)
theorem dX6_act_30 : decode cX6_act 30 = .ok (.invokestatic 93, 3) := dk_184 0 93 (dk_at dksX6_act_1 6 rfl rfl)
theorem dX6_act_33 : decode cX6_act 33 = .ok (.ifCond .eq 12, 3) := dk_153 0 12 (dk_at dksX6_act_1 9 rfl rfl)
theorem dX6_act_36 : decode cX6_act 36 = .ok (.aload_n 0, 1) := dk_42 (dk_at dksX6_act_1 12 rfl rfl)
theorem dX6_act_37 : decode cX6_act 37 = .ok (.getfield 46, 3) := dk_180 0 46 (dk_at dksX6_act_1 13 rfl rfl)
theorem dX6_act_40 : decode cX6_act 40 = .ok (.iload_n 1, 1) := dk_27 (dk_at dksX6_act_1 16 rfl rfl)
theorem dX6_act_41 : decode cX6_act 41 = .ok (.iaload, 1) := dk_46 (dk_at dksX6_act_1 17 rfl rfl)
theorem dX6_act_42 : decode cX6_act 42 = .ok (.goto 4, 3) := dk_167 0 4 (dk_at dksX6_act_1 18 rfl rfl)
theorem dX6_act_45 : decode cX6_act 45 = .ok (.iconst (-1), 1) := dk_2 (dk_at dksX6_act_1 21 rfl rfl)
theorem dX6_act_46 : decode cX6_act 46 = .ok (.ireturn, 1) := dk_172 (dk_at dksX6_act_1 22 rfl rfl)

theorem okX6_act : wOkV yX6_act cX6_act 2 (some .int) 1 := ⟨q1807, q1808, q145, q1809, by decide, by decide, by decide +kernel⟩
def fX6_act (N : Nat)  (a1 : Int32) (μ : wMem) : Option (Int32 × wMem) :=
  wLet (wSI μ 0 0 (0 : Int32)) fun μ1 => wBind (fX6_isFamily N   μ1) fun v4 μ3 => if v4 = 0 then some ((-2), μ3) else wG (ok_in (6 : Int32) 35) (wBind (fX6_in N  (Int32.toInt64 a1) 0 (Int32.toInt64 ((μ3.1 7 (Int32.toNatClampNeg (6 : Int32))) - (1 : Int32))) μ3) fun v9 μ8 => if v9 = 0 then some ((-1), μ8) else wG (ok_in a1 200) (some (μ8.1 11 (Int32.toNatClampNeg a1), μ8)))
set_option maxHeartbeats 4000000 in
set_option maxRecDepth 100000 in
theorem tX6_act (l : Launch) {D : va_G} {E : List wCell} {q : Nat → Nat} {ca : wCA} (N : Nat)   (a1 : Int32) (μ : wMem) (r0 : (Int32 × wMem)) (hf : fX6_act N  a1 μ = some r0) : wMi l yX6_act cX6_act 2 (some .int) ({ frames := 1, cells := 0, slots := 0, locals := 25 } : Room) D vwCl (spM ++ E) q ca [.ref (q 0), .int a1] μ r0 := by
  refine wMi_intro (by decide) (Nat.le_of_ble_eq_true rfl) ?_
  intro p e s m args below meth c A C
  unfold fX6_act at hf
  refine wr_sub [(0, .ref (q 0)), (1, .int a1)] [0, 1] rfl ?_
  refine wr_aload_n 0 C dX6_act_0 0 rfl rfl ?_
  refine wr_iconst 1 C dX6_act_1 (v := 0) rfl ?_
  obtain ⟨μ1, eμ1, hf⟩ := o_let hf
  refine puspM_0_0_X6 2 C dX6_act_2 eμ1 ?_
  refine wr_aload_n 5 C dX6_act_5 0 rfl rfl ?_
  obtain ⟨v4, μ3, h2, hf⟩ := o_bind hf
  refine wr_Vi (kc1 := 0) (ks1 := 0) 6 [] C dX6_act_6 (tX6_isFamily l N    μ1 (v4, μ3) h2) okX6_isFamily q1750 (b := 0) spM_0 rfl ⟨rfl, rfl, Nat.le_of_ble_eq_true rfl, Nat.le_of_ble_eq_true rfl, Nat.zero_le _, Nat.zero_le _⟩ (Nat.le_of_ble_eq_true rfl) rfl ?_
  refine wr_if_ne 9 17 C dX6_act_9 (by decide) (fun c5 => ?_) (fun c5 => ?_)
  · replace hf := o_neg c5 hf
    refine wr_iload_n 17 C dX6_act_17 1 rfl rfl ?_
    refine wr_i2l 18 C dX6_act_18 ?_
    refine wr_lconst 19 C dX6_act_19 (v := 0) rfl ?_
    refine wr_aload_n 20 C dX6_act_20 0 rfl rfl ?_
    refine gespM_0_17_X6 21 C dX6_act_21 ?_
    refine wr_bipush 24 C dX6_act_24 (v := 6) rfl ?_
    obtain ⟨g6, hf⟩ := o_g hf
    refine wr_iald 26 C dX6_act_26 spM_7 g6 ?_
    refine wr_iconst 27 C dX6_act_27 (v := 1) rfl ?_
    refine wr_isub 28 C dX6_act_28 ?_
    refine wr_i2l 29 C dX6_act_29 ?_
    obtain ⟨v9, μ8, h7, hf⟩ := o_bind hf
    refine wr_Si (kc1 := 0) (ks1 := 0) 30 [] C dX6_act_30 (tX6_in l N   (Int32.toInt64 a1) 0 (Int32.toInt64 ((μ3.1 7 (Int32.toNatClampNeg (6 : Int32))) - (1 : Int32))) μ3 (v9, μ8) h7) okX6_in q1552 ⟨rfl, rfl, Nat.le_of_ble_eq_true rfl, Nat.le_of_ble_eq_true rfl, Nat.zero_le _, Nat.zero_le _⟩ (Nat.le_of_ble_eq_true rfl) rfl ?_
    refine wr_if_eq 33 45 C dX6_act_33 (by decide) (fun c10 => ?_) (fun c10 => ?_)
    · replace hf := o_pos c10 hf
      refine wr_iconst 45 C dX6_act_45 (v := (-1)) rfl ?_
      exact wr_iret 46 C dX6_act_46 ⟨Nat.zero_le _, Nat.zero_le _⟩ (Option.some.inj hf)
    · replace hf := o_neg c10 hf
      refine wr_aload_n 36 C dX6_act_36 0 rfl rfl ?_
      refine gespM_0_21_X6 37 C dX6_act_37 ?_
      refine wr_iload_n 40 C dX6_act_40 1 rfl rfl ?_
      obtain ⟨g11, hf⟩ := o_g hf
      refine wr_iald 41 C dX6_act_41 spM_11 g11 ?_
      refine wr_goto 42 C dX6_act_42 (tgt := 46) (by decide) ?_
      exact wr_iret 46 C dX6_act_46 ⟨Nat.zero_le _, Nat.zero_le _⟩ (Option.some.inj hf)
  · replace hf := o_pos c5 hf
    refine wr_bipush 12 C dX6_act_12 (v := (-2)) rfl ?_
    refine wr_goto 14 C dX6_act_14 (tgt := 46) (by decide) ?_
    exact wr_iret 46 C dX6_act_46 ⟨Nat.zero_le _, Nat.zero_le _⟩ (Option.some.inj hf)
abbrev cX6_isActNumber : ByteArray := prog_11_method_48_code
def yX6_isActNumber : MethodName := ⟨RX6, "isActNumber", "(J)Z"⟩
def dkwX6_isActNumber_3 : List UInt8 := [3, 172]
abbrev dktX6_isActNumber_3 : List UInt8 := dkwX6_isActNumber_3 ++ []
def dkwX6_isActNumber_2 : List UInt8 := [31, 20, 1, 14, 113, 20, 1, 16, 109, 42, 180, 0, 34, 5, 46, 133, 148, 157, 0, 7, 4, 167, 0, 4]
abbrev dktX6_isActNumber_2 : List UInt8 := dkwX6_isActNumber_2 ++ dktX6_isActNumber_3
def dkwX6_isActNumber_1 : List UInt8 := [6, 46, 133, 105, 148, 156, 0, 43, 31, 20, 1, 16, 113, 42, 180, 0, 34, 5, 46, 133, 148, 156, 0, 27]
abbrev dktX6_isActNumber_1 : List UInt8 := dkwX6_isActNumber_1 ++ dktX6_isActNumber_2
def dkwX6_isActNumber_0 : List UInt8 := [31, 20, 1, 12, 148, 154, 0, 5, 4, 172, 31, 9, 148, 155, 0, 59, 31, 20, 1, 14, 42, 180, 0, 34]
abbrev dktX6_isActNumber_0 : List UInt8 := dkwX6_isActNumber_0 ++ dktX6_isActNumber_1
theorem dksX6_isActNumber_0 : cX6_isActNumber.data.toList.drop 0 = dktX6_isActNumber_0 := by decide +kernel
theorem dksX6_isActNumber_1 : cX6_isActNumber.data.toList.drop 24 = dktX6_isActNumber_1 := dk_seg dksX6_isActNumber_0 24 rfl rfl
theorem dksX6_isActNumber_2 : cX6_isActNumber.data.toList.drop 48 = dktX6_isActNumber_2 := dk_seg dksX6_isActNumber_1 24 rfl rfl
theorem dksX6_isActNumber_3 : cX6_isActNumber.data.toList.drop 72 = dktX6_isActNumber_3 := dk_seg dksX6_isActNumber_2 24 rfl rfl
theorem dX6_isActNumber_0 : decode cX6_isActNumber 0 = .ok (.lload_n 1, 1) := dk_31 (dk_at dksX6_isActNumber_0 0 rfl rfl)
theorem dX6_isActNumber_1 : decode cX6_isActNumber 1 = .ok (.ldc2_w 268, 3) := dk_20 1 12 (dk_at dksX6_isActNumber_0 1 rfl rfl)
theorem dX6_isActNumber_4 : decode cX6_isActNumber 4 = .ok (.lcmp, 1) := dk_148 (dk_at dksX6_isActNumber_0 4 rfl rfl)
theorem dX6_isActNumber_5 : decode cX6_isActNumber 5 = .ok (.ifCond .ne 5, 3) := dk_154 0 5 (dk_at dksX6_isActNumber_0 5 rfl rfl)
theorem dX6_isActNumber_8 : decode cX6_isActNumber 8 = .ok (.iconst 1, 1) := dk_4 (dk_at dksX6_isActNumber_0 8 rfl rfl)
theorem dX6_isActNumber_9 : decode cX6_isActNumber 9 = .ok (.ireturn, 1) := dk_172 (dk_at dksX6_isActNumber_0 9 rfl rfl)
theorem dX6_isActNumber_10 : decode cX6_isActNumber 10 = .ok (.lload_n 1, 1) := dk_31 (dk_at dksX6_isActNumber_0 10 rfl rfl)
theorem dX6_isActNumber_11 : decode cX6_isActNumber 11 = .ok (.lconst 0, 1) := dk_9 (dk_at dksX6_isActNumber_0 11 rfl rfl)
theorem dX6_isActNumber_12 : decode cX6_isActNumber 12 = .ok (.lcmp, 1) := dk_148 (dk_at dksX6_isActNumber_0 12 rfl rfl)
theorem dX6_isActNumber_13 : decode cX6_isActNumber 13 = .ok (.ifCond .lt 59, 3) := dk_155 0 59 (dk_at dksX6_isActNumber_0 13 rfl rfl)
theorem dX6_isActNumber_16 : decode cX6_isActNumber 16 = .ok (.lload_n 1, 1) := dk_31 (dk_at dksX6_isActNumber_0 16 rfl rfl)
theorem dX6_isActNumber_17 : decode cX6_isActNumber 17 = .ok (.ldc2_w 270, 3) := dk_20 1 14 (dk_at dksX6_isActNumber_0 17 rfl rfl)
theorem dX6_isActNumber_20 : decode cX6_isActNumber 20 = .ok (.aload_n 0, 1) := dk_42 (dk_at dksX6_isActNumber_0 20 rfl rfl)
theorem dX6_isActNumber_21 : decode cX6_isActNumber 21 = .ok (.getfield 34, 3) := dk_180 0 34 (dk_at dksX6_isActNumber_0 21 rfl rfl)
theorem dX6_isActNumber_24 : decode cX6_isActNumber 24 = .ok (.iconst 3, 1) := dk_6 (dk_at dksX6_isActNumber_1 0 rfl rfl)
theorem dX6_isActNumber_25 : decode cX6_isActNumber 25 = .ok (.iaload, 1) := dk_46 (dk_at dksX6_isActNumber_1 1 rfl rfl)
theorem dX6_isActNumber_26 : decode cX6_isActNumber 26 = .ok (.i2l, 1) := dk_133 (dk_at dksX6_isActNumber_1 2 rfl rfl)
theorem dX6_isActNumber_27 : decode cX6_isActNumber 27 = .ok (.lmul, 1) := dk_105 (dk_at dksX6_isActNumber_1 3 rfl rfl)
theorem dX6_isActNumber_28 : decode cX6_isActNumber 28 = .ok (.lcmp, 1) := dk_148 (dk_at dksX6_isActNumber_1 4 rfl rfl)
theorem dX6_isActNumber_29 : decode cX6_isActNumber 29 = .ok (.ifCond .ge 43, 3) := dk_156 0 43 (dk_at dksX6_isActNumber_1 5 rfl rfl)
theorem dX6_isActNumber_32 : decode cX6_isActNumber 32 = .ok (.lload_n 1, 1) := dk_31 (dk_at dksX6_isActNumber_1 8 rfl rfl)
theorem dX6_isActNumber_33 : decode cX6_isActNumber 33 = .ok (.ldc2_w 272, 3) := dk_20 1 16 (dk_at dksX6_isActNumber_1 9 rfl rfl)
theorem dX6_isActNumber_36 : decode cX6_isActNumber 36 = .ok (.lrem, 1) := dk_113 (dk_at dksX6_isActNumber_1 12 rfl rfl)
theorem dX6_isActNumber_37 : decode cX6_isActNumber 37 = .ok (.aload_n 0, 1) := dk_42 (dk_at dksX6_isActNumber_1 13 rfl rfl)
theorem dX6_isActNumber_38 : decode cX6_isActNumber 38 = .ok (.getfield 34, 3) := dk_180 0 34 (dk_at dksX6_isActNumber_1 14 rfl rfl)
theorem dX6_isActNumber_41 : decode cX6_isActNumber 41 = .ok (.iconst 2, 1) := dk_5 (dk_at dksX6_isActNumber_1 17 rfl rfl)
theorem dX6_isActNumber_42 : decode cX6_isActNumber 42 = .ok (.iaload, 1) := dk_46 (dk_at dksX6_isActNumber_1 18 rfl rfl)
theorem dX6_isActNumber_43 : decode cX6_isActNumber 43 = .ok (.i2l, 1) := dk_133 (dk_at dksX6_isActNumber_1 19 rfl rfl)
theorem dX6_isActNumber_44 : decode cX6_isActNumber 44 = .ok (.lcmp, 1) := dk_148 (dk_at dksX6_isActNumber_1 20 rfl rfl)
theorem dX6_isActNumber_45 : decode cX6_isActNumber 45 = .ok (.ifCond .ge 27, 3) := dk_156 0 27 (dk_at dksX6_isActNumber_1 21 rfl rfl)
theorem dX6_isActNumber_48 : decode cX6_isActNumber 48 = .ok (.lload_n 1, 1) := dk_31 (dk_at dksX6_isActNumber_2 0 rfl rfl)
theorem dX6_isActNumber_49 : decode cX6_isActNumber 49 = .ok (.ldc2_w 270, 3) := dk_20 1 14 (dk_at dksX6_isActNumber_2 1 rfl rfl)
theorem dX6_isActNumber_52 : decode cX6_isActNumber 52 = .ok (.lrem, 1) := dk_113 (dk_at dksX6_isActNumber_2 4 rfl rfl)
theorem dX6_isActNumber_53 : decode cX6_isActNumber 53 = .ok (.ldc2_w 272, 3) := dk_20 1 16 (dk_at dksX6_isActNumber_2 5 rfl rfl)
theorem dX6_isActNumber_56 : decode cX6_isActNumber 56 = .ok (.ldiv, 1) := dk_109 (dk_at dksX6_isActNumber_2 8 rfl rfl)
theorem dX6_isActNumber_57 : decode cX6_isActNumber 57 = .ok (.aload_n 0, 1) := dk_42 (dk_at dksX6_isActNumber_2 9 rfl rfl)
theorem dX6_isActNumber_58 : decode cX6_isActNumber 58 = .ok (.getfield 34, 3) := dk_180 0 34 (dk_at dksX6_isActNumber_2 10 rfl rfl)
theorem dX6_isActNumber_61 : decode cX6_isActNumber 61 = .ok (.iconst 2, 1) := dk_5 (dk_at dksX6_isActNumber_2 13 rfl rfl)
theorem dX6_isActNumber_62 : decode cX6_isActNumber 62 = .ok (.iaload, 1) := dk_46 (dk_at dksX6_isActNumber_2 14 rfl rfl)
theorem dX6_isActNumber_63 : decode cX6_isActNumber 63 = .ok (.i2l, 1) := dk_133 (dk_at dksX6_isActNumber_2 15 rfl rfl)
theorem dX6_isActNumber_64 : decode cX6_isActNumber 64 = .ok (.lcmp, 1) := dk_148 (dk_at dksX6_isActNumber_2 16 rfl rfl)
theorem dX6_isActNumber_65 : decode cX6_isActNumber 65 = .ok (.ifCond .gt 7, 3) := dk_157 0 7 (dk_at dksX6_isActNumber_2 17 rfl rfl)
theorem dX6_isActNumber_68 : decode cX6_isActNumber 68 = .ok (.iconst 1, 1) := dk_4 (dk_at dksX6_isActNumber_2 20 rfl rfl)
theorem dX6_isActNumber_69 : decode cX6_isActNumber 69 = .ok (.goto 4, 3) := dk_167 0 4 (dk_at dksX6_isActNumber_2 21 rfl rfl)
theorem dX6_isActNumber_72 : decode cX6_isActNumber 72 = .ok (.iconst 0, 1) := dk_3 (dk_at dksX6_isActNumber_3 0 rfl rfl)
theorem dX6_isActNumber_73 : decode cX6_isActNumber 73 = .ok (.ireturn, 1) := dk_172 (dk_at dksX6_isActNumber_3 1 rfl rfl)

theorem okX6_isActNumber : wOkV yX6_isActNumber cX6_isActNumber 3 (some .boolean) 1 := ⟨q1820, qs107, q145, q1821, by decide, by decide, by decide +kernel⟩
def fX6_isActNumber (N : Nat)  (a1 : Int64) (μ : wMem) : Option (Int32 × wMem) :=
  if a1 = (200 : Int64) then some (1, μ) else if a1 < (0 : Int64) then some (0, μ) else wG (ok_in (3 : Int32) 35) (if ((100 : Int64) * (Int32.toInt64 (μ.1 7 (Int32.toNatClampNeg (3 : Int32))))) ≤ a1 then some (0, μ) else wG (ok_in (2 : Int32) 35) (if (Int32.toInt64 (μ.1 7 (Int32.toNatClampNeg (2 : Int32)))) ≤ (a1 - a1 / (10 : Int64) * (10 : Int64)) then some (0, μ) else wG (ok_in (2 : Int32) 35) (if (Int32.toInt64 (μ.1 7 (Int32.toNatClampNeg (2 : Int32)))) < ((a1 - a1 / (100 : Int64) * (100 : Int64)) / (10 : Int64)) then some (0, μ) else some (1, μ))))
set_option maxHeartbeats 4000000 in
set_option maxRecDepth 100000 in
theorem tX6_isActNumber (l : Launch) {D : va_G} {E : List wCell} {q : Nat → Nat} {ca : wCA} (N : Nat)   (a1 : Int64) (μ : wMem) (r0 : (Int32 × wMem)) (hf : fX6_isActNumber N  a1 μ = some r0) : wMi l yX6_isActNumber cX6_isActNumber 3 (some .boolean) ({ frames := 0, cells := 0, slots := 0, locals := 0 } : Room) D vwCl (spM ++ E) q ca [.ref (q 0), .long a1] μ r0 := by
  refine wMi_intro (by decide) (Nat.le_of_ble_eq_true rfl) ?_
  intro p e s m args below meth c A C
  unfold fX6_isActNumber at hf
  refine wr_sub [(0, .ref (q 0)), (1, .long a1)] [0, 1] rfl ?_
  refine wr_lload_n 0 C dX6_isActNumber_0 1 rfl rfl ?_
  refine wr_ldc2 1 C dX6_isActNumber_1 q1822 ?_
  refine wr_lcmp_ne 4 10 C dX6_isActNumber_4 dX6_isActNumber_5 (by decide) (fun c1 => ?_) (fun c1 => ?_)
  · replace hf := o_neg c1 hf
    refine wr_lload_n 10 C dX6_isActNumber_10 1 rfl rfl ?_
    refine wr_lconst 11 C dX6_isActNumber_11 (v := 0) rfl ?_
    refine wr_lcmp_lt 12 72 C dX6_isActNumber_12 dX6_isActNumber_13 (by decide) (fun c2 => ?_) (fun c2 => ?_)
    · replace hf := o_pos c2 hf
      refine wr_iconst 72 C dX6_isActNumber_72 (v := 0) rfl ?_
      exact wr_zret 73 C dX6_isActNumber_73 rfl ⟨Nat.zero_le _, Nat.zero_le _⟩ (Option.some.inj hf)
    · replace hf := o_neg c2 hf
      refine wr_lload_n 16 C dX6_isActNumber_16 1 rfl rfl ?_
      refine wr_ldc2 17 C dX6_isActNumber_17 q1823 ?_
      refine wr_aload_n 20 C dX6_isActNumber_20 0 rfl rfl ?_
      refine gespM_0_17_X6 21 C dX6_isActNumber_21 ?_
      refine wr_iconst 24 C dX6_isActNumber_24 (v := 3) rfl ?_
      obtain ⟨g3, hf⟩ := o_g hf
      refine wr_iald 25 C dX6_isActNumber_25 spM_7 g3 ?_
      refine wr_i2l 26 C dX6_isActNumber_26 ?_
      refine wr_lmul 27 C dX6_isActNumber_27 ?_
      refine wr_lcmp_ge 28 72 C dX6_isActNumber_28 dX6_isActNumber_29 (by decide) (fun c4 => ?_) (fun c4 => ?_)
      · replace hf := o_pos c4 hf
        refine wr_iconst 72 C dX6_isActNumber_72 (v := 0) rfl ?_
        exact wr_zret 73 C dX6_isActNumber_73 rfl ⟨Nat.zero_le _, Nat.zero_le _⟩ (Option.some.inj hf)
      · replace hf := o_neg c4 hf
        refine wr_lload_n 32 C dX6_isActNumber_32 1 rfl rfl ?_
        refine wr_ldc2 33 C dX6_isActNumber_33 q1824 ?_
        refine wr_lrem 36 C dX6_isActNumber_36 (by decide) ?_
        refine wr_aload_n 37 C dX6_isActNumber_37 0 rfl rfl ?_
        refine gespM_0_17_X6 38 C dX6_isActNumber_38 ?_
        refine wr_iconst 41 C dX6_isActNumber_41 (v := 2) rfl ?_
        obtain ⟨g5, hf⟩ := o_g hf
        refine wr_iald 42 C dX6_isActNumber_42 spM_7 g5 ?_
        refine wr_i2l 43 C dX6_isActNumber_43 ?_
        refine wr_lcmp_ge 44 72 C dX6_isActNumber_44 dX6_isActNumber_45 (by decide) (fun c6 => ?_) (fun c6 => ?_)
        · replace hf := o_pos c6 hf
          refine wr_iconst 72 C dX6_isActNumber_72 (v := 0) rfl ?_
          exact wr_zret 73 C dX6_isActNumber_73 rfl ⟨Nat.zero_le _, Nat.zero_le _⟩ (Option.some.inj hf)
        · replace hf := o_neg c6 hf
          refine wr_lload_n 48 C dX6_isActNumber_48 1 rfl rfl ?_
          refine wr_ldc2 49 C dX6_isActNumber_49 q1823 ?_
          refine wr_lrem 52 C dX6_isActNumber_52 (by decide) ?_
          refine wr_ldc2 53 C dX6_isActNumber_53 q1824 ?_
          refine wr_ldiv 56 C dX6_isActNumber_56 (by decide) ?_
          refine wr_aload_n 57 C dX6_isActNumber_57 0 rfl rfl ?_
          refine gespM_0_17_X6 58 C dX6_isActNumber_58 ?_
          refine wr_iconst 61 C dX6_isActNumber_61 (v := 2) rfl ?_
          obtain ⟨g7, hf⟩ := o_g hf
          refine wr_iald 62 C dX6_isActNumber_62 spM_7 g7 ?_
          refine wr_i2l 63 C dX6_isActNumber_63 ?_
          refine wr_lcmp_gt 64 72 C dX6_isActNumber_64 dX6_isActNumber_65 (by decide) (fun c8 => ?_) (fun c8 => ?_)
          · replace hf := o_pos c8 hf
            refine wr_iconst 72 C dX6_isActNumber_72 (v := 0) rfl ?_
            exact wr_zret 73 C dX6_isActNumber_73 rfl ⟨Nat.zero_le _, Nat.zero_le _⟩ (Option.some.inj hf)
          · replace hf := o_neg c8 hf
            refine wr_iconst 68 C dX6_isActNumber_68 (v := 1) rfl ?_
            refine wr_goto 69 C dX6_isActNumber_69 (tgt := 73) (by decide) ?_
            exact wr_zret 73 C dX6_isActNumber_73 rfl ⟨Nat.zero_le _, Nat.zero_le _⟩ (Option.some.inj hf)
  · replace hf := o_pos c1 hf
    refine wr_iconst 8 C dX6_isActNumber_8 (v := 1) rfl ?_
    exact wr_zret 9 C dX6_isActNumber_9 rfl ⟨Nat.zero_le _, Nat.zero_le _⟩ (Option.some.inj hf)
abbrev cX6_mayAct : ByteArray := prog_11_method_49_code
def yX6_mayAct : MethodName := ⟨RX6, "mayAct", "(I)Z"⟩
def dkwX6_mayAct_1 : List UInt8 := [108, 182, 1, 18, 154, 0, 7, 4, 167, 0, 4, 3, 172]
abbrev dktX6_mayAct_1 : List UInt8 := dkwX6_mayAct_1 ++ []
def dkwX6_mayAct_0 : List UInt8 := [27, 17, 0, 200, 159, 0, 27, 42, 27, 16, 10, 112, 27, 16, 100, 112, 16, 10, 108, 4, 100, 27, 16, 100]
abbrev dktX6_mayAct_0 : List UInt8 := dkwX6_mayAct_0 ++ dktX6_mayAct_1
theorem dksX6_mayAct_0 : cX6_mayAct.data.toList.drop 0 = dktX6_mayAct_0 := by decide +kernel
theorem dksX6_mayAct_1 : cX6_mayAct.data.toList.drop 24 = dktX6_mayAct_1 := dk_seg dksX6_mayAct_0 24 rfl rfl
theorem dX6_mayAct_0 : decode cX6_mayAct 0 = .ok (.iload_n 1, 1) := dk_27 (dk_at dksX6_mayAct_0 0 rfl rfl)
theorem dX6_mayAct_1 : decode cX6_mayAct 1 = .ok (.sipush 200, 3) := dk_17 0 200 (dk_at dksX6_mayAct_0 1 rfl rfl)
theorem dX6_mayAct_4 : decode cX6_mayAct 4 = .ok (.if_icmp .eq 27, 3) := dk_159 0 27 (dk_at dksX6_mayAct_0 4 rfl rfl)
theorem dX6_mayAct_7 : decode cX6_mayAct 7 = .ok (.aload_n 0, 1) := dk_42 (dk_at dksX6_mayAct_0 7 rfl rfl)
theorem dX6_mayAct_8 : decode cX6_mayAct 8 = .ok (.iload_n 1, 1) := dk_27 (dk_at dksX6_mayAct_0 8 rfl rfl)
theorem dX6_mayAct_9 : decode cX6_mayAct 9 = .ok (.bipush 10, 2) := dk_16 10 (dk_at dksX6_mayAct_0 9 rfl rfl)
theorem dX6_mayAct_11 : decode cX6_mayAct 11 = .ok (.irem, 1) := dk_112 (dk_at dksX6_mayAct_0 11 rfl rfl)
theorem dX6_mayAct_12 : decode cX6_mayAct 12 = .ok (.iload_n 1, 1) := dk_27 (dk_at dksX6_mayAct_0 12 rfl rfl)
theorem dX6_mayAct_13 : decode cX6_mayAct 13 = .ok (.bipush 100, 2) := dk_16 100 (dk_at dksX6_mayAct_0 13 rfl rfl)
theorem dX6_mayAct_15 : decode cX6_mayAct 15 = .ok (.irem, 1) := dk_112 (dk_at dksX6_mayAct_0 15 rfl rfl)
theorem dX6_mayAct_16 : decode cX6_mayAct 16 = .ok (.bipush 10, 2) := dk_16 10 (dk_at dksX6_mayAct_0 16 rfl rfl)
theorem dX6_mayAct_18 : decode cX6_mayAct 18 = .ok (.idiv, 1) := dk_108 (dk_at dksX6_mayAct_0 18 rfl rfl)
theorem dX6_mayAct_19 : decode cX6_mayAct 19 = .ok (.iconst 1, 1) := dk_4 (dk_at dksX6_mayAct_0 19 rfl rfl)
theorem dX6_mayAct_20 : decode cX6_mayAct 20 = .ok (.isub, 1) := dk_100 (dk_at dksX6_mayAct_0 20 rfl rfl)
theorem dX6_mayAct_21 : decode cX6_mayAct 21 = .ok (.iload_n 1, 1) := dk_27 (dk_at dksX6_mayAct_0 21 rfl rfl)
theorem dX6_mayAct_22 : decode cX6_mayAct 22 = .ok (.bipush 100, 2) := dk_16 100 (dk_at dksX6_mayAct_0 22 rfl rfl)
theorem dX6_mayAct_24 : decode cX6_mayAct 24 = .ok (.idiv, 1) := dk_108 (dk_at dksX6_mayAct_1 0 rfl rfl)
theorem dX6_mayAct_25 : decode cX6_mayAct 25 = .ok (.invokevirtual 274, 3) := dk_182 1 18 (dk_at dksX6_mayAct_1 1 rfl rfl)
theorem dX6_mayAct_28 : decode cX6_mayAct 28 = .ok (.ifCond .ne 7, 3) := dk_154 0 7 (dk_at dksX6_mayAct_1 4 rfl rfl)
theorem dX6_mayAct_31 : decode cX6_mayAct 31 = .ok (.iconst 1, 1) := dk_4 (dk_at dksX6_mayAct_1 7 rfl rfl)
theorem dX6_mayAct_32 : decode cX6_mayAct 32 = .ok (.goto 4, 3) := dk_167 0 4 (dk_at dksX6_mayAct_1 8 rfl rfl)
theorem dX6_mayAct_35 : decode cX6_mayAct 35 = .ok (.iconst 0, 1) := dk_3 (dk_at dksX6_mayAct_1 11 rfl rfl)
theorem dX6_mayAct_36 : decode cX6_mayAct 36 = .ok (.ireturn, 1) := dk_172 (dk_at dksX6_mayAct_1 12 rfl rfl)

theorem okX6_mayAct : wOkV yX6_mayAct cX6_mayAct 2 (some .boolean) 1 := ⟨q1827, qs108, q145, q1828, by decide, by decide, by decide +kernel⟩
def fX6_mayAct (N : Nat)  (a1 : Int32) (μ : wMem) : Option (Int32 × wMem) :=
  wLet (fun  (μ1 : wMem) => some (1, μ1)) fun JmayAct31 => if a1 = (200 : Int32) then JmayAct31  μ else wBind (fX6_whyOf N  (a1 - a1 / (10 : Int32) * (10 : Int32)) (((a1 - a1 / (100 : Int32) * (100 : Int32)) / (10 : Int32)) - (1 : Int32)) (a1 / (100 : Int32)) μ) fun v5 μ4 => if v5 = 0 then JmayAct31  μ4 else some (0, μ4)
set_option maxHeartbeats 4000000 in
set_option maxRecDepth 100000 in
theorem tX6_mayAct (l : Launch) {D : va_G} {E : List wCell} {q : Nat → Nat} {ca : wCA} (N : Nat)   (a1 : Int32) (μ : wMem) (r0 : (Int32 × wMem)) (hf : fX6_mayAct N  a1 μ = some r0) : wMi l yX6_mayAct cX6_mayAct 2 (some .boolean) ({ frames := 3, cells := 0, slots := 0, locals := 73 } : Room) D vwCl (spM ++ E) q ca [.ref (q 0), .int a1] μ r0 := by
  refine wMi_intro (by decide) (Nat.le_of_ble_eq_true rfl) ?_
  intro p e s m args below meth c A C
  unfold fX6_mayAct at hf
  refine wr_sub [(0, .ref (q 0)), (1, .int a1)] [0, 1] rfl ?_
  refine wr_iload_n 0 C dX6_mayAct_0 1 rfl rfl ?_
  refine wr_sipush 1 C dX6_mayAct_1 (v := 200) rfl ?_
  obtain ⟨JmayAct31, eJmayAct31, hf⟩ := o_let hf
  have hJmayAct31 : ∀  (μ1 : wMem), JmayAct31  μ1 = some r0 → wJ p l e ({ frames := 3, cells := 0, slots := 0, locals := 73 } : Room) s m args below meth c 2 D vwCl (spM ++ E) q ca A (wQi ({ frames := 3, cells := 0, slots := 0, locals := 73 } : Room) D vwCl (spM ++ E) q ca below args s A r0) 0 0 μ1 31 [] [] := by
    intro  μ1 hf
    rw [eJmayAct31] at hf
    refine wr_iconst 31 C dX6_mayAct_31 (v := 1) rfl ?_
    refine wr_goto 32 C dX6_mayAct_32 (tgt := 36) (by decide) ?_
    exact wr_zret 36 C dX6_mayAct_36 rfl ⟨Nat.zero_le _, Nat.zero_le _⟩ (Option.some.inj hf)
  refine wr_icmp_eq 4 31 C dX6_mayAct_4 (by decide) (fun c2 => ?_) (fun c2 => ?_)
  · replace hf := o_pos c2 hf
    refine wr_sub [] [] rfl ?_
    exact hJmayAct31  μ hf
  · replace hf := o_neg c2 hf
    refine wr_aload_n 7 C dX6_mayAct_7 0 rfl rfl ?_
    refine wr_iload_n 8 C dX6_mayAct_8 1 rfl rfl ?_
    refine wr_bipush 9 C dX6_mayAct_9 (v := 10) rfl ?_
    refine wr_irem 11 C dX6_mayAct_11 (by decide) ?_
    refine wr_iload_n 12 C dX6_mayAct_12 1 rfl rfl ?_
    refine wr_bipush 13 C dX6_mayAct_13 (v := 100) rfl ?_
    refine wr_irem 15 C dX6_mayAct_15 (by decide) ?_
    refine wr_bipush 16 C dX6_mayAct_16 (v := 10) rfl ?_
    refine wr_idiv 18 C dX6_mayAct_18 (by decide) ?_
    refine wr_iconst 19 C dX6_mayAct_19 (v := 1) rfl ?_
    refine wr_isub 20 C dX6_mayAct_20 ?_
    refine wr_iload_n 21 C dX6_mayAct_21 1 rfl rfl ?_
    refine wr_bipush 22 C dX6_mayAct_22 (v := 100) rfl ?_
    refine wr_idiv 24 C dX6_mayAct_24 (by decide) ?_
    obtain ⟨v5, μ4, h3, hf⟩ := o_bind hf
    refine wr_Vi (kc1 := 0) (ks1 := 0) 25 [] C dX6_mayAct_25 (tX6_whyOf l N   (a1 - a1 / (10 : Int32) * (10 : Int32)) (((a1 - a1 / (100 : Int32) * (100 : Int32)) / (10 : Int32)) - (1 : Int32)) (a1 / (100 : Int32)) μ (v5, μ4) h3) okX6_whyOf q1774 (b := 0) spM_0 rfl ⟨rfl, rfl, Nat.le_of_ble_eq_true rfl, Nat.le_of_ble_eq_true rfl, Nat.zero_le _, Nat.zero_le _⟩ (Nat.le_of_ble_eq_true rfl) rfl ?_
    refine wr_if_ne 28 35 C dX6_mayAct_28 (by decide) (fun c6 => ?_) (fun c6 => ?_)
    · replace hf := o_neg c6 hf
      refine wr_iconst 35 C dX6_mayAct_35 (v := 0) rfl ?_
      exact wr_zret 36 C dX6_mayAct_36 rfl ⟨Nat.zero_le _, Nat.zero_le _⟩ (Option.some.inj hf)
    · replace hf := o_pos c6 hf
      refine wr_sub [] [] rfl ?_
      exact hJmayAct31  μ4 hf
abbrev cX6_nextAct : ByteArray := prog_11_method_51_code
def yX6_nextAct : MethodName := ⟨RX6, "nextAct", "(I)I"⟩
def dkwX6_nextAct_2 : List UInt8 := [17, 0, 200, 167, 0, 4, 2, 172]
abbrev dktX6_nextAct_2 : List UInt8 := dkwX6_nextAct_2 ++ []
def dkwX6_nextAct_1 : List UInt8 := [42, 28, 182, 1, 29, 153, 0, 5, 28, 172, 132, 2, 1, 167, 255, 221, 27, 17, 0, 200, 163, 0, 9]
abbrev dktX6_nextAct_1 : List UInt8 := dkwX6_nextAct_1 ++ dktX6_nextAct_2
def dkwX6_nextAct_0 : List UInt8 := [27, 61, 28, 16, 100, 42, 180, 0, 34, 6, 46, 104, 162, 0, 28, 42, 28, 133, 182, 1, 26, 153, 0, 13]
abbrev dktX6_nextAct_0 : List UInt8 := dkwX6_nextAct_0 ++ dktX6_nextAct_1
theorem dksX6_nextAct_0 : cX6_nextAct.data.toList.drop 0 = dktX6_nextAct_0 := by decide +kernel
theorem dksX6_nextAct_1 : cX6_nextAct.data.toList.drop 24 = dktX6_nextAct_1 := dk_seg dksX6_nextAct_0 24 rfl rfl
theorem dksX6_nextAct_2 : cX6_nextAct.data.toList.drop 47 = dktX6_nextAct_2 := dk_seg dksX6_nextAct_1 23 rfl rfl
theorem dX6_nextAct_0 : decode cX6_nextAct 0 = .ok (.iload_n 1, 1) := dk_27 (dk_at dksX6_nextAct_0 0 rfl rfl)
theorem dX6_nextAct_1 : decode cX6_nextAct 1 = .ok (.istore_n 2, 1) := dk_61 (dk_at dksX6_nextAct_0 1 rfl rfl)
theorem dX6_nextAct_2 : decode cX6_nextAct 2 = .ok (.iload_n 2, 1) := dk_28 (dk_at dksX6_nextAct_0 2 rfl rfl)
theorem dX6_nextAct_3 : decode cX6_nextAct 3 = .ok (.bipush 100, 2) := dk_16 100 (dk_at dksX6_nextAct_0 3 rfl rfl)
theorem dX6_nextAct_5 : decode cX6_nextAct 5 = .ok (.aload_n 0, 1) := dk_42 (dk_at dksX6_nextAct_0 5 rfl rfl)
theorem dX6_nextAct_6 : decode cX6_nextAct 6 = .ok (.getfield 34, 3) := dk_180 0 34 (dk_at dksX6_nextAct_0 6 rfl rfl)
theorem dX6_nextAct_9 : decode cX6_nextAct 9 = .ok (.iconst 3, 1) := dk_6 (dk_at dksX6_nextAct_0 9 rfl rfl)
theorem dX6_nextAct_10 : decode cX6_nextAct 10 = .ok (.iaload, 1) := dk_46 (dk_at dksX6_nextAct_0 10 rfl rfl)
theorem dX6_nextAct_11 : decode cX6_nextAct 11 = .ok (.imul, 1) := dk_104 (dk_at dksX6_nextAct_0 11 rfl rfl)
theorem dX6_nextAct_12 : decode cX6_nextAct 12 = .ok (.if_icmp .ge 28, 3) := dk_162 0 28 (dk_at dksX6_nextAct_0 12 rfl rfl)
theorem dX6_nextAct_15 : decode cX6_nextAct 15 = .ok (.aload_n 0, 1) := dk_42 (dk_at dksX6_nextAct_0 15 rfl rfl)
theorem dX6_nextAct_16 : decode cX6_nextAct 16 = .ok (.iload_n 2, 1) := dk_28 (dk_at dksX6_nextAct_0 16 rfl rfl)
theorem dX6_nextAct_17 : decode cX6_nextAct 17 = .ok (.i2l, 1) := dk_133 (dk_at dksX6_nextAct_0 17 rfl rfl)
theorem dX6_nextAct_18 : decode cX6_nextAct 18 = .ok (.invokevirtual 282, 3) := dk_182 1 26 (dk_at dksX6_nextAct_0 18 rfl rfl)
theorem dX6_nextAct_21 : decode cX6_nextAct 21 = .ok (.ifCond .eq 13, 3) := dk_153 0 13 (dk_at dksX6_nextAct_0 21 rfl rfl)
theorem dX6_nextAct_24 : decode cX6_nextAct 24 = .ok (.aload_n 0, 1) := dk_42 (dk_at dksX6_nextAct_1 0 rfl rfl)
theorem dX6_nextAct_25 : decode cX6_nextAct 25 = .ok (.iload_n 2, 1) := dk_28 (dk_at dksX6_nextAct_1 1 rfl rfl)
theorem dX6_nextAct_26 : decode cX6_nextAct 26 = .ok (.invokevirtual 285, 3) := dk_182 1 29 (dk_at dksX6_nextAct_1 2 rfl rfl)
theorem dX6_nextAct_29 : decode cX6_nextAct 29 = .ok (.ifCond .eq 5, 3) := dk_153 0 5 (dk_at dksX6_nextAct_1 5 rfl rfl)
theorem dX6_nextAct_32 : decode cX6_nextAct 32 = .ok (.iload_n 2, 1) := dk_28 (dk_at dksX6_nextAct_1 8 rfl rfl)
theorem dX6_nextAct_33 : decode cX6_nextAct 33 = .ok (.ireturn, 1) := dk_172 (dk_at dksX6_nextAct_1 9 rfl rfl)
theorem dX6_nextAct_34 : decode cX6_nextAct 34 = .ok (.iinc 2 1, 3) := dk_132 2 1 (dk_at dksX6_nextAct_1 10 rfl rfl)
theorem dX6_nextAct_37 : decode cX6_nextAct 37 = .ok (.goto (-35), 3) := dk_167 255 221 (dk_at dksX6_nextAct_1 13 rfl rfl)
theorem dX6_nextAct_40 : decode cX6_nextAct 40 = .ok (.iload_n 1, 1) := dk_27 (dk_at dksX6_nextAct_1 16 rfl rfl)
theorem dX6_nextAct_41 : decode cX6_nextAct 41 = .ok (.sipush 200, 3) := dk_17 0 200 (dk_at dksX6_nextAct_1 17 rfl rfl)
theorem dX6_nextAct_44 : decode cX6_nextAct 44 = .ok (.if_icmp .gt 9, 3) := dk_163 0 9 (dk_at dksX6_nextAct_1 20 rfl rfl)
theorem dX6_nextAct_47 : decode cX6_nextAct 47 = .ok (.sipush 200, 3) := dk_17 0 200 (dk_at dksX6_nextAct_2 0 rfl rfl)
theorem dX6_nextAct_50 : decode cX6_nextAct 50 = .ok (.goto 4, 3) := dk_167 0 4 (dk_at dksX6_nextAct_2 3 rfl rfl)
theorem dX6_nextAct_53 : decode cX6_nextAct 53 = .ok (.iconst (-1), 1) := dk_2 (dk_at dksX6_nextAct_2 6 rfl rfl)
theorem dX6_nextAct_54 : decode cX6_nextAct 54 = .ok (.ireturn, 1) := dk_172 (dk_at dksX6_nextAct_2 7 rfl rfl)

theorem okX6_nextAct : wOkV yX6_nextAct cX6_nextAct 3 (some .int) 1 := ⟨q1816, qs106, q145, q1817, by decide, by decide, by decide +kernel⟩
def gbX6_nextAct_2 (N : Nat)  (x1_ : Int32) (K : (wMem → Option (Int32 × wMem))) (rec : (Int32 → wMem → Option (Int32 × wMem))) (x2_ : Int32) (μ : wMem) : Option (Int32 × wMem) :=
  wG (ok_in (3 : Int32) 35) (if ((100 : Int32) * (μ.1 7 (Int32.toNatClampNeg (3 : Int32)))) ≤ x2_ then K  μ else wBind (fX6_isActNumber N  (Int32.toInt64 x2_) μ) fun v5 μ4 => wLet (fun  (μ6 : wMem) => wLet (x2_ + 1 : Int32) fun x7 => rec x7 μ6) fun JnextAct34 => if v5 = 0 then JnextAct34  μ4 else wBind (fX6_mayAct N  x2_ μ4) fun v11 μ10 => if v11 = 0 then JnextAct34  μ10 else some (x2_, μ10))
def gX6_nextAct_2 (N : Nat)  (x1_ : Int32) (K : (wMem → Option (Int32 × wMem))) : Nat → (Int32 → wMem → Option (Int32 × wMem))
  | 0 => fun _ _ => none
  | k + 1 => gbX6_nextAct_2 N  x1_ K (gX6_nextAct_2 N  x1_ K k)
set_option maxHeartbeats 4000000 in
set_option maxRecDepth 100000 in
theorem tX6_nextAct_2 {p : Program} {l : Launch} {e : Env} {s : State} {m : MethodId} {args : Array Value} {below : List Frame} {meth : Method} {c : Code} {D : va_G} {E : List wCell} {q : Nat → Nat} {ca : wCA} {A : Nat → Prop} (C : wC p ({ frames := 4, cells := 0, slots := 0, locals := 94 } : Room) s m args meth c cX6_nextAct yX6_nextAct.cls 3 (some .int) D vwCl (spM ++ E) q ca A) (N : Nat)   (x1_ : Int32) (K : (wMem → Option (Int32 × wMem))) (r0 : (Int32 × wMem)) (hK : ∀  (μ : wMem), K  μ = some r0 → wJ p l e ({ frames := 4, cells := 0, slots := 0, locals := 94 } : Room) s m args below meth c 3 D vwCl (spM ++ E) q ca A (wQi ({ frames := 4, cells := 0, slots := 0, locals := 94 } : Room) D vwCl (spM ++ E) q ca below args s A r0) 0 0 μ 40 [(1, .int x1_)] []) : ∀ (k : Nat) (x2_ : Int32) (μ : wMem), gX6_nextAct_2 N  x1_ K k x2_ μ = some r0 → wJ p l e ({ frames := 4, cells := 0, slots := 0, locals := 94 } : Room) s m args below meth c 3 D vwCl (spM ++ E) q ca A (wQi ({ frames := 4, cells := 0, slots := 0, locals := 94 } : Room) D vwCl (spM ++ E) q ca below args s A r0) 0 0 μ 2 [(0, .ref (q 0)), (1, .int x1_), (2, .int x2_)] [] := by
  intro k
  induction k with
  | zero =>
    intro x2_ μ hf
    cases hf
  | succ k ih =>
    intro x2_ μ hf
    replace hf : gbX6_nextAct_2 N  x1_ K (gX6_nextAct_2 N  x1_ K k) x2_ μ = some r0 := hf
    unfold gbX6_nextAct_2 at hf
    refine wr_iload_n 2 C dX6_nextAct_2 2 rfl rfl ?_
    refine wr_bipush 3 C dX6_nextAct_3 (v := 100) rfl ?_
    refine wr_aload_n 5 C dX6_nextAct_5 0 rfl rfl ?_
    refine gespM_0_17_X6 6 C dX6_nextAct_6 ?_
    refine wr_iconst 9 C dX6_nextAct_9 (v := 3) rfl ?_
    obtain ⟨g1, hf⟩ := o_g hf
    refine wr_iald 10 C dX6_nextAct_10 spM_7 g1 ?_
    refine wr_imul 11 C dX6_nextAct_11 ?_
    refine wr_icmp_ge 12 40 C dX6_nextAct_12 (by decide) (fun c2 => ?_) (fun c2 => ?_)
    · replace hf := o_pos c2 hf
      refine wr_sub [(1, .int x1_)] [1] rfl ?_
      exact hK  μ hf
    · replace hf := o_neg c2 hf
      refine wr_aload_n 15 C dX6_nextAct_15 0 rfl rfl ?_
      refine wr_iload_n 16 C dX6_nextAct_16 2 rfl rfl ?_
      refine wr_i2l 17 C dX6_nextAct_17 ?_
      obtain ⟨v5, μ4, h3, hf⟩ := o_bind hf
      refine wr_Vi (kc1 := 0) (ks1 := 0) 18 [] C dX6_nextAct_18 (tX6_isActNumber l N   (Int32.toInt64 x2_) μ (v5, μ4) h3) okX6_isActNumber q1818 (b := 0) spM_0 rfl ⟨rfl, rfl, Nat.le_of_ble_eq_true rfl, Nat.le_of_ble_eq_true rfl, Nat.zero_le _, Nat.zero_le _⟩ (Nat.le_of_ble_eq_true rfl) rfl ?_
      obtain ⟨JnextAct34, eJnextAct34, hf⟩ := o_let hf
      have hJnextAct34 : ∀  (μ6 : wMem), JnextAct34  μ6 = some r0 → wJ p l e ({ frames := 4, cells := 0, slots := 0, locals := 94 } : Room) s m args below meth c 3 D vwCl (spM ++ E) q ca A (wQi ({ frames := 4, cells := 0, slots := 0, locals := 94 } : Room) D vwCl (spM ++ E) q ca below args s A r0) 0 0 μ6 34 [(0, .ref (q 0)), (1, .int x1_), (2, .int x2_)] [] := by
        intro  μ6 hf
        rw [eJnextAct34] at hf
        obtain ⟨x7, ex7, hf⟩ := o_let hf
        refine wr_iinc 34 [(2, .int x7), (0, .ref (q 0)), (1, .int x1_)] C dX6_nextAct_34 2 rfl (ex7.trans rfl) (Nat.le_of_ble_eq_true rfl) rfl ?_
        refine wr_goto 37 C dX6_nextAct_37 (tgt := 2) (by decide) ?_
        refine wr_sub [(0, .ref (q 0)), (1, .int x1_), (2, .int x7)] [1, 2, 0] rfl ?_
        exact ih x7 μ6 hf
      refine wr_if_eq 21 34 C dX6_nextAct_21 (by decide) (fun c8 => ?_) (fun c8 => ?_)
      · replace hf := o_pos c8 hf
        exact hJnextAct34  μ4 hf
      · replace hf := o_neg c8 hf
        refine wr_aload_n 24 C dX6_nextAct_24 0 rfl rfl ?_
        refine wr_iload_n 25 C dX6_nextAct_25 2 rfl rfl ?_
        obtain ⟨v11, μ10, h9, hf⟩ := o_bind hf
        refine wr_Vi (kc1 := 0) (ks1 := 0) 26 [] C dX6_nextAct_26 (tX6_mayAct l N   x2_ μ4 (v11, μ10) h9) okX6_mayAct q1825 (b := 0) spM_0 rfl ⟨rfl, rfl, Nat.le_of_ble_eq_true rfl, Nat.le_of_ble_eq_true rfl, Nat.zero_le _, Nat.zero_le _⟩ (Nat.le_of_ble_eq_true rfl) rfl ?_
        refine wr_if_eq 29 34 C dX6_nextAct_29 (by decide) (fun c12 => ?_) (fun c12 => ?_)
        · replace hf := o_pos c12 hf
          exact hJnextAct34  μ10 hf
        · replace hf := o_neg c12 hf
          refine wr_iload_n 32 C dX6_nextAct_32 2 rfl rfl ?_
          exact wr_iret 33 C dX6_nextAct_33 ⟨Nat.zero_le _, Nat.zero_le _⟩ (Option.some.inj hf)
def fX6_nextAct (N : Nat)  (a1 : Int32) (μ : wMem) : Option (Int32 × wMem) :=
  gX6_nextAct_2 N  a1 (fun  (μ13 : wMem) => if (200 : Int32) < a1 then some ((-1), μ13) else some (200, μ13)) N a1 μ
set_option maxHeartbeats 4000000 in
set_option maxRecDepth 100000 in
theorem tX6_nextAct (l : Launch) {D : va_G} {E : List wCell} {q : Nat → Nat} {ca : wCA} (N : Nat)   (a1 : Int32) (μ : wMem) (r0 : (Int32 × wMem)) (hf : fX6_nextAct N  a1 μ = some r0) : wMi l yX6_nextAct cX6_nextAct 3 (some .int) ({ frames := 4, cells := 0, slots := 0, locals := 94 } : Room) D vwCl (spM ++ E) q ca [.ref (q 0), .int a1] μ r0 := by
  refine wMi_intro (by decide) (Nat.le_of_ble_eq_true rfl) ?_
  intro p e s m args below meth c A C
  unfold fX6_nextAct at hf
  refine wr_sub [(0, .ref (q 0)), (1, .int a1)] [0, 1] rfl ?_
  refine wr_iload_n 0 C dX6_nextAct_0 1 rfl rfl ?_
  refine wr_istore_n 1 [(2, .int a1), (0, .ref (q 0)), (1, .int a1)] C dX6_nextAct_1 rfl rfl (Nat.le_of_ble_eq_true rfl) rfl ?_
  refine wr_sub [(0, .ref (q 0)), (1, .int a1), (2, .int a1)] [1, 2, 0] rfl ?_
  refine tX6_nextAct_2 C N   a1 _ r0 (fun  μ13 hf => ?_) N a1 μ hf
  · replace hf := hf
    refine wr_iload_n 40 C dX6_nextAct_40 0 rfl rfl ?_
    refine wr_sipush 41 C dX6_nextAct_41 (v := 200) rfl ?_
    refine wr_icmp_gt 44 53 C dX6_nextAct_44 (by decide) (fun c14 => ?_) (fun c14 => ?_)
    · replace hf := o_pos c14 hf
      refine wr_iconst 53 C dX6_nextAct_53 (v := (-1)) rfl ?_
      exact wr_iret 54 C dX6_nextAct_54 ⟨Nat.zero_le _, Nat.zero_le _⟩ (Option.some.inj hf)
    · replace hf := o_neg c14 hf
      refine wr_sipush 47 C dX6_nextAct_47 (v := 200) rfl ?_
      refine wr_goto 50 C dX6_nextAct_50 (tgt := 54) (by decide) ?_
      exact wr_iret 54 C dX6_nextAct_54 ⟨Nat.zero_le _, Nat.zero_le _⟩ (Option.some.inj hf)
abbrev cX6_acts : ByteArray := prog_11_method_71_code
def yX6_acts : MethodName := ⟨RX6, "acts", "()I"⟩
def dkwX6_acts_2 : List UInt8 := [172]
abbrev dktX6_acts_2 : List UInt8 := dkwX6_acts_2 ++ []
def dkwX6_acts_1 : List UInt8 := [182, 1, 80, 61, 28, 2, 159, 0, 17, 132, 1, 1, 42, 28, 4, 96, 182, 1, 80, 61, 167, 255, 240, 27]
abbrev dktX6_acts_1 : List UInt8 := dkwX6_acts_1 ++ dktX6_acts_2
def dkwX6_acts_0 : List UInt8 := [42, 3, 181, 0, 88, 42, 182, 1, 67, 154, 0, 6, 16, 254, 172, 42, 182, 1, 61, 3, 60, 42, 3]
abbrev dktX6_acts_0 : List UInt8 := dkwX6_acts_0 ++ dktX6_acts_1
theorem dksX6_acts_0 : cX6_acts.data.toList.drop 0 = dktX6_acts_0 := by decide +kernel
theorem dksX6_acts_1 : cX6_acts.data.toList.drop 23 = dktX6_acts_1 := dk_seg dksX6_acts_0 23 rfl rfl
theorem dksX6_acts_2 : cX6_acts.data.toList.drop 47 = dktX6_acts_2 := dk_seg dksX6_acts_1 24 rfl rfl
theorem dX6_acts_0 : decode cX6_acts 0 = .ok (.aload_n 0, 1) := dk_42 (dk_at dksX6_acts_0 0 rfl rfl)
theorem dX6_acts_1 : decode cX6_acts 1 = .ok (.iconst 0, 1) := dk_3 (dk_at dksX6_acts_0 1 rfl rfl)
theorem dX6_acts_2 : decode cX6_acts 2 = .ok (.putfield 88, 3) := dk_181 0 88 (dk_at dksX6_acts_0 2 rfl rfl)
theorem dX6_acts_5 : decode cX6_acts 5 = .ok (.aload_n 0, 1) := dk_42 (dk_at dksX6_acts_0 5 rfl rfl)
theorem dX6_acts_6 : decode cX6_acts 6 = .ok (.invokevirtual 323, 3) := dk_182 1 67 (dk_at dksX6_acts_0 6 rfl rfl)
theorem dX6_acts_9 : decode cX6_acts 9 = .ok (.ifCond .ne 6, 3) := dk_154 0 6 (dk_at dksX6_acts_0 9 rfl rfl)
theorem dX6_acts_12 : decode cX6_acts 12 = .ok (.bipush (-2), 2) := dk_16 254 (dk_at dksX6_acts_0 12 rfl rfl)
theorem dX6_acts_14 : decode cX6_acts 14 = .ok (.ireturn, 1) := dk_172 (dk_at dksX6_acts_0 14 rfl rfl)
theorem dX6_acts_15 : decode cX6_acts 15 = .ok (.aload_n 0, 1) := dk_42 (dk_at dksX6_acts_0 15 rfl rfl)
theorem dX6_acts_16 : decode cX6_acts 16 = .ok (.invokevirtual 317, 3) := dk_182 1 61 (dk_at dksX6_acts_0 16 rfl rfl)
theorem dX6_acts_19 : decode cX6_acts 19 = .ok (.iconst 0, 1) := dk_3 (dk_at dksX6_acts_0 19 rfl rfl)
theorem dX6_acts_20 : decode cX6_acts 20 = .ok (.istore_n 1, 1) := dk_60 (dk_at dksX6_acts_0 20 rfl rfl)
theorem dX6_acts_21 : decode cX6_acts 21 = .ok (.aload_n 0, 1) := dk_42 (dk_at dksX6_acts_0 21 rfl rfl)
theorem dX6_acts_22 : decode cX6_acts 22 = .ok (.iconst 0, 1) := dk_3 (dk_at dksX6_acts_0 22 rfl rfl)
theorem dX6_acts_23 : decode cX6_acts 23 = .ok (.invokevirtual 336, 3) := dk_182 1 80 (dk_at dksX6_acts_1 0 rfl rfl)
theorem dX6_acts_26 : decode cX6_acts 26 = .ok (.istore_n 2, 1) := dk_61 (dk_at dksX6_acts_1 3 rfl rfl)
theorem dX6_acts_27 : decode cX6_acts 27 = .ok (.iload_n 2, 1) := dk_28 (dk_at dksX6_acts_1 4 rfl rfl)
theorem dX6_acts_28 : decode cX6_acts 28 = .ok (.iconst (-1), 1) := dk_2 (dk_at dksX6_acts_1 5 rfl rfl)
theorem dX6_acts_29 : decode cX6_acts 29 = .ok (.if_icmp .eq 17, 3) := dk_159 0 17 (dk_at dksX6_acts_1 6 rfl rfl)
theorem dX6_acts_32 : decode cX6_acts 32 = .ok (.iinc 1 1, 3) := dk_132 1 1 (dk_at dksX6_acts_1 9 rfl rfl)
theorem dX6_acts_35 : decode cX6_acts 35 = .ok (.aload_n 0, 1) := dk_42 (dk_at dksX6_acts_1 12 rfl rfl)
theorem dX6_acts_36 : decode cX6_acts 36 = .ok (.iload_n 2, 1) := dk_28 (dk_at dksX6_acts_1 13 rfl rfl)
theorem dX6_acts_37 : decode cX6_acts 37 = .ok (.iconst 1, 1) := dk_4 (dk_at dksX6_acts_1 14 rfl rfl)
theorem dX6_acts_38 : decode cX6_acts 38 = .ok (.iadd, 1) := dk_96 (dk_at dksX6_acts_1 15 rfl rfl)
theorem dX6_acts_39 : decode cX6_acts 39 = .ok (.invokevirtual 336, 3) := dk_182 1 80 (dk_at dksX6_acts_1 16 rfl rfl)
theorem dX6_acts_42 : decode cX6_acts 42 = .ok (.istore_n 2, 1) := dk_61 (dk_at dksX6_acts_1 19 rfl rfl)
theorem dX6_acts_43 : decode cX6_acts 43 = .ok (.goto (-16), 3) := dk_167 255 240 (dk_at dksX6_acts_1 20 rfl rfl)
theorem dX6_acts_46 : decode cX6_acts 46 = .ok (.iload_n 1, 1) := dk_27 (dk_at dksX6_acts_1 23 rfl rfl)
theorem dX6_acts_47 : decode cX6_acts 47 = .ok (.ireturn, 1) := dk_172 (dk_at dksX6_acts_2 0 rfl rfl)

theorem okX6_acts : wOkV yX6_acts cX6_acts 3 (some .int) 0 := ⟨q1811, q1812, q145, q1813, by decide, by decide, by decide +kernel⟩
def gbX6_acts_27 (N : Nat)   (K : (Int32 → wMem → Option (Int32 × wMem))) (rec : (Int32 → Int32 → wMem → Option (Int32 × wMem))) (x1_ : Int32) (x2_ : Int32) (μ : wMem) : Option (Int32 × wMem) :=
  if x2_ = (-1 : Int32) then K x1_ μ else wLet (x1_ + 1 : Int32) fun x12 => wBind (fX6_nextAct N  (x2_ + (1 : Int32)) μ) fun v15 μ14 => rec x12 v15 μ14
def gX6_acts_27 (N : Nat)   (K : (Int32 → wMem → Option (Int32 × wMem))) : Nat → (Int32 → Int32 → wMem → Option (Int32 × wMem))
  | 0 => fun _ _ _ => none
  | k + 1 => gbX6_acts_27 N   K (gX6_acts_27 N   K k)
set_option maxHeartbeats 4000000 in
set_option maxRecDepth 100000 in
theorem tX6_acts_27 {p : Program} {l : Launch} {e : Env} {s : State} {m : MethodId} {args : Array Value} {below : List Frame} {meth : Method} {c : Code} {D : va_G} {E : List wCell} {q : Nat → Nat} {ca : wCA} {A : Nat → Prop} (C : wC p ({ frames := 5, cells := 0, slots := 0, locals := 116 } : Room) s m args meth c cX6_acts yX6_acts.cls 3 (some .int) D vwCl (spM ++ E) q ca A) (N : Nat)    (K : (Int32 → wMem → Option (Int32 × wMem))) (r0 : (Int32 × wMem)) (hK : ∀ (y1_ : Int32) (μ : wMem), K y1_ μ = some r0 → wJ p l e ({ frames := 5, cells := 0, slots := 0, locals := 116 } : Room) s m args below meth c 3 D vwCl (spM ++ E) q ca A (wQi ({ frames := 5, cells := 0, slots := 0, locals := 116 } : Room) D vwCl (spM ++ E) q ca below args s A r0) 0 0 μ 46 [(1, .int y1_)] []) : ∀ (k : Nat) (x1_ : Int32) (x2_ : Int32) (μ : wMem), gX6_acts_27 N   K k x1_ x2_ μ = some r0 → wJ p l e ({ frames := 5, cells := 0, slots := 0, locals := 116 } : Room) s m args below meth c 3 D vwCl (spM ++ E) q ca A (wQi ({ frames := 5, cells := 0, slots := 0, locals := 116 } : Room) D vwCl (spM ++ E) q ca below args s A r0) 0 0 μ 27 [(0, .ref (q 0)), (1, .int x1_), (2, .int x2_)] [] := by
  intro k
  induction k with
  | zero =>
    intro x1_ x2_ μ hf
    cases hf
  | succ k ih =>
    intro x1_ x2_ μ hf
    replace hf : gbX6_acts_27 N   K (gX6_acts_27 N   K k) x1_ x2_ μ = some r0 := hf
    unfold gbX6_acts_27 at hf
    refine wr_iload_n 27 C dX6_acts_27 2 rfl rfl ?_
    refine wr_iconst 28 C dX6_acts_28 (v := (-1)) rfl ?_
    refine wr_icmp_eq 29 46 C dX6_acts_29 (by decide) (fun c11 => ?_) (fun c11 => ?_)
    · replace hf := o_pos c11 hf
      refine wr_sub [(1, .int x1_)] [1] rfl ?_
      exact hK x1_ μ hf
    · replace hf := o_neg c11 hf
      obtain ⟨x12, ex12, hf⟩ := o_let hf
      refine wr_iinc 32 [(1, .int x12), (0, .ref (q 0)), (2, .int x2_)] C dX6_acts_32 1 rfl (ex12.trans rfl) (Nat.le_of_ble_eq_true rfl) rfl ?_
      refine wr_aload_n 35 C dX6_acts_35 1 rfl rfl ?_
      refine wr_iload_n 36 C dX6_acts_36 2 rfl rfl ?_
      refine wr_iconst 37 C dX6_acts_37 (v := 1) rfl ?_
      refine wr_iadd 38 C dX6_acts_38 ?_
      obtain ⟨v15, μ14, h13, hf⟩ := o_bind hf
      refine wr_Vi (kc1 := 0) (ks1 := 0) 39 [] C dX6_acts_39 (tX6_nextAct l N   (x2_ + (1 : Int32)) μ (v15, μ14) h13) okX6_nextAct q1814 (b := 0) spM_0 rfl ⟨rfl, rfl, Nat.le_of_ble_eq_true rfl, Nat.le_of_ble_eq_true rfl, Nat.zero_le _, Nat.zero_le _⟩ (Nat.le_of_ble_eq_true rfl) rfl ?_
      refine wr_istore_n 42 [(2, .int v15), (1, .int x12), (0, .ref (q 0))] C dX6_acts_42 rfl rfl (Nat.le_of_ble_eq_true rfl) rfl ?_
      refine wr_goto 43 C dX6_acts_43 (tgt := 27) (by decide) ?_
      refine wr_sub [(0, .ref (q 0)), (1, .int x12), (2, .int v15)] [2, 1, 0] rfl ?_
      exact ih x12 v15 μ14 hf
def fX6_acts (N : Nat)   (μ : wMem) : Option (Int32 × wMem) :=
  wLet (wSI μ 0 0 (0 : Int32)) fun μ1 => wBind (fX6_isFamily N   μ1) fun v4 μ3 => if v4 = 0 then some ((-2), μ3) else wBindV (fX6_lays N   μ3) fun μ7 => wBind (fX6_nextAct N  0 μ7) fun v10 μ9 => gX6_acts_27 N   (fun (x17 : Int32) (μ16 : wMem) => some (x17, μ16)) N 0 v10 μ9
set_option maxHeartbeats 4000000 in
set_option maxRecDepth 100000 in
theorem tX6_acts (l : Launch) {D : va_G} {E : List wCell} {q : Nat → Nat} {ca : wCA} (N : Nat)    (μ : wMem) (r0 : (Int32 × wMem)) (hf : fX6_acts N   μ = some r0) : wMi l yX6_acts cX6_acts 3 (some .int) ({ frames := 5, cells := 0, slots := 0, locals := 116 } : Room) D vwCl (spM ++ E) q ca [.ref (q 0)] μ r0 := by
  refine wMi_intro (by decide) (Nat.le_of_ble_eq_true rfl) ?_
  intro p e s m args below meth c A C
  unfold fX6_acts at hf
  refine wr_sub [(0, .ref (q 0))] [0] rfl ?_
  refine wr_aload_n 0 C dX6_acts_0 0 rfl rfl ?_
  refine wr_iconst 1 C dX6_acts_1 (v := 0) rfl ?_
  obtain ⟨μ1, eμ1, hf⟩ := o_let hf
  refine puspM_0_0_X6 2 C dX6_acts_2 eμ1 ?_
  refine wr_aload_n 5 C dX6_acts_5 0 rfl rfl ?_
  obtain ⟨v4, μ3, h2, hf⟩ := o_bind hf
  refine wr_Vi (kc1 := 0) (ks1 := 0) 6 [] C dX6_acts_6 (tX6_isFamily l N    μ1 (v4, μ3) h2) okX6_isFamily q1750 (b := 0) spM_0 rfl ⟨rfl, rfl, Nat.le_of_ble_eq_true rfl, Nat.le_of_ble_eq_true rfl, Nat.zero_le _, Nat.zero_le _⟩ (Nat.le_of_ble_eq_true rfl) rfl ?_
  refine wr_if_ne 9 15 C dX6_acts_9 (by decide) (fun c5 => ?_) (fun c5 => ?_)
  · replace hf := o_neg c5 hf
    refine wr_aload_n 15 C dX6_acts_15 0 rfl rfl ?_
    obtain ⟨μ7, h6, hf⟩ := o_bindV hf
    refine wr_Vv (kc1 := 0) (ks1 := 0) 16 [] C dX6_acts_16 (tX6_lays l N    μ3 μ7 h6) okX6_lays q1690 (b := 0) spM_0 rfl ⟨rfl, rfl, Nat.le_of_ble_eq_true rfl, Nat.le_of_ble_eq_true rfl, Nat.zero_le _, Nat.zero_le _⟩ (Nat.le_of_ble_eq_true rfl) rfl ?_
    refine wr_iconst 19 C dX6_acts_19 (v := 0) rfl ?_
    refine wr_istore_n 20 [(1, .int 0), (0, .ref (q 0))] C dX6_acts_20 rfl rfl (Nat.le_of_ble_eq_true rfl) rfl ?_
    refine wr_aload_n 21 C dX6_acts_21 1 rfl rfl ?_
    refine wr_iconst 22 C dX6_acts_22 (v := 0) rfl ?_
    obtain ⟨v10, μ9, h8, hf⟩ := o_bind hf
    refine wr_Vi (kc1 := 0) (ks1 := 0) 23 [] C dX6_acts_23 (tX6_nextAct l N   0 μ7 (v10, μ9) h8) okX6_nextAct q1814 (b := 0) spM_0 rfl ⟨rfl, rfl, Nat.le_of_ble_eq_true rfl, Nat.le_of_ble_eq_true rfl, Nat.zero_le _, Nat.zero_le _⟩ (Nat.le_of_ble_eq_true rfl) rfl ?_
    refine wr_istore_n 26 [(2, .int v10), (1, .int 0), (0, .ref (q 0))] C dX6_acts_26 rfl rfl (Nat.le_of_ble_eq_true rfl) rfl ?_
    refine wr_sub [(0, .ref (q 0)), (1, .int 0), (2, .int v10)] [2, 1, 0] rfl ?_
    refine tX6_acts_27 C N    _ r0 (fun x17 μ16 hf => ?_) N 0 v10 μ9 hf
    · replace hf := hf
      refine wr_iload_n 46 C dX6_acts_46 0 rfl rfl ?_
      exact wr_iret 47 C dX6_acts_47 ⟨Nat.zero_le _, Nat.zero_le _⟩ (Option.some.inj hf)
  · replace hf := o_pos c5 hf
    refine wr_bipush 12 C dX6_acts_12 (v := (-2)) rfl ?_
    exact wr_iret 14 C dX6_acts_14 ⟨Nat.zero_le _, Nat.zero_le _⟩ (Option.some.inj hf)
abbrev cX6_may : ByteArray := prog_11_method_72_code
def yX6_may : MethodName := ⟨RX6, "may", "(I)I"⟩
def dkwX6_may_2 : List UInt8 := [96, 182, 1, 80, 61, 132, 3, 1, 167, 255, 235, 28, 172]
abbrev dktX6_may_2 : List UInt8 := dkwX6_may_2 ++ []
def dkwX6_may_1 : List UInt8 := [182, 1, 61, 42, 3, 182, 1, 80, 61, 3, 62, 29, 27, 162, 0, 22, 28, 2, 159, 0, 17, 42, 28, 4]
abbrev dktX6_may_1 : List UInt8 := dkwX6_may_1 ++ dktX6_may_2
def dkwX6_may_0 : List UInt8 := [42, 3, 181, 0, 88, 42, 182, 1, 67, 154, 0, 6, 16, 254, 172, 27, 156, 0, 5, 2, 172, 42]
abbrev dktX6_may_0 : List UInt8 := dkwX6_may_0 ++ dktX6_may_1
theorem dksX6_may_0 : cX6_may.data.toList.drop 0 = dktX6_may_0 := by decide +kernel
theorem dksX6_may_1 : cX6_may.data.toList.drop 22 = dktX6_may_1 := dk_seg dksX6_may_0 22 rfl rfl
theorem dksX6_may_2 : cX6_may.data.toList.drop 46 = dktX6_may_2 := dk_seg dksX6_may_1 24 rfl rfl
theorem dX6_may_0 : decode cX6_may 0 = .ok (.aload_n 0, 1) := dk_42 (dk_at dksX6_may_0 0 rfl rfl)
theorem dX6_may_1 : decode cX6_may 1 = .ok (.iconst 0, 1) := dk_3 (dk_at dksX6_may_0 1 rfl rfl)
theorem dX6_may_2 : decode cX6_may 2 = .ok (.putfield 88, 3) := dk_181 0 88 (dk_at dksX6_may_0 2 rfl rfl)
theorem dX6_may_5 : decode cX6_may 5 = .ok (.aload_n 0, 1) := dk_42 (dk_at dksX6_may_0 5 rfl rfl)
theorem dX6_may_6 : decode cX6_may 6 = .ok (.invokevirtual 323, 3) := dk_182 1 67 (dk_at dksX6_may_0 6 rfl rfl)
theorem dX6_may_9 : decode cX6_may 9 = .ok (.ifCond .ne 6, 3) := dk_154 0 6 (dk_at dksX6_may_0 9 rfl rfl)
theorem dX6_may_12 : decode cX6_may 12 = .ok (.bipush (-2), 2) := dk_16 254 (dk_at dksX6_may_0 12 rfl rfl)
theorem dX6_may_14 : decode cX6_may 14 = .ok (.ireturn, 1) := dk_172 (dk_at dksX6_may_0 14 rfl rfl)
theorem dX6_may_15 : decode cX6_may 15 = .ok (.iload_n 1, 1) := dk_27 (dk_at dksX6_may_0 15 rfl rfl)
theorem dX6_may_16 : decode cX6_may 16 = .ok (.ifCond .ge 5, 3) := dk_156 0 5 (dk_at dksX6_may_0 16 rfl rfl)
theorem dX6_may_19 : decode cX6_may 19 = .ok (.iconst (-1), 1) := dk_2 (dk_at dksX6_may_0 19 rfl rfl)
theorem dX6_may_20 : decode cX6_may 20 = .ok (.ireturn, 1) := dk_172 (dk_at dksX6_may_0 20 rfl rfl)
theorem dX6_may_21 : decode cX6_may 21 = .ok (.aload_n 0, 1) := dk_42 (dk_at dksX6_may_0 21 rfl rfl)
theorem dX6_may_22 : decode cX6_may 22 = .ok (.invokevirtual 317, 3) := dk_182 1 61 (dk_at dksX6_may_1 0 rfl rfl)
theorem dX6_may_25 : decode cX6_may 25 = .ok (.aload_n 0, 1) := dk_42 (dk_at dksX6_may_1 3 rfl rfl)
theorem dX6_may_26 : decode cX6_may 26 = .ok (.iconst 0, 1) := dk_3 (dk_at dksX6_may_1 4 rfl rfl)
theorem dX6_may_27 : decode cX6_may 27 = .ok (.invokevirtual 336, 3) := dk_182 1 80 (dk_at dksX6_may_1 5 rfl rfl)
theorem dX6_may_30 : decode cX6_may 30 = .ok (.istore_n 2, 1) := dk_61 (dk_at dksX6_may_1 8 rfl rfl)
theorem dX6_may_31 : decode cX6_may 31 = .ok (.iconst 0, 1) := dk_3 (dk_at dksX6_may_1 9 rfl rfl)
theorem dX6_may_32 : decode cX6_may 32 = .ok (.istore_n 3, 1) := dk_62 (dk_at dksX6_may_1 10 rfl rfl)
theorem dX6_may_33 : decode cX6_may 33 = .ok (.iload_n 3, 1) := dk_29 (dk_at dksX6_may_1 11 rfl rfl)
theorem dX6_may_34 : decode cX6_may 34 = .ok (.iload_n 1, 1) := dk_27 (dk_at dksX6_may_1 12 rfl rfl)
theorem dX6_may_35 : decode cX6_may 35 = .ok (.if_icmp .ge 22, 3) := dk_162 0 22 (dk_at dksX6_may_1 13 rfl rfl)
theorem dX6_may_38 : decode cX6_may 38 = .ok (.iload_n 2, 1) := dk_28 (dk_at dksX6_may_1 16 rfl rfl)
theorem dX6_may_39 : decode cX6_may 39 = .ok (.iconst (-1), 1) := dk_2 (dk_at dksX6_may_1 17 rfl rfl)
theorem dX6_may_40 : decode cX6_may 40 = .ok (.if_icmp .eq 17, 3) := dk_159 0 17 (dk_at dksX6_may_1 18 rfl rfl)
theorem dX6_may_43 : decode cX6_may 43 = .ok (.aload_n 0, 1) := dk_42 (dk_at dksX6_may_1 21 rfl rfl)
theorem dX6_may_44 : decode cX6_may 44 = .ok (.iload_n 2, 1) := dk_28 (dk_at dksX6_may_1 22 rfl rfl)
theorem dX6_may_45 : decode cX6_may 45 = .ok (.iconst 1, 1) := dk_4 (dk_at dksX6_may_1 23 rfl rfl)
theorem dX6_may_46 : decode cX6_may 46 = .ok (.iadd, 1) := dk_96 (dk_at dksX6_may_2 0 rfl rfl)
theorem dX6_may_47 : decode cX6_may 47 = .ok (.invokevirtual 336, 3) := dk_182 1 80 (dk_at dksX6_may_2 1 rfl rfl)
theorem dX6_may_50 : decode cX6_may 50 = .ok (.istore_n 2, 1) := dk_61 (dk_at dksX6_may_2 4 rfl rfl)
theorem dX6_may_51 : decode cX6_may 51 = .ok (.iinc 3 1, 3) := dk_132 3 1 (dk_at dksX6_may_2 5 rfl rfl)
theorem dX6_may_54 : decode cX6_may 54 = .ok (.goto (-21), 3) := dk_167 255 235 (dk_at dksX6_may_2 8 rfl rfl)
theorem dX6_may_57 : decode cX6_may 57 = .ok (.iload_n 2, 1) := dk_28 (dk_at dksX6_may_2 11 rfl rfl)
theorem dX6_may_58 : decode cX6_may 58 = .ok (.ireturn, 1) := dk_172 (dk_at dksX6_may_2 12 rfl rfl)

theorem okX6_may : wOkV yX6_may cX6_may 4 (some .int) 1 := ⟨q1830, q1831, q145, q1832, by decide, by decide, by decide +kernel⟩
def gbX6_may_33 (N : Nat)  (x1_ : Int32) (K : (Int32 → wMem → Option (Int32 × wMem))) (rec : (Int32 → Int32 → wMem → Option (Int32 × wMem))) (x2_ : Int32) (x3_ : Int32) (μ : wMem) : Option (Int32 × wMem) :=
  if x1_ ≤ x3_ then K x2_ μ else if x2_ = (-1 : Int32) then K x2_ μ else wBind (fX6_nextAct N  (x2_ + (1 : Int32)) μ) fun v16 μ15 => wLet (x3_ + 1 : Int32) fun x17 => rec v16 x17 μ15
def gX6_may_33 (N : Nat)  (x1_ : Int32) (K : (Int32 → wMem → Option (Int32 × wMem))) : Nat → (Int32 → Int32 → wMem → Option (Int32 × wMem))
  | 0 => fun _ _ _ => none
  | k + 1 => gbX6_may_33 N  x1_ K (gX6_may_33 N  x1_ K k)
set_option maxHeartbeats 4000000 in
set_option maxRecDepth 100000 in
theorem tX6_may_33 {p : Program} {l : Launch} {e : Env} {s : State} {m : MethodId} {args : Array Value} {below : List Frame} {meth : Method} {c : Code} {D : va_G} {E : List wCell} {q : Nat → Nat} {ca : wCA} {A : Nat → Prop} (C : wC p ({ frames := 5, cells := 0, slots := 0, locals := 116 } : Room) s m args meth c cX6_may yX6_may.cls 4 (some .int) D vwCl (spM ++ E) q ca A) (N : Nat)   (x1_ : Int32) (K : (Int32 → wMem → Option (Int32 × wMem))) (r0 : (Int32 × wMem)) (hK : ∀ (y2_ : Int32) (μ : wMem), K y2_ μ = some r0 → wJ p l e ({ frames := 5, cells := 0, slots := 0, locals := 116 } : Room) s m args below meth c 4 D vwCl (spM ++ E) q ca A (wQi ({ frames := 5, cells := 0, slots := 0, locals := 116 } : Room) D vwCl (spM ++ E) q ca below args s A r0) 0 0 μ 57 [(2, .int y2_)] []) : ∀ (k : Nat) (x2_ : Int32) (x3_ : Int32) (μ : wMem), gX6_may_33 N  x1_ K k x2_ x3_ μ = some r0 → wJ p l e ({ frames := 5, cells := 0, slots := 0, locals := 116 } : Room) s m args below meth c 4 D vwCl (spM ++ E) q ca A (wQi ({ frames := 5, cells := 0, slots := 0, locals := 116 } : Room) D vwCl (spM ++ E) q ca below args s A r0) 0 0 μ 33 [(0, .ref (q 0)), (1, .int x1_), (2, .int x2_), (3, .int x3_)] [] := by
  intro k
  induction k with
  | zero =>
    intro x2_ x3_ μ hf
    cases hf
  | succ k ih =>
    intro x2_ x3_ μ hf
    replace hf : gbX6_may_33 N  x1_ K (gX6_may_33 N  x1_ K k) x2_ x3_ μ = some r0 := hf
    unfold gbX6_may_33 at hf
    refine wr_iload_n 33 C dX6_may_33 3 rfl rfl ?_
    refine wr_iload_n 34 C dX6_may_34 1 rfl rfl ?_
    refine wr_icmp_ge 35 57 C dX6_may_35 (by decide) (fun c12 => ?_) (fun c12 => ?_)
    · replace hf := o_pos c12 hf
      refine wr_sub [(2, .int x2_)] [2] rfl ?_
      exact hK x2_ μ hf
    · replace hf := o_neg c12 hf
      refine wr_iload_n 38 C dX6_may_38 2 rfl rfl ?_
      refine wr_iconst 39 C dX6_may_39 (v := (-1)) rfl ?_
      refine wr_icmp_eq 40 57 C dX6_may_40 (by decide) (fun c13 => ?_) (fun c13 => ?_)
      · replace hf := o_pos c13 hf
        refine wr_sub [(2, .int x2_)] [2] rfl ?_
        exact hK x2_ μ hf
      · replace hf := o_neg c13 hf
        refine wr_aload_n 43 C dX6_may_43 0 rfl rfl ?_
        refine wr_iload_n 44 C dX6_may_44 2 rfl rfl ?_
        refine wr_iconst 45 C dX6_may_45 (v := 1) rfl ?_
        refine wr_iadd 46 C dX6_may_46 ?_
        obtain ⟨v16, μ15, h14, hf⟩ := o_bind hf
        refine wr_Vi (kc1 := 0) (ks1 := 0) 47 [] C dX6_may_47 (tX6_nextAct l N   (x2_ + (1 : Int32)) μ (v16, μ15) h14) okX6_nextAct q1814 (b := 0) spM_0 rfl ⟨rfl, rfl, Nat.le_of_ble_eq_true rfl, Nat.le_of_ble_eq_true rfl, Nat.zero_le _, Nat.zero_le _⟩ (Nat.le_of_ble_eq_true rfl) rfl ?_
        refine wr_istore_n 50 [(2, .int v16), (0, .ref (q 0)), (1, .int x1_), (3, .int x3_)] C dX6_may_50 rfl rfl (Nat.le_of_ble_eq_true rfl) rfl ?_
        obtain ⟨x17, ex17, hf⟩ := o_let hf
        refine wr_iinc 51 [(3, .int x17), (2, .int v16), (0, .ref (q 0)), (1, .int x1_)] C dX6_may_51 3 rfl (ex17.trans rfl) (Nat.le_of_ble_eq_true rfl) rfl ?_
        refine wr_goto 54 C dX6_may_54 (tgt := 33) (by decide) ?_
        refine wr_sub [(0, .ref (q 0)), (1, .int x1_), (2, .int v16), (3, .int x17)] [2, 3, 1, 0] rfl ?_
        exact ih v16 x17 μ15 hf
def fX6_may (N : Nat)  (a1 : Int32) (μ : wMem) : Option (Int32 × wMem) :=
  wLet (wSI μ 0 0 (0 : Int32)) fun μ1 => wBind (fX6_isFamily N   μ1) fun v4 μ3 => if v4 = 0 then some ((-2), μ3) else if 0 ≤ a1 then wBindV (fX6_lays N   μ3) fun μ8 => wBind (fX6_nextAct N  0 μ8) fun v11 μ10 => gX6_may_33 N  a1 (fun (x19 : Int32) (μ18 : wMem) => some (x19, μ18)) N v11 0 μ10 else some ((-1), μ3)
set_option maxHeartbeats 4000000 in
set_option maxRecDepth 100000 in
theorem tX6_may (l : Launch) {D : va_G} {E : List wCell} {q : Nat → Nat} {ca : wCA} (N : Nat)   (a1 : Int32) (μ : wMem) (r0 : (Int32 × wMem)) (hf : fX6_may N  a1 μ = some r0) : wMi l yX6_may cX6_may 4 (some .int) ({ frames := 5, cells := 0, slots := 0, locals := 116 } : Room) D vwCl (spM ++ E) q ca [.ref (q 0), .int a1] μ r0 := by
  refine wMi_intro (by decide) (Nat.le_of_ble_eq_true rfl) ?_
  intro p e s m args below meth c A C
  unfold fX6_may at hf
  refine wr_sub [(0, .ref (q 0)), (1, .int a1)] [0, 1] rfl ?_
  refine wr_aload_n 0 C dX6_may_0 0 rfl rfl ?_
  refine wr_iconst 1 C dX6_may_1 (v := 0) rfl ?_
  obtain ⟨μ1, eμ1, hf⟩ := o_let hf
  refine puspM_0_0_X6 2 C dX6_may_2 eμ1 ?_
  refine wr_aload_n 5 C dX6_may_5 0 rfl rfl ?_
  obtain ⟨v4, μ3, h2, hf⟩ := o_bind hf
  refine wr_Vi (kc1 := 0) (ks1 := 0) 6 [] C dX6_may_6 (tX6_isFamily l N    μ1 (v4, μ3) h2) okX6_isFamily q1750 (b := 0) spM_0 rfl ⟨rfl, rfl, Nat.le_of_ble_eq_true rfl, Nat.le_of_ble_eq_true rfl, Nat.zero_le _, Nat.zero_le _⟩ (Nat.le_of_ble_eq_true rfl) rfl ?_
  refine wr_if_ne 9 15 C dX6_may_9 (by decide) (fun c5 => ?_) (fun c5 => ?_)
  · replace hf := o_neg c5 hf
    refine wr_iload_n 15 C dX6_may_15 1 rfl rfl ?_
    refine wr_if_ge 16 21 C dX6_may_16 (by decide) (fun c6 => ?_) (fun c6 => ?_)
    · replace hf := o_pos c6 hf
      refine wr_aload_n 21 C dX6_may_21 0 rfl rfl ?_
      obtain ⟨μ8, h7, hf⟩ := o_bindV hf
      refine wr_Vv (kc1 := 0) (ks1 := 0) 22 [] C dX6_may_22 (tX6_lays l N    μ3 μ8 h7) okX6_lays q1690 (b := 0) spM_0 rfl ⟨rfl, rfl, Nat.le_of_ble_eq_true rfl, Nat.le_of_ble_eq_true rfl, Nat.zero_le _, Nat.zero_le _⟩ (Nat.le_of_ble_eq_true rfl) rfl ?_
      refine wr_aload_n 25 C dX6_may_25 0 rfl rfl ?_
      refine wr_iconst 26 C dX6_may_26 (v := 0) rfl ?_
      obtain ⟨v11, μ10, h9, hf⟩ := o_bind hf
      refine wr_Vi (kc1 := 0) (ks1 := 0) 27 [] C dX6_may_27 (tX6_nextAct l N   0 μ8 (v11, μ10) h9) okX6_nextAct q1814 (b := 0) spM_0 rfl ⟨rfl, rfl, Nat.le_of_ble_eq_true rfl, Nat.le_of_ble_eq_true rfl, Nat.zero_le _, Nat.zero_le _⟩ (Nat.le_of_ble_eq_true rfl) rfl ?_
      refine wr_istore_n 30 [(2, .int v11), (0, .ref (q 0)), (1, .int a1)] C dX6_may_30 rfl rfl (Nat.le_of_ble_eq_true rfl) rfl ?_
      refine wr_iconst 31 C dX6_may_31 (v := 0) rfl ?_
      refine wr_istore_n 32 [(3, .int 0), (2, .int v11), (0, .ref (q 0)), (1, .int a1)] C dX6_may_32 rfl rfl (Nat.le_of_ble_eq_true rfl) rfl ?_
      refine wr_sub [(0, .ref (q 0)), (1, .int a1), (2, .int v11), (3, .int 0)] [2, 3, 1, 0] rfl ?_
      refine tX6_may_33 C N   a1 _ r0 (fun x19 μ18 hf => ?_) N v11 0 μ10 hf
      · replace hf := hf
        refine wr_iload_n 57 C dX6_may_57 0 rfl rfl ?_
        exact wr_iret 58 C dX6_may_58 ⟨Nat.zero_le _, Nat.zero_le _⟩ (Option.some.inj hf)
    · replace hf := o_neg c6 hf
      refine wr_iconst 19 C dX6_may_19 (v := (-1)) rfl ?_
      exact wr_iret 20 C dX6_may_20 ⟨Nat.zero_le _, Nat.zero_le _⟩ (Option.some.inj hf)
  · replace hf := o_pos c5 hf
    refine wr_bipush 12 C dX6_may_12 (v := (-2)) rfl ?_
    exact wr_iret 14 C dX6_may_14 ⟨Nat.zero_le _, Nat.zero_le _⟩ (Option.some.inj hf)
abbrev cX6_numberOf : ByteArray := prog_11_method_39_code
def yX6_numberOf : MethodName := ⟨RX6, "numberOf", "()I"⟩
def dkwX6_numberOf_1 : List UInt8 := [180, 0, 247, 96, 16, 15, 104, 42, 180, 0, 250, 96, 172]
abbrev dktX6_numberOf_1 : List UInt8 := dkwX6_numberOf_1 ++ []
def dkwX6_numberOf_0 : List UInt8 := [42, 180, 0, 238, 5, 104, 42, 180, 0, 241, 96, 16, 49, 104, 42, 180, 0, 244, 16, 7, 104, 96, 42]
abbrev dktX6_numberOf_0 : List UInt8 := dkwX6_numberOf_0 ++ dktX6_numberOf_1
theorem dksX6_numberOf_0 : cX6_numberOf.data.toList.drop 0 = dktX6_numberOf_0 := by decide +kernel
theorem dksX6_numberOf_1 : cX6_numberOf.data.toList.drop 23 = dktX6_numberOf_1 := dk_seg dksX6_numberOf_0 23 rfl rfl
theorem dX6_numberOf_0 : decode cX6_numberOf 0 = .ok (.aload_n 0, 1) := dk_42 (dk_at dksX6_numberOf_0 0 rfl rfl)
theorem dX6_numberOf_1 : decode cX6_numberOf 1 = .ok (.getfield 238, 3) := dk_180 0 238 (dk_at dksX6_numberOf_0 1 rfl rfl)
theorem dX6_numberOf_4 : decode cX6_numberOf 4 = .ok (.iconst 2, 1) := dk_5 (dk_at dksX6_numberOf_0 4 rfl rfl)
theorem dX6_numberOf_5 : decode cX6_numberOf 5 = .ok (.imul, 1) := dk_104 (dk_at dksX6_numberOf_0 5 rfl rfl)
theorem dX6_numberOf_6 : decode cX6_numberOf 6 = .ok (.aload_n 0, 1) := dk_42 (dk_at dksX6_numberOf_0 6 rfl rfl)
theorem dX6_numberOf_7 : decode cX6_numberOf 7 = .ok (.getfield 241, 3) := dk_180 0 241 (dk_at dksX6_numberOf_0 7 rfl rfl)
theorem dX6_numberOf_10 : decode cX6_numberOf 10 = .ok (.iadd, 1) := dk_96 (dk_at dksX6_numberOf_0 10 rfl rfl)
theorem dX6_numberOf_11 : decode cX6_numberOf 11 = .ok (.bipush 49, 2) := dk_16 49 (dk_at dksX6_numberOf_0 11 rfl rfl)
theorem dX6_numberOf_13 : decode cX6_numberOf 13 = .ok (.imul, 1) := dk_104 (dk_at dksX6_numberOf_0 13 rfl rfl)
theorem dX6_numberOf_14 : decode cX6_numberOf 14 = .ok (.aload_n 0, 1) := dk_42 (dk_at dksX6_numberOf_0 14 rfl rfl)
theorem dX6_numberOf_15 : decode cX6_numberOf 15 = .ok (.getfield 244, 3) := dk_180 0 244 (dk_at dksX6_numberOf_0 15 rfl rfl)
theorem dX6_numberOf_18 : decode cX6_numberOf 18 = .ok (.bipush 7, 2) := dk_16 7 (dk_at dksX6_numberOf_0 18 rfl rfl)
theorem dX6_numberOf_20 : decode cX6_numberOf 20 = .ok (.imul, 1) := dk_104 (dk_at dksX6_numberOf_0 20 rfl rfl)
theorem dX6_numberOf_21 : decode cX6_numberOf 21 = .ok (.iadd, 1) := dk_96 (dk_at dksX6_numberOf_0 21 rfl rfl)
theorem dX6_numberOf_22 : decode cX6_numberOf 22 = .ok (.aload_n 0, 1) := dk_42 (dk_at dksX6_numberOf_0 22 rfl rfl)
theorem dX6_numberOf_23 : decode cX6_numberOf 23 = .ok (.getfield 247, 3) := dk_180 0 247 (dk_at dksX6_numberOf_1 0 rfl rfl)
theorem dX6_numberOf_26 : decode cX6_numberOf 26 = .ok (.iadd, 1) := dk_96 (dk_at dksX6_numberOf_1 3 rfl rfl)
theorem dX6_numberOf_27 : decode cX6_numberOf 27 = .ok (.bipush 15, 2) := dk_16 15 (dk_at dksX6_numberOf_1 4 rfl rfl)
theorem dX6_numberOf_29 : decode cX6_numberOf 29 = .ok (.imul, 1) := dk_104 (dk_at dksX6_numberOf_1 6 rfl rfl)
theorem dX6_numberOf_30 : decode cX6_numberOf 30 = .ok (.aload_n 0, 1) := dk_42 (dk_at dksX6_numberOf_1 7 rfl rfl)
theorem dX6_numberOf_31 : decode cX6_numberOf 31 = .ok (.getfield 250, 3) := dk_180 0 250 (dk_at dksX6_numberOf_1 8 rfl rfl)
theorem dX6_numberOf_34 : decode cX6_numberOf 34 = .ok (.iadd, 1) := dk_96 (dk_at dksX6_numberOf_1 11 rfl rfl)
theorem dX6_numberOf_35 : decode cX6_numberOf 35 = .ok (.ireturn, 1) := dk_172 (dk_at dksX6_numberOf_1 12 rfl rfl)

theorem okX6_numberOf : wOkV yX6_numberOf cX6_numberOf 1 (some .int) 0 := ⟨q1843, qs110, q145, q1844, by decide, by decide, by decide +kernel⟩
def fX6_numberOf (N : Nat)   (μ : wMem) : Option (Int32 × wMem) :=
  some ((((((((μ.1 0 23) * (2 : Int32)) + (μ.1 0 24)) * (49 : Int32)) + ((μ.1 0 25) * (7 : Int32))) + (μ.1 0 26)) * (15 : Int32)) + (μ.1 0 27), μ)
set_option maxHeartbeats 4000000 in
set_option maxRecDepth 100000 in
theorem tX6_numberOf (l : Launch) {D : va_G} {E : List wCell} {q : Nat → Nat} {ca : wCA} (N : Nat)    (μ : wMem) (r0 : (Int32 × wMem)) (hf : fX6_numberOf N   μ = some r0) : wMi l yX6_numberOf cX6_numberOf 1 (some .int) ({ frames := 0, cells := 0, slots := 0, locals := 0 } : Room) D vwCl (spM ++ E) q ca [.ref (q 0)] μ r0 := by
  refine wMi_intro (by decide) (Nat.le_of_ble_eq_true rfl) ?_
  intro p e s m args below meth c A C
  unfold fX6_numberOf at hf
  refine wr_sub [(0, .ref (q 0))] [0] rfl ?_
  refine wr_aload_n 0 C dX6_numberOf_0 0 rfl rfl ?_
  refine gespM_0_23_X6 1 C dX6_numberOf_1 ?_
  refine wr_iconst 4 C dX6_numberOf_4 (v := 2) rfl ?_
  refine wr_imul 5 C dX6_numberOf_5 ?_
  refine wr_aload_n 6 C dX6_numberOf_6 0 rfl rfl ?_
  refine gespM_0_24_X6 7 C dX6_numberOf_7 ?_
  refine wr_iadd 10 C dX6_numberOf_10 ?_
  refine wr_bipush 11 C dX6_numberOf_11 (v := 49) rfl ?_
  refine wr_imul 13 C dX6_numberOf_13 ?_
  refine wr_aload_n 14 C dX6_numberOf_14 0 rfl rfl ?_
  refine gespM_0_25_X6 15 C dX6_numberOf_15 ?_
  refine wr_bipush 18 C dX6_numberOf_18 (v := 7) rfl ?_
  refine wr_imul 20 C dX6_numberOf_20 ?_
  refine wr_iadd 21 C dX6_numberOf_21 ?_
  refine wr_aload_n 22 C dX6_numberOf_22 0 rfl rfl ?_
  refine gespM_0_26_X6 23 C dX6_numberOf_23 ?_
  refine wr_iadd 26 C dX6_numberOf_26 ?_
  refine wr_bipush 27 C dX6_numberOf_27 (v := 15) rfl ?_
  refine wr_imul 29 C dX6_numberOf_29 ?_
  refine wr_aload_n 30 C dX6_numberOf_30 0 rfl rfl ?_
  refine gespM_0_27_X6 31 C dX6_numberOf_31 ?_
  refine wr_iadd 34 C dX6_numberOf_34 ?_
  exact wr_iret 35 C dX6_numberOf_35 ⟨Nat.zero_le _, Nat.zero_le _⟩ (Option.some.inj hf)
abbrev cX6_explores : ByteArray := prog_11_method_73_code
def yX6_explores : MethodName := ⟨RX6, "explores", "(I)V"⟩
def dkwX6_explores_6 : List UInt8 := [96, 182, 1, 80, 62, 167, 255, 183, 132, 2, 1, 167, 255, 153, 177]
abbrev dktX6_explores_6 : List UInt8 := dkwX6_explores_6 ++ []
def dkwX6_explores_5 : List UInt8 := [79, 42, 89, 180, 1, 83, 4, 96, 181, 1, 83, 42, 42, 180, 0, 60, 28, 46, 182, 1, 32, 42, 29, 4]
abbrev dktX6_explores_5 : List UInt8 := dkwX6_explores_5 ++ dktX6_explores_6
def dkwX6_explores_4 : List UInt8 := [21, 4, 51, 154, 0, 32, 42, 180, 0, 57, 21, 4, 4, 84, 42, 180, 0, 60, 42, 180, 1, 83, 21, 4]
abbrev dktX6_explores_4 : List UInt8 := dkwX6_explores_4 ++ dktX6_explores_5
def dkwX6_explores_3 : List UInt8 := [182, 1, 80, 62, 29, 2, 159, 0, 74, 42, 29, 182, 1, 47, 42, 182, 1, 86, 54, 4, 42, 180, 0, 57]
abbrev dktX6_explores_3 : List UInt8 := dkwX6_explores_3 ++ dktX6_explores_4
def dkwX6_explores_2 : List UInt8 := [84, 3, 61, 28, 42, 180, 1, 83, 162, 0, 101, 42, 42, 180, 0, 60, 28, 46, 182, 1, 32, 42, 3]
abbrev dktX6_explores_2 : List UInt8 := dkwX6_explores_2 ++ dktX6_explores_3
def dkwX6_explores_1 : List UInt8 := [132, 2, 1, 167, 255, 233, 42, 4, 181, 1, 83, 42, 180, 0, 60, 3, 27, 79, 42, 180, 0, 57, 27, 4]
abbrev dktX6_explores_1 : List UInt8 := dkwX6_explores_1 ++ dktX6_explores_2
def dkwX6_explores_0 : List UInt8 := [3, 61, 28, 42, 180, 1, 83, 162, 0, 21, 42, 180, 0, 57, 42, 180, 0, 60, 28, 46, 3, 84]
abbrev dktX6_explores_0 : List UInt8 := dkwX6_explores_0 ++ dktX6_explores_1
theorem dksX6_explores_0 : cX6_explores.data.toList.drop 0 = dktX6_explores_0 := by decide +kernel
theorem dksX6_explores_1 : cX6_explores.data.toList.drop 22 = dktX6_explores_1 := dk_seg dksX6_explores_0 22 rfl rfl
theorem dksX6_explores_2 : cX6_explores.data.toList.drop 46 = dktX6_explores_2 := dk_seg dksX6_explores_1 24 rfl rfl
theorem dksX6_explores_3 : cX6_explores.data.toList.drop 69 = dktX6_explores_3 := dk_seg dksX6_explores_2 23 rfl rfl
theorem dksX6_explores_4 : cX6_explores.data.toList.drop 93 = dktX6_explores_4 := dk_seg dksX6_explores_3 24 rfl rfl
theorem dksX6_explores_5 : cX6_explores.data.toList.drop 117 = dktX6_explores_5 := dk_seg dksX6_explores_4 24 rfl rfl
theorem dksX6_explores_6 : cX6_explores.data.toList.drop 141 = dktX6_explores_6 := dk_seg dksX6_explores_5 24 rfl rfl
theorem dX6_explores_0 : decode cX6_explores 0 = .ok (.iconst 0, 1) := dk_3 (dk_at dksX6_explores_0 0 rfl rfl)
theorem dX6_explores_1 : decode cX6_explores 1 = .ok (.istore_n 2, 1) := dk_61 (dk_at dksX6_explores_0 1 rfl rfl)
theorem dX6_explores_2 : decode cX6_explores 2 = .ok (.iload_n 2, 1) := dk_28 (dk_at dksX6_explores_0 2 rfl rfl)
theorem dX6_explores_3 : decode cX6_explores 3 = .ok (.aload_n 0, 1) := dk_42 (dk_at dksX6_explores_0 3 rfl rfl)
theorem dX6_explores_4 : decode cX6_explores 4 = .ok (.getfield 339, 3) := dk_180 1 83 (dk_at dksX6_explores_0 4 rfl rfl)
theorem dX6_explores_7 : decode cX6_explores 7 = .ok (.if_icmp .ge 21, 3) := dk_162 0 21 (dk_at dksX6_explores_0 7 rfl rfl)
theorem dX6_explores_10 : decode cX6_explores 10 = .ok (.aload_n 0, 1) := dk_42 (dk_at dksX6_explores_0 10 rfl rfl)
theorem dX6_explores_11 : decode cX6_explores 11 = .ok (.getfield 57, 3) := dk_180 0 57 (dk_at dksX6_explores_0 11 rfl rfl)
theorem dX6_explores_14 : decode cX6_explores 14 = .ok (.aload_n 0, 1) := dk_42 (dk_at dksX6_explores_0 14 rfl rfl)
theorem dX6_explores_15 : decode cX6_explores 15 = .ok (.getfield 60, 3) := dk_180 0 60 (dk_at dksX6_explores_0 15 rfl rfl)
theorem dX6_explores_18 : decode cX6_explores 18 = .ok (.iload_n 2, 1) := dk_28 (dk_at dksX6_explores_0 18 rfl rfl)
theorem dX6_explores_19 : decode cX6_explores 19 = .ok (.iaload, 1) := dk_46 (dk_at dksX6_explores_0 19 rfl rfl)
theorem dX6_explores_20 : decode cX6_explores 20 = .ok (.iconst 0, 1) := dk_3 (dk_at dksX6_explores_0 20 rfl rfl)
theorem dX6_explores_21 : decode cX6_explores 21 = .ok (.bastore, 1) := dk_84 (dk_at dksX6_explores_0 21 rfl rfl)
theorem dX6_explores_22 : decode cX6_explores 22 = .ok (.iinc 2 1, 3) := dk_132 2 1 (dk_at dksX6_explores_1 0 rfl rfl)
theorem dX6_explores_25 : decode cX6_explores 25 = .ok (.goto (-23), 3) := dk_167 255 233 (dk_at dksX6_explores_1 3 rfl rfl)
theorem dX6_explores_28 : decode cX6_explores 28 = .ok (.aload_n 0, 1) := dk_42 (dk_at dksX6_explores_1 6 rfl rfl)
theorem dX6_explores_29 : decode cX6_explores 29 = .ok (.iconst 1, 1) := dk_4 (dk_at dksX6_explores_1 7 rfl rfl)
theorem dX6_explores_30 : decode cX6_explores 30 = .ok (.putfield 339, 3) := dk_181 1 83 (dk_at dksX6_explores_1 8 rfl rfl)
theorem dX6_explores_33 : decode cX6_explores 33 = .ok (.aload_n 0, 1) := dk_42 (dk_at dksX6_explores_1 11 rfl rfl)
theorem dX6_explores_34 : decode cX6_explores 34 = .ok (.getfield 60, 3) := dk_180 0 60 (dk_at dksX6_explores_1 12 rfl rfl)
theorem dX6_explores_37 : decode cX6_explores 37 = .ok (.iconst 0, 1) := dk_3 (dk_at dksX6_explores_1 15 rfl rfl)
theorem dX6_explores_38 : decode cX6_explores 38 = .ok (.iload_n 1, 1) := dk_27 (dk_at dksX6_explores_1 16 rfl rfl)
theorem dX6_explores_39 : decode cX6_explores 39 = .ok (.iastore, 1) := dk_79 (dk_at dksX6_explores_1 17 rfl rfl)
theorem dX6_explores_40 : decode cX6_explores 40 = .ok (.aload_n 0, 1) := dk_42 (dk_at dksX6_explores_1 18 rfl rfl)
theorem dX6_explores_41 : decode cX6_explores 41 = .ok (.getfield 57, 3) := dk_180 0 57 (dk_at dksX6_explores_1 19 rfl rfl)
theorem dX6_explores_44 : decode cX6_explores 44 = .ok (.iload_n 1, 1) := dk_27 (dk_at dksX6_explores_1 22 rfl rfl)
theorem dX6_explores_45 : decode cX6_explores 45 = .ok (.iconst 1, 1) := dk_4 (dk_at dksX6_explores_1 23 rfl rfl)
theorem dX6_explores_46 : decode cX6_explores 46 = .ok (.bastore, 1) := dk_84 (dk_at dksX6_explores_2 0 rfl rfl)
theorem dX6_explores_47 : decode cX6_explores 47 = .ok (.iconst 0, 1) := dk_3 (dk_at dksX6_explores_2 1 rfl rfl)
theorem dX6_explores_48 : decode cX6_explores 48 = .ok (.istore_n 2, 1) := dk_61 (dk_at dksX6_explores_2 2 rfl rfl)
theorem dX6_explores_49 : decode cX6_explores 49 = .ok (.iload_n 2, 1) := dk_28 (dk_at dksX6_explores_2 3 rfl rfl)
theorem dX6_explores_50 : decode cX6_explores 50 = .ok (.aload_n 0, 1) := dk_42 (dk_at dksX6_explores_2 4 rfl rfl)
theorem dX6_explores_51 : decode cX6_explores 51 = .ok (.getfield 339, 3) := dk_180 1 83 (dk_at dksX6_explores_2 5 rfl rfl)
theorem dX6_explores_54 : decode cX6_explores 54 = .ok (.if_icmp .ge 101, 3) := dk_162 0 101 (dk_at dksX6_explores_2 8 rfl rfl)
theorem dX6_explores_57 : decode cX6_explores 57 = .ok (.aload_n 0, 1) := dk_42 (dk_at dksX6_explores_2 11 rfl rfl)
theorem dX6_explores_58 : decode cX6_explores 58 = .ok (.aload_n 0, 1) := dk_42 (dk_at dksX6_explores_2 12 rfl rfl)
theorem dX6_explores_59 : decode cX6_explores 59 = .ok (.getfield 60, 3) := dk_180 0 60 (dk_at dksX6_explores_2 13 rfl rfl)
theorem dX6_explores_62 : decode cX6_explores 62 = .ok (.iload_n 2, 1) := dk_28 (dk_at dksX6_explores_2 16 rfl rfl)
theorem dX6_explores_63 : decode cX6_explores 63 = .ok (.iaload, 1) := dk_46 (dk_at dksX6_explores_2 17 rfl rfl)
theorem dX6_explores_64 : decode cX6_explores 64 = .ok (.invokevirtual 288, 3) := dk_182 1 32 (dk_at dksX6_explores_2 18 rfl rfl)
theorem dX6_explores_67 : decode cX6_explores 67 = .ok (.aload_n 0, 1) := dk_42 (dk_at dksX6_explores_2 21 rfl rfl)
theorem dX6_explores_68 : decode cX6_explores 68 = .ok (.iconst 0, 1) := dk_3 (dk_at dksX6_explores_2 22 rfl rfl)
theorem dX6_explores_69 : decode cX6_explores 69 = .ok (.invokevirtual 336, 3) := dk_182 1 80 (dk_at dksX6_explores_3 0 rfl rfl)
theorem dX6_explores_72 : decode cX6_explores 72 = .ok (.istore_n 3, 1) := dk_62 (dk_at dksX6_explores_3 3 rfl rfl)
theorem dX6_explores_73 : decode cX6_explores 73 = .ok (.iload_n 3, 1) := dk_29 (dk_at dksX6_explores_3 4 rfl rfl)
theorem dX6_explores_74 : decode cX6_explores 74 = .ok (.iconst (-1), 1) := dk_2 (dk_at dksX6_explores_3 5 rfl rfl)
theorem dX6_explores_75 : decode cX6_explores 75 = .ok (.if_icmp .eq 74, 3) := dk_159 0 74 (dk_at dksX6_explores_3 6 rfl rfl)
theorem dX6_explores_78 : decode cX6_explores 78 = .ok (.aload_n 0, 1) := dk_42 (dk_at dksX6_explores_3 9 rfl rfl)
theorem dX6_explores_79 : decode cX6_explores 79 = .ok (.iload_n 3, 1) := dk_29 (dk_at dksX6_explores_3 10 rfl rfl)
theorem dX6_explores_80 : decode cX6_explores 80 = .ok (.invokevirtual 303, 3) := dk_182 1 47 (dk_at dksX6_explores_3 11 rfl rfl)
theorem dX6_explores_83 : decode cX6_explores 83 = .ok (.aload_n 0, 1) := dk_42 (dk_at dksX6_explores_3 14 rfl rfl)
theorem dX6_explores_84 : decode cX6_explores 84 = .ok (.invokevirtual 342, 3) := dk_182 1 86 (dk_at dksX6_explores_3 15 rfl rfl)
theorem dX6_explores_87 : decode cX6_explores 87 = .ok (.istore 4, 2) := dk_54 4 (dk_at dksX6_explores_3 18 rfl rfl)
theorem dX6_explores_89 : decode cX6_explores 89 = .ok (.aload_n 0, 1) := dk_42 (dk_at dksX6_explores_3 20 rfl rfl)
theorem dX6_explores_90 : decode cX6_explores 90 = .ok (.getfield 57, 3) := dk_180 0 57 (dk_at dksX6_explores_3 21 rfl rfl)
theorem dX6_explores_93 : decode cX6_explores 93 = .ok (.iload 4, 2) := dk_21 4 (dk_at dksX6_explores_4 0 rfl rfl)
theorem dX6_explores_95 : decode cX6_explores 95 = .ok (.baload, 1) := dk_51 (dk_at dksX6_explores_4 2 rfl rfl)
theorem dX6_explores_96 : decode cX6_explores 96 = .ok (.ifCond .ne 32, 3) := dk_154 0 32 (dk_at dksX6_explores_4 3 rfl rfl)
theorem dX6_explores_99 : decode cX6_explores 99 = .ok (.aload_n 0, 1) := dk_42 (dk_at dksX6_explores_4 6 rfl rfl)
theorem dX6_explores_100 : decode cX6_explores 100 = .ok (.getfield 57, 3) := dk_180 0 57 (dk_at dksX6_explores_4 7 rfl rfl)
theorem dX6_explores_103 : decode cX6_explores 103 = .ok (.iload 4, 2) := dk_21 4 (dk_at dksX6_explores_4 10 rfl rfl)
theorem dX6_explores_105 : decode cX6_explores 105 = .ok (.iconst 1, 1) := dk_4 (dk_at dksX6_explores_4 12 rfl rfl)
theorem dX6_explores_106 : decode cX6_explores 106 = .ok (.bastore, 1) := dk_84 (dk_at dksX6_explores_4 13 rfl rfl)
theorem dX6_explores_107 : decode cX6_explores 107 = .ok (.aload_n 0, 1) := dk_42 (dk_at dksX6_explores_4 14 rfl rfl)
theorem dX6_explores_108 : decode cX6_explores 108 = .ok (.getfield 60, 3) := dk_180 0 60 (dk_at dksX6_explores_4 15 rfl rfl)
theorem dX6_explores_111 : decode cX6_explores 111 = .ok (.aload_n 0, 1) := dk_42 (dk_at dksX6_explores_4 18 rfl rfl)
theorem dX6_explores_112 : decode cX6_explores 112 = .ok (.getfield 339, 3) := dk_180 1 83 (dk_at dksX6_explores_4 19 rfl rfl)
theorem dX6_explores_115 : decode cX6_explores 115 = .ok (.iload 4, 2) := dk_21 4 (dk_at dksX6_explores_4 22 rfl rfl)
theorem dX6_explores_117 : decode cX6_explores 117 = .ok (.iastore, 1) := dk_79 (dk_at dksX6_explores_5 0 rfl rfl)
theorem dX6_explores_118 : decode cX6_explores 118 = .ok (.aload_n 0, 1) := dk_42 (dk_at dksX6_explores_5 1 rfl rfl)
theorem dX6_explores_119 : decode cX6_explores 119 = .ok (.dup, 1) := dk_89 (dk_at dksX6_explores_5 2 rfl rfl)
theorem dX6_explores_120 : decode cX6_explores 120 = .ok (.getfield 339, 3) := dk_180 1 83 (dk_at dksX6_explores_5 3 rfl rfl)
theorem dX6_explores_123 : decode cX6_explores 123 = .ok (.iconst 1, 1) := dk_4 (dk_at dksX6_explores_5 6 rfl rfl)
theorem dX6_explores_124 : decode cX6_explores 124 = .ok (.iadd, 1) := dk_96 (dk_at dksX6_explores_5 7 rfl rfl)
theorem dX6_explores_125 : decode cX6_explores 125 = .ok (.putfield 339, 3) := dk_181 1 83 (dk_at dksX6_explores_5 8 rfl rfl)
theorem dX6_explores_128 : decode cX6_explores 128 = .ok (.aload_n 0, 1) := dk_42 (dk_at dksX6_explores_5 11 rfl rfl)
theorem dX6_explores_129 : decode cX6_explores 129 = .ok (.aload_n 0, 1) := dk_42 (dk_at dksX6_explores_5 12 rfl rfl)
theorem dX6_explores_130 : decode cX6_explores 130 = .ok (.getfield 60, 3) := dk_180 0 60 (dk_at dksX6_explores_5 13 rfl rfl)
theorem dX6_explores_133 : decode cX6_explores 133 = .ok (.iload_n 2, 1) := dk_28 (dk_at dksX6_explores_5 16 rfl rfl)
theorem dX6_explores_134 : decode cX6_explores 134 = .ok (.iaload, 1) := dk_46 (dk_at dksX6_explores_5 17 rfl rfl)
theorem dX6_explores_135 : decode cX6_explores 135 = .ok (.invokevirtual 288, 3) := dk_182 1 32 (dk_at dksX6_explores_5 18 rfl rfl)
theorem dX6_explores_138 : decode cX6_explores 138 = .ok (.aload_n 0, 1) := dk_42 (dk_at dksX6_explores_5 21 rfl rfl)
theorem dX6_explores_139 : decode cX6_explores 139 = .ok (.iload_n 3, 1) := dk_29 (dk_at dksX6_explores_5 22 rfl rfl)
theorem dX6_explores_140 : decode cX6_explores 140 = .ok (.iconst 1, 1) := dk_4 (dk_at dksX6_explores_5 23 rfl rfl)
theorem dX6_explores_141 : decode cX6_explores 141 = .ok (.iadd, 1) := dk_96 (dk_at dksX6_explores_6 0 rfl rfl)
theorem dX6_explores_142 : decode cX6_explores 142 = .ok (.invokevirtual 336, 3) := dk_182 1 80 (dk_at dksX6_explores_6 1 rfl rfl)
theorem dX6_explores_145 : decode cX6_explores 145 = .ok (.istore_n 3, 1) := dk_62 (dk_at dksX6_explores_6 4 rfl rfl)
theorem dX6_explores_146 : decode cX6_explores 146 = .ok (.goto (-73), 3) := dk_167 255 183 (dk_at dksX6_explores_6 5 rfl rfl)
theorem dX6_explores_149 : decode cX6_explores 149 = .ok (.iinc 2 1, 3) := dk_132 2 1 (dk_at dksX6_explores_6 8 rfl rfl)
theorem dX6_explores_152 : decode cX6_explores 152 = .ok (.goto (-103), 3) := dk_167 255 153 (dk_at dksX6_explores_6 11 rfl rfl)
theorem dX6_explores_155 : decode cX6_explores 155 = .ok (.return_, 1) := dk_177 (dk_at dksX6_explores_6 14 rfl rfl)
theorem gespM_0_32_X6 {p : Program} {l : Launch} {e : Env} {R : Room} {s : State} {m : MethodId} {args : Array Value} {below : List Frame} {meth : Method} {c : Code} {cc : ByteArray} {nL : Nat} {ret : Option FieldType} {D : va_G} {E : List wCell} {q : Nat → Nat} {ca : wCA} {A : Nat → Prop} {Q : State → Prop} {kc ks : Nat} {μ : wMem} {lv : List (Nat × Value)} {st : List Value} (pc : Nat) (C : wC p R s m args meth c cc "OnePassportModel" nL ret D vwCl (spM ++ E) q ca A) (hd : decode cc pc = .ok (.getfield 57, 3)) (k : wJ p l e R s m args below meth c nL D vwCl (spM ++ E) q ca A Q kc ks μ (pc + 3) lv (.ref (q 14) :: st)) : wJ p l e R s m args below meth c nL D vwCl (spM ++ E) q ca A Q kc ks μ pc lv (.ref (q 0) :: st) := wr_getR pc 32 C hd spM_0 rfl in_X6 (by decide) rfl q1431 k
theorem gespM_0_33_X6 {p : Program} {l : Launch} {e : Env} {R : Room} {s : State} {m : MethodId} {args : Array Value} {below : List Frame} {meth : Method} {c : Code} {cc : ByteArray} {nL : Nat} {ret : Option FieldType} {D : va_G} {E : List wCell} {q : Nat → Nat} {ca : wCA} {A : Nat → Prop} {Q : State → Prop} {kc ks : Nat} {μ : wMem} {lv : List (Nat × Value)} {st : List Value} (pc : Nat) (C : wC p R s m args meth c cc "OnePassportModel" nL ret D vwCl (spM ++ E) q ca A) (hd : decode cc pc = .ok (.getfield 60, 3)) (k : wJ p l e R s m args below meth c nL D vwCl (spM ++ E) q ca A Q kc ks μ (pc + 3) lv (.ref (q 15) :: st)) : wJ p l e R s m args below meth c nL D vwCl (spM ++ E) q ca A Q kc ks μ pc lv (.ref (q 0) :: st) := wr_getR pc 33 C hd spM_0 rfl in_X6 (by decide) rfl q1432 k
theorem gespM_0_34_X6 {p : Program} {l : Launch} {e : Env} {R : Room} {s : State} {m : MethodId} {args : Array Value} {below : List Frame} {meth : Method} {c : Code} {cc : ByteArray} {nL : Nat} {ret : Option FieldType} {D : va_G} {E : List wCell} {q : Nat → Nat} {ca : wCA} {A : Nat → Prop} {Q : State → Prop} {kc ks : Nat} {μ : wMem} {lv : List (Nat × Value)} {st : List Value} (pc : Nat) (C : wC p R s m args meth c cc "OnePassportModel" nL ret D vwCl (spM ++ E) q ca A) (hd : decode cc pc = .ok (.getfield 339, 3)) (k : wJ p l e R s m args below meth c nL D vwCl (spM ++ E) q ca A Q kc ks μ (pc + 3) lv (.int (μ.1 0 34) :: st)) : wJ p l e R s m args below meth c nL D vwCl (spM ++ E) q ca A Q kc ks μ pc lv (.ref (q 0) :: st) := wr_getI pc 34 C hd spM_0 rfl in_X6 (by decide) rfl q1433 k
theorem puspM_0_34_X6 {p : Program} {l : Launch} {e : Env} {R : Room} {s : State} {m : MethodId} {args : Array Value} {below : List Frame} {meth : Method} {c : Code} {cc : ByteArray} {nL : Nat} {ret : Option FieldType} {D : va_G} {E : List wCell} {q : Nat → Nat} {ca : wCA} {A : Nat → Prop} {Q : State → Prop} {kc ks : Nat} {μ : wMem} {lv : List (Nat × Value)} {st : List Value} {v : Int32} {μ1 : wMem} (pc : Nat) (C : wC p R s m args meth c cc "OnePassportModel" nL ret D vwCl (spM ++ E) q ca A) (hd : decode cc pc = .ok (.putfield 339, 3)) (hμ : μ1 = wSI μ 0 34 v) (k : wJ p l e R s m args below meth c nL D vwCl (spM ++ E) q ca A Q kc ks μ1 (pc + 3) lv st) : wJ p l e R s m args below meth c nL D vwCl (spM ++ E) q ca A Q kc ks μ pc lv (.int v :: .ref (q 0) :: st) := wr_putI pc 34 C hd spM_0 rfl in_X6 tyX6 tyX6_ok nmX6 (by decide) rfl q1433 rfl rfl hμ k
theorem okX6_explores : wOkV yX6_explores cX6_explores 5 none 1 := ⟨q1847, qs111, q145, q1848, by decide, by decide, by decide +kernel⟩
def gbX6_explores_2 (N : Nat)  (x1_ : Int32) (K : (wMem → Option wMem)) (rec : (Int32 → wMem → Option wMem)) (x2_ : Int32) (μ : wMem) : Option wMem :=
  if (μ.1 0 34) ≤ x2_ then K  μ else wG (ok_in x2_ 94080) (wG (ok_in (μ.1 15 (Int32.toNatClampNeg x2_)) 94080) (wLet (wSI μ 14 (Int32.toNatClampNeg (μ.1 15 (Int32.toNatClampNeg x2_))) (0 : Int32)) fun μ4 => wLet (x2_ + 1 : Int32) fun x5 => rec x5 μ4))
def gX6_explores_2 (N : Nat)  (x1_ : Int32) (K : (wMem → Option wMem)) : Nat → (Int32 → wMem → Option wMem)
  | 0 => fun _ _ => none
  | k + 1 => gbX6_explores_2 N  x1_ K (gX6_explores_2 N  x1_ K k)
set_option maxHeartbeats 4000000 in
set_option maxRecDepth 100000 in
theorem tX6_explores_2 {p : Program} {l : Launch} {e : Env} {s : State} {m : MethodId} {args : Array Value} {below : List Frame} {meth : Method} {c : Code} {D : va_G} {E : List wCell} {q : Nat → Nat} {ca : wCA} {A : Nat → Prop} (C : wC p ({ frames := 5, cells := 0, slots := 0, locals := 116 } : Room) s m args meth c cX6_explores yX6_explores.cls 5 none D vwCl (spM ++ E) q ca A) (N : Nat)   (x1_ : Int32) (K : (wMem → Option wMem)) (r0 : wMem) (hK : ∀  (μ : wMem), K  μ = some r0 → wJ p l e ({ frames := 5, cells := 0, slots := 0, locals := 116 } : Room) s m args below meth c 5 D vwCl (spM ++ E) q ca A (wQv ({ frames := 5, cells := 0, slots := 0, locals := 116 } : Room) D vwCl (spM ++ E) q ca below args s A r0) 0 0 μ 28 [(0, .ref (q 0)), (1, .int x1_)] []) : ∀ (k : Nat) (x2_ : Int32) (μ : wMem), gX6_explores_2 N  x1_ K k x2_ μ = some r0 → wJ p l e ({ frames := 5, cells := 0, slots := 0, locals := 116 } : Room) s m args below meth c 5 D vwCl (spM ++ E) q ca A (wQv ({ frames := 5, cells := 0, slots := 0, locals := 116 } : Room) D vwCl (spM ++ E) q ca below args s A r0) 0 0 μ 2 [(0, .ref (q 0)), (1, .int x1_), (2, .int x2_)] [] := by
  intro k
  induction k with
  | zero =>
    intro x2_ μ hf
    cases hf
  | succ k ih =>
    intro x2_ μ hf
    replace hf : gbX6_explores_2 N  x1_ K (gX6_explores_2 N  x1_ K k) x2_ μ = some r0 := hf
    unfold gbX6_explores_2 at hf
    refine wr_iload_n 2 C dX6_explores_2 2 rfl rfl ?_
    refine wr_aload_n 3 C dX6_explores_3 0 rfl rfl ?_
    refine gespM_0_34_X6 4 C dX6_explores_4 ?_
    refine wr_icmp_ge 7 28 C dX6_explores_7 (by decide) (fun c1 => ?_) (fun c1 => ?_)
    · replace hf := o_pos c1 hf
      refine wr_sub [(0, .ref (q 0)), (1, .int x1_)] [0, 1] rfl ?_
      exact hK  μ hf
    · replace hf := o_neg c1 hf
      refine wr_aload_n 10 C dX6_explores_10 0 rfl rfl ?_
      refine gespM_0_32_X6 11 C dX6_explores_11 ?_
      refine wr_aload_n 14 C dX6_explores_14 0 rfl rfl ?_
      refine gespM_0_33_X6 15 C dX6_explores_15 ?_
      refine wr_iload_n 18 C dX6_explores_18 2 rfl rfl ?_
      obtain ⟨g2, hf⟩ := o_g hf
      refine wr_iald 19 C dX6_explores_19 spM_15 g2 ?_
      refine wr_iconst 20 C dX6_explores_20 (v := 0) rfl ?_
      obtain ⟨g3, hf⟩ := o_g hf
      obtain ⟨μ4, eμ4, hf⟩ := o_let hf
      refine wr_zast 21 C dX6_explores_21 spM_14 g3 rfl eμ4 ?_
      obtain ⟨x5, ex5, hf⟩ := o_let hf
      refine wr_iinc 22 [(2, .int x5), (0, .ref (q 0)), (1, .int x1_)] C dX6_explores_22 2 rfl (ex5.trans rfl) (Nat.le_of_ble_eq_true rfl) rfl ?_
      refine wr_goto 25 C dX6_explores_25 (tgt := 2) (by decide) ?_
      refine wr_sub [(0, .ref (q 0)), (1, .int x1_), (2, .int x5)] [1, 2, 0] rfl ?_
      exact ih x5 μ4 hf
def gbX6_explores_73 (N : Nat)  (x2_ : Int32) (K : (wMem → Option wMem)) (rec : (Int32 → wMem → Option wMem)) (x3_ : Int32) (μ : wMem) : Option wMem :=
  if x3_ = (-1 : Int32) then K  μ else wBindV (fX6_does N  x3_ μ) fun μ21 => wBind (fX6_numberOf N   μ21) fun v24 μ23 => wG (ok_in v24 94080) (wLet (fun  (μ26 : wMem) => wG (ok_in x2_ 94080) (wBindV (fX6_begin N  (μ26.1 15 (Int32.toNatClampNeg x2_)) μ26) fun μ29 => wBind (fX6_nextAct N  (x3_ + (1 : Int32)) μ29) fun v32 μ31 => rec v32 μ31)) fun Jexplores128 => if (μ23.1 14 (Int32.toNatClampNeg v24)) = 0 then wG (ok_in v24 94080) (wLet (wSI μ23 14 (Int32.toNatClampNeg v24) (1 : Int32)) fun μ35 => wG (ok_in (μ35.1 0 34) 94080) (wLet (wSI μ35 15 (Int32.toNatClampNeg (μ35.1 0 34)) v24) fun μ37 => wLet (wSI μ37 0 34 ((μ37.1 0 34) + (1 : Int32))) fun μ38 => Jexplores128  μ38)) else Jexplores128  μ23)
def gX6_explores_73 (N : Nat)  (x2_ : Int32) (K : (wMem → Option wMem)) : Nat → (Int32 → wMem → Option wMem)
  | 0 => fun _ _ => none
  | k + 1 => gbX6_explores_73 N  x2_ K (gX6_explores_73 N  x2_ K k)
set_option maxHeartbeats 4000000 in
set_option maxRecDepth 100000 in
theorem tX6_explores_73 {p : Program} {l : Launch} {e : Env} {s : State} {m : MethodId} {args : Array Value} {below : List Frame} {meth : Method} {c : Code} {D : va_G} {E : List wCell} {q : Nat → Nat} {ca : wCA} {A : Nat → Prop} (C : wC p ({ frames := 5, cells := 0, slots := 0, locals := 116 } : Room) s m args meth c cX6_explores yX6_explores.cls 5 none D vwCl (spM ++ E) q ca A) (N : Nat)   (x2_ : Int32) (K : (wMem → Option wMem)) (r0 : wMem) (hK : ∀  (μ : wMem), K  μ = some r0 → wJ p l e ({ frames := 5, cells := 0, slots := 0, locals := 116 } : Room) s m args below meth c 5 D vwCl (spM ++ E) q ca A (wQv ({ frames := 5, cells := 0, slots := 0, locals := 116 } : Room) D vwCl (spM ++ E) q ca below args s A r0) 0 0 μ 149 [(0, .ref (q 0)), (2, .int x2_)] []) : ∀ (k : Nat) (x3_ : Int32) (μ : wMem), gX6_explores_73 N  x2_ K k x3_ μ = some r0 → wJ p l e ({ frames := 5, cells := 0, slots := 0, locals := 116 } : Room) s m args below meth c 5 D vwCl (spM ++ E) q ca A (wQv ({ frames := 5, cells := 0, slots := 0, locals := 116 } : Room) D vwCl (spM ++ E) q ca below args s A r0) 0 0 μ 73 [(0, .ref (q 0)), (2, .int x2_), (3, .int x3_)] [] := by
  intro k
  induction k with
  | zero =>
    intro x3_ μ hf
    cases hf
  | succ k ih =>
    intro x3_ μ hf
    replace hf : gbX6_explores_73 N  x2_ K (gX6_explores_73 N  x2_ K k) x3_ μ = some r0 := hf
    unfold gbX6_explores_73 at hf
    refine wr_iload_n 73 C dX6_explores_73 2 rfl rfl ?_
    refine wr_iconst 74 C dX6_explores_74 (v := (-1)) rfl ?_
    refine wr_icmp_eq 75 149 C dX6_explores_75 (by decide) (fun c19 => ?_) (fun c19 => ?_)
    · replace hf := o_pos c19 hf
      refine wr_sub [(0, .ref (q 0)), (2, .int x2_)] [0, 1] rfl ?_
      exact hK  μ hf
    · replace hf := o_neg c19 hf
      refine wr_aload_n 78 C dX6_explores_78 0 rfl rfl ?_
      refine wr_iload_n 79 C dX6_explores_79 2 rfl rfl ?_
      obtain ⟨μ21, h20, hf⟩ := o_bindV hf
      refine wr_Vv (kc1 := 0) (ks1 := 0) 80 [] C dX6_explores_80 (tX6_does l N   x3_ μ μ21 h20) okX6_does q1710 (b := 0) spM_0 rfl ⟨rfl, rfl, Nat.le_of_ble_eq_true rfl, Nat.le_of_ble_eq_true rfl, Nat.zero_le _, Nat.zero_le _⟩ (Nat.le_of_ble_eq_true rfl) rfl ?_
      refine wr_aload_n 83 C dX6_explores_83 0 rfl rfl ?_
      obtain ⟨v24, μ23, h22, hf⟩ := o_bind hf
      refine wr_Vi (kc1 := 0) (ks1 := 0) 84 [] C dX6_explores_84 (tX6_numberOf l N    μ21 (v24, μ23) h22) okX6_numberOf q1841 (b := 0) spM_0 rfl ⟨rfl, rfl, Nat.le_of_ble_eq_true rfl, Nat.le_of_ble_eq_true rfl, Nat.zero_le _, Nat.zero_le _⟩ (Nat.le_of_ble_eq_true rfl) rfl ?_
      refine wr_istore 87 [(4, .int v24), (0, .ref (q 0)), (2, .int x2_), (3, .int x3_)] C dX6_explores_87 rfl (Nat.le_of_ble_eq_true rfl) rfl ?_
      refine wr_aload_n 89 C dX6_explores_89 1 rfl rfl ?_
      refine gespM_0_32_X6 90 C dX6_explores_90 ?_
      refine wr_iload 93 C dX6_explores_93 0 rfl ?_
      obtain ⟨g25, hf⟩ := o_g hf
      refine wr_zald 95 C dX6_explores_95 spM_14 g25 ?_
      obtain ⟨Jexplores128, eJexplores128, hf⟩ := o_let hf
      have hJexplores128 : ∀  (μ26 : wMem), Jexplores128  μ26 = some r0 → wJ p l e ({ frames := 5, cells := 0, slots := 0, locals := 116 } : Room) s m args below meth c 5 D vwCl (spM ++ E) q ca A (wQv ({ frames := 5, cells := 0, slots := 0, locals := 116 } : Room) D vwCl (spM ++ E) q ca below args s A r0) 0 0 μ26 128 [(0, .ref (q 0)), (2, .int x2_), (3, .int x3_)] [] := by
        intro  μ26 hf
        rw [eJexplores128] at hf
        refine wr_aload_n 128 C dX6_explores_128 0 rfl rfl ?_
        refine wr_aload_n 129 C dX6_explores_129 0 rfl rfl ?_
        refine gespM_0_33_X6 130 C dX6_explores_130 ?_
        refine wr_iload_n 133 C dX6_explores_133 1 rfl rfl ?_
        obtain ⟨g27, hf⟩ := o_g hf
        refine wr_iald 134 C dX6_explores_134 spM_15 g27 ?_
        obtain ⟨μ29, h28, hf⟩ := o_bindV hf
        refine wr_Vv (kc1 := 0) (ks1 := 0) 135 [] C dX6_explores_135 (tX6_begin l N   (μ26.1 15 (Int32.toNatClampNeg x2_)) μ26 μ29 h28) okX6_begin q1698 (b := 0) spM_0 rfl ⟨rfl, rfl, Nat.le_of_ble_eq_true rfl, Nat.le_of_ble_eq_true rfl, Nat.zero_le _, Nat.zero_le _⟩ (Nat.le_of_ble_eq_true rfl) rfl ?_
        refine wr_aload_n 138 C dX6_explores_138 0 rfl rfl ?_
        refine wr_iload_n 139 C dX6_explores_139 2 rfl rfl ?_
        refine wr_iconst 140 C dX6_explores_140 (v := 1) rfl ?_
        refine wr_iadd 141 C dX6_explores_141 ?_
        obtain ⟨v32, μ31, h30, hf⟩ := o_bind hf
        refine wr_Vi (kc1 := 0) (ks1 := 0) 142 [] C dX6_explores_142 (tX6_nextAct l N   (x3_ + (1 : Int32)) μ29 (v32, μ31) h30) okX6_nextAct q1814 (b := 0) spM_0 rfl ⟨rfl, rfl, Nat.le_of_ble_eq_true rfl, Nat.le_of_ble_eq_true rfl, Nat.zero_le _, Nat.zero_le _⟩ (Nat.le_of_ble_eq_true rfl) rfl ?_
        refine wr_istore_n 145 [(3, .int v32), (0, .ref (q 0)), (2, .int x2_)] C dX6_explores_145 rfl rfl (Nat.le_of_ble_eq_true rfl) rfl ?_
        refine wr_goto 146 C dX6_explores_146 (tgt := 73) (by decide) ?_
        refine wr_sub [(0, .ref (q 0)), (2, .int x2_), (3, .int v32)] [1, 2, 0] rfl ?_
        exact ih v32 μ31 hf
      refine wr_if_ne 96 128 C dX6_explores_96 (by decide) (fun c33 => ?_) (fun c33 => ?_)
      · replace hf := o_neg c33 hf
        refine wr_sub [(0, .ref (q 0)), (2, .int x2_), (3, .int x3_)] [1, 2, 3] rfl ?_
        exact hJexplores128  μ23 hf
      · replace hf := o_pos c33 hf
        refine wr_aload_n 99 C dX6_explores_99 1 rfl rfl ?_
        refine gespM_0_32_X6 100 C dX6_explores_100 ?_
        refine wr_iload 103 C dX6_explores_103 0 rfl ?_
        refine wr_iconst 105 C dX6_explores_105 (v := 1) rfl ?_
        obtain ⟨g34, hf⟩ := o_g hf
        obtain ⟨μ35, eμ35, hf⟩ := o_let hf
        refine wr_zast 106 C dX6_explores_106 spM_14 g34 rfl eμ35 ?_
        refine wr_aload_n 107 C dX6_explores_107 1 rfl rfl ?_
        refine gespM_0_33_X6 108 C dX6_explores_108 ?_
        refine wr_aload_n 111 C dX6_explores_111 1 rfl rfl ?_
        refine gespM_0_34_X6 112 C dX6_explores_112 ?_
        refine wr_iload 115 C dX6_explores_115 0 rfl ?_
        obtain ⟨g36, hf⟩ := o_g hf
        obtain ⟨μ37, eμ37, hf⟩ := o_let hf
        refine wr_iast 117 C dX6_explores_117 spM_15 g36 eμ37 ?_
        refine wr_aload_n 118 C dX6_explores_118 1 rfl rfl ?_
        refine wr_dup 119 C dX6_explores_119 rfl ?_
        refine gespM_0_34_X6 120 C dX6_explores_120 ?_
        refine wr_iconst 123 C dX6_explores_123 (v := 1) rfl ?_
        refine wr_iadd 124 C dX6_explores_124 ?_
        obtain ⟨μ38, eμ38, hf⟩ := o_let hf
        refine puspM_0_34_X6 125 C dX6_explores_125 eμ38 ?_
        refine wr_sub [(0, .ref (q 0)), (2, .int x2_), (3, .int x3_)] [1, 2, 3] rfl ?_
        exact hJexplores128  μ38 hf
def gbX6_explores_49 (N : Nat)   (K : (wMem → Option wMem)) (rec : (Int32 → wMem → Option wMem)) (x2_ : Int32) (μ : wMem) : Option wMem :=
  if (μ.1 0 34) ≤ x2_ then K  μ else wG (ok_in x2_ 94080) (wBindV (fX6_begin N  (μ.1 15 (Int32.toNatClampNeg x2_)) μ) fun μ15 => wBind (fX6_nextAct N  0 μ15) fun v18 μ17 => gX6_explores_73 N  x2_ (fun  (μ39 : wMem) => wLet (x2_ + 1 : Int32) fun x40 => rec x40 μ39) N v18 μ17)
def gX6_explores_49 (N : Nat)   (K : (wMem → Option wMem)) : Nat → (Int32 → wMem → Option wMem)
  | 0 => fun _ _ => none
  | k + 1 => gbX6_explores_49 N   K (gX6_explores_49 N   K k)
set_option maxHeartbeats 4000000 in
set_option maxRecDepth 100000 in
theorem tX6_explores_49 {p : Program} {l : Launch} {e : Env} {s : State} {m : MethodId} {args : Array Value} {below : List Frame} {meth : Method} {c : Code} {D : va_G} {E : List wCell} {q : Nat → Nat} {ca : wCA} {A : Nat → Prop} (C : wC p ({ frames := 5, cells := 0, slots := 0, locals := 116 } : Room) s m args meth c cX6_explores yX6_explores.cls 5 none D vwCl (spM ++ E) q ca A) (N : Nat)    (K : (wMem → Option wMem)) (r0 : wMem) (hK : ∀  (μ : wMem), K  μ = some r0 → wJ p l e ({ frames := 5, cells := 0, slots := 0, locals := 116 } : Room) s m args below meth c 5 D vwCl (spM ++ E) q ca A (wQv ({ frames := 5, cells := 0, slots := 0, locals := 116 } : Room) D vwCl (spM ++ E) q ca below args s A r0) 0 0 μ 155 [] []) : ∀ (k : Nat) (x2_ : Int32) (μ : wMem), gX6_explores_49 N   K k x2_ μ = some r0 → wJ p l e ({ frames := 5, cells := 0, slots := 0, locals := 116 } : Room) s m args below meth c 5 D vwCl (spM ++ E) q ca A (wQv ({ frames := 5, cells := 0, slots := 0, locals := 116 } : Room) D vwCl (spM ++ E) q ca below args s A r0) 0 0 μ 49 [(0, .ref (q 0)), (2, .int x2_)] [] := by
  intro k
  induction k with
  | zero =>
    intro x2_ μ hf
    cases hf
  | succ k ih =>
    intro x2_ μ hf
    replace hf : gbX6_explores_49 N   K (gX6_explores_49 N   K k) x2_ μ = some r0 := hf
    unfold gbX6_explores_49 at hf
    refine wr_iload_n 49 C dX6_explores_49 1 rfl rfl ?_
    refine wr_aload_n 50 C dX6_explores_50 0 rfl rfl ?_
    refine gespM_0_34_X6 51 C dX6_explores_51 ?_
    refine wr_icmp_ge 54 155 C dX6_explores_54 (by decide) (fun c12 => ?_) (fun c12 => ?_)
    · replace hf := o_pos c12 hf
      refine wr_sub [] [] rfl ?_
      exact hK  μ hf
    · replace hf := o_neg c12 hf
      refine wr_aload_n 57 C dX6_explores_57 0 rfl rfl ?_
      refine wr_aload_n 58 C dX6_explores_58 0 rfl rfl ?_
      refine gespM_0_33_X6 59 C dX6_explores_59 ?_
      refine wr_iload_n 62 C dX6_explores_62 1 rfl rfl ?_
      obtain ⟨g13, hf⟩ := o_g hf
      refine wr_iald 63 C dX6_explores_63 spM_15 g13 ?_
      obtain ⟨μ15, h14, hf⟩ := o_bindV hf
      refine wr_Vv (kc1 := 0) (ks1 := 0) 64 [] C dX6_explores_64 (tX6_begin l N   (μ.1 15 (Int32.toNatClampNeg x2_)) μ μ15 h14) okX6_begin q1698 (b := 0) spM_0 rfl ⟨rfl, rfl, Nat.le_of_ble_eq_true rfl, Nat.le_of_ble_eq_true rfl, Nat.zero_le _, Nat.zero_le _⟩ (Nat.le_of_ble_eq_true rfl) rfl ?_
      refine wr_aload_n 67 C dX6_explores_67 0 rfl rfl ?_
      refine wr_iconst 68 C dX6_explores_68 (v := 0) rfl ?_
      obtain ⟨v18, μ17, h16, hf⟩ := o_bind hf
      refine wr_Vi (kc1 := 0) (ks1 := 0) 69 [] C dX6_explores_69 (tX6_nextAct l N   0 μ15 (v18, μ17) h16) okX6_nextAct q1814 (b := 0) spM_0 rfl ⟨rfl, rfl, Nat.le_of_ble_eq_true rfl, Nat.le_of_ble_eq_true rfl, Nat.zero_le _, Nat.zero_le _⟩ (Nat.le_of_ble_eq_true rfl) rfl ?_
      refine wr_istore_n 72 [(3, .int v18), (0, .ref (q 0)), (2, .int x2_)] C dX6_explores_72 rfl rfl (Nat.le_of_ble_eq_true rfl) rfl ?_
      refine wr_sub [(0, .ref (q 0)), (2, .int x2_), (3, .int v18)] [1, 2, 0] rfl ?_
      refine tX6_explores_73 C N   x2_ _ r0 (fun  μ39 hf => ?_) N v18 μ17 hf
      · replace hf := hf
        obtain ⟨x40, ex40, hf⟩ := o_let hf
        refine wr_iinc 149 [(2, .int x40), (0, .ref (q 0))] C dX6_explores_149 1 rfl (ex40.trans rfl) (Nat.le_of_ble_eq_true rfl) rfl ?_
        refine wr_goto 152 C dX6_explores_152 (tgt := 49) (by decide) ?_
        refine wr_sub [(0, .ref (q 0)), (2, .int x40)] [1, 0] rfl ?_
        exact ih x40 μ39 hf
def fX6_explores (N : Nat)  (a1 : Int32) (μ : wMem) : Option wMem :=
  gX6_explores_2 N  a1 (fun  (μ6 : wMem) => wLet (wSI μ6 0 34 (1 : Int32)) fun μ7 => wG (ok_in (0 : Int32) 94080) (wLet (wSI μ7 15 (Int32.toNatClampNeg (0 : Int32)) a1) fun μ9 => wG (ok_in a1 94080) (wLet (wSI μ9 14 (Int32.toNatClampNeg a1) (1 : Int32)) fun μ11 => gX6_explores_49 N   (fun  (μ41 : wMem) => some μ41) N 0 μ11))) N 0 μ
set_option maxHeartbeats 4000000 in
set_option maxRecDepth 100000 in
theorem tX6_explores (l : Launch) {D : va_G} {E : List wCell} {q : Nat → Nat} {ca : wCA} (N : Nat)   (a1 : Int32) (μ : wMem) (r0 : wMem) (hf : fX6_explores N  a1 μ = some r0) : wMv l yX6_explores cX6_explores 5 none ({ frames := 5, cells := 0, slots := 0, locals := 116 } : Room) D vwCl (spM ++ E) q ca [.ref (q 0), .int a1] μ r0 := by
  refine wMv_intro (by decide) (Nat.le_of_ble_eq_true rfl) ?_
  intro p e s m args below meth c A C
  unfold fX6_explores at hf
  refine wr_sub [(0, .ref (q 0)), (1, .int a1)] [0, 1] rfl ?_
  refine wr_iconst 0 C dX6_explores_0 (v := 0) rfl ?_
  refine wr_istore_n 1 [(2, .int 0), (0, .ref (q 0)), (1, .int a1)] C dX6_explores_1 rfl rfl (Nat.le_of_ble_eq_true rfl) rfl ?_
  refine wr_sub [(0, .ref (q 0)), (1, .int a1), (2, .int 0)] [1, 2, 0] rfl ?_
  refine tX6_explores_2 C N   a1 _ r0 (fun  μ6 hf => ?_) N 0 μ hf
  · replace hf := hf
    refine wr_aload_n 28 C dX6_explores_28 0 rfl rfl ?_
    refine wr_iconst 29 C dX6_explores_29 (v := 1) rfl ?_
    obtain ⟨μ7, eμ7, hf⟩ := o_let hf
    refine puspM_0_34_X6 30 C dX6_explores_30 eμ7 ?_
    refine wr_aload_n 33 C dX6_explores_33 0 rfl rfl ?_
    refine gespM_0_33_X6 34 C dX6_explores_34 ?_
    refine wr_iconst 37 C dX6_explores_37 (v := 0) rfl ?_
    refine wr_iload_n 38 C dX6_explores_38 1 rfl rfl ?_
    obtain ⟨g8, hf⟩ := o_g hf
    obtain ⟨μ9, eμ9, hf⟩ := o_let hf
    refine wr_iast 39 C dX6_explores_39 spM_15 g8 eμ9 ?_
    refine wr_aload_n 40 C dX6_explores_40 0 rfl rfl ?_
    refine gespM_0_32_X6 41 C dX6_explores_41 ?_
    refine wr_iload_n 44 C dX6_explores_44 1 rfl rfl ?_
    refine wr_iconst 45 C dX6_explores_45 (v := 1) rfl ?_
    obtain ⟨g10, hf⟩ := o_g hf
    obtain ⟨μ11, eμ11, hf⟩ := o_let hf
    refine wr_zast 46 C dX6_explores_46 spM_14 g10 rfl eμ11 ?_
    refine wr_iconst 47 C dX6_explores_47 (v := 0) rfl ?_
    refine wr_istore_n 48 [(2, .int 0), (0, .ref (q 0)), (1, .int a1)] C dX6_explores_48 rfl rfl (Nat.le_of_ble_eq_true rfl) rfl ?_
    refine wr_sub [(0, .ref (q 0)), (2, .int 0)] [1, 0] rfl ?_
    refine tX6_explores_49 C N    _ r0 (fun  μ41 hf => ?_) N 0 μ11 hf
    · replace hf := hf
      exact wr_vret 155 C dX6_explores_155 ⟨Nat.zero_le _, Nat.zero_le _⟩ (Option.some.inj hf)
abbrev cX6_isSought : ByteArray := prog_11_method_74_code
def yX6_isSought : MethodName := ⟨RX6, "isSought", "()Z"⟩
def dkwX6_isSought_3 : List UInt8 := [160, 0, 7, 4, 167, 0, 4, 3, 172]
abbrev dktX6_isSought_3 : List UInt8 := dkwX6_isSought_3 ++ []
def dkwX6_isSought_2 : List UInt8 := [180, 0, 238, 4, 42, 180, 0, 34, 5, 46, 120, 4, 100, 42, 180, 0, 34, 8, 46, 2, 130, 126]
abbrev dktX6_isSought_2 : List UInt8 := dkwX6_isSought_2 ++ dktX6_isSought_3
def dkwX6_isSought_1 : List UInt8 := [172, 42, 180, 1, 89, 5, 160, 0, 15, 42, 180, 0, 238, 42, 180, 1, 92, 184, 0, 189, 172, 42]
abbrev dktX6_isSought_1 : List UInt8 := dkwX6_isSought_1 ++ dktX6_isSought_2
def dkwX6_isSought_0 : List UInt8 := [42, 180, 1, 89, 4, 160, 0, 20, 42, 180, 0, 238, 42, 180, 1, 92, 160, 0, 7, 4, 167, 0, 4, 3]
abbrev dktX6_isSought_0 : List UInt8 := dkwX6_isSought_0 ++ dktX6_isSought_1
theorem dksX6_isSought_0 : cX6_isSought.data.toList.drop 0 = dktX6_isSought_0 := by decide +kernel
theorem dksX6_isSought_1 : cX6_isSought.data.toList.drop 24 = dktX6_isSought_1 := dk_seg dksX6_isSought_0 24 rfl rfl
theorem dksX6_isSought_2 : cX6_isSought.data.toList.drop 46 = dktX6_isSought_2 := dk_seg dksX6_isSought_1 22 rfl rfl
theorem dksX6_isSought_3 : cX6_isSought.data.toList.drop 68 = dktX6_isSought_3 := dk_seg dksX6_isSought_2 22 rfl rfl
theorem dX6_isSought_0 : decode cX6_isSought 0 = .ok (.aload_n 0, 1) := dk_42 (dk_at dksX6_isSought_0 0 rfl rfl)
theorem dX6_isSought_1 : decode cX6_isSought 1 = .ok (.getfield 345, 3) := dk_180 1 89 (dk_at dksX6_isSought_0 1 rfl rfl)
theorem dX6_isSought_4 : decode cX6_isSought 4 = .ok (.iconst 1, 1) := dk_4 (dk_at dksX6_isSought_0 4 rfl rfl)
theorem dX6_isSought_5 : decode cX6_isSought 5 = .ok (.if_icmp .ne 20, 3) := dk_160 0 20 (dk_at dksX6_isSought_0 5 rfl rfl)
theorem dX6_isSought_8 : decode cX6_isSought 8 = .ok (.aload_n 0, 1) := dk_42 (dk_at dksX6_isSought_0 8 rfl rfl)
theorem dX6_isSought_9 : decode cX6_isSought 9 = .ok (.getfield 238, 3) := dk_180 0 238 (dk_at dksX6_isSought_0 9 rfl rfl)
theorem dX6_isSought_12 : decode cX6_isSought 12 = .ok (.aload_n 0, 1) := dk_42 (dk_at dksX6_isSought_0 12 rfl rfl)
theorem dX6_isSought_13 : decode cX6_isSought 13 = .ok (.getfield 348, 3) := dk_180 1 92 (dk_at dksX6_isSought_0 13 rfl rfl)
theorem dX6_isSought_16 : decode cX6_isSought 16 = .ok (.if_icmp .ne 7, 3) := dk_160 0 7 (dk_at dksX6_isSought_0 16 rfl rfl)
theorem dX6_isSought_19 : decode cX6_isSought 19 = .ok (.iconst 1, 1) := dk_4 (dk_at dksX6_isSought_0 19 rfl rfl)
theorem dX6_isSought_20 : decode cX6_isSought 20 = .ok (.goto 4, 3) := dk_167 0 4 (dk_at dksX6_isSought_0 20 rfl rfl)
theorem dX6_isSought_23 : decode cX6_isSought 23 = .ok (.iconst 0, 1) := dk_3 (dk_at dksX6_isSought_0 23 rfl rfl)
theorem dX6_isSought_24 : decode cX6_isSought 24 = .ok (.ireturn, 1) := dk_172 (dk_at dksX6_isSought_1 0 rfl rfl)
theorem dX6_isSought_25 : decode cX6_isSought 25 = .ok (.aload_n 0, 1) := dk_42 (dk_at dksX6_isSought_1 1 rfl rfl)
theorem dX6_isSought_26 : decode cX6_isSought 26 = .ok (.getfield 345, 3) := dk_180 1 89 (dk_at dksX6_isSought_1 2 rfl rfl)
theorem dX6_isSought_29 : decode cX6_isSought 29 = .ok (.iconst 2, 1) := dk_5 (dk_at dksX6_isSought_1 5 rfl rfl)
theorem dX6_isSought_30 : decode cX6_isSought 30 = .ok (.if_icmp .ne 15, 3) := dk_160 0 15 (dk_at dksX6_isSought_1 6 rfl rfl)
theorem dX6_isSought_33 : decode cX6_isSought 33 = .ok (.aload_n 0, 1) := dk_42 (dk_at dksX6_isSought_1 9 rfl rfl)
theorem dX6_isSought_34 : decode cX6_isSought 34 = .ok (.getfield 238, 3) := dk_180 0 238 (dk_at dksX6_isSought_1 10 rfl rfl)
theorem dX6_isSought_37 : decode cX6_isSought 37 = .ok (.aload_n 0, 1) := dk_42 (dk_at dksX6_isSought_1 13 rfl rfl)
theorem dX6_isSought_38 : decode cX6_isSought 38 = .ok (.getfield 348, 3) := dk_180 1 92 (dk_at dksX6_isSought_1 14 rfl rfl)
theorem dX6_isSought_41 : decode cX6_isSought 41 = .ok (.invokestatic 189, 3) := dk_184 0 189 (dk_at dksX6_isSought_1 17 rfl rfl)
theorem dX6_isSought_44 : decode cX6_isSought 44 = .ok (.ireturn, 1) := dk_172 (dk_at dksX6_isSought_1 20 rfl rfl)
theorem dX6_isSought_45 : decode cX6_isSought 45 = .ok (.aload_n 0, 1) := dk_42 (dk_at dksX6_isSought_1 21 rfl rfl)
theorem dX6_isSought_46 : decode cX6_isSought 46 = .ok (.getfield 238, 3) := dk_180 0 238 (dk_at dksX6_isSought_2 0 rfl rfl)
theorem dX6_isSought_49 : decode cX6_isSought 49 = .ok (.iconst 1, 1) := dk_4 (dk_at dksX6_isSought_2 3 rfl rfl)
theorem dX6_isSought_50 : decode cX6_isSought 50 = .ok (.aload_n 0, 1) := dk_42 (dk_at dksX6_isSought_2 4 rfl rfl)
theorem dX6_isSought_51 : decode cX6_isSought 51 = .ok (.getfield 34, 3) := dk_180 0 34 (dk_at dksX6_isSought_2 5 rfl rfl)
theorem dX6_isSought_54 : decode cX6_isSought 54 = .ok (.iconst 2, 1) := dk_5 (dk_at dksX6_isSought_2 8 rfl rfl)
theorem dX6_isSought_55 : decode cX6_isSought 55 = .ok (.iaload, 1) := dk_46 (dk_at dksX6_isSought_2 9 rfl rfl)
theorem dX6_isSought_56 : decode cX6_isSought 56 = .ok (.ishl, 1) := dk_120 (dk_at dksX6_isSought_2 10 rfl rfl)
theorem dX6_isSought_57 : decode cX6_isSought 57 = .ok (.iconst 1, 1) := dk_4 (dk_at dksX6_isSought_2 11 rfl rfl)
theorem dX6_isSought_58 : decode cX6_isSought 58 = .ok (.isub, 1) := dk_100 (dk_at dksX6_isSought_2 12 rfl rfl)
theorem dX6_isSought_59 : decode cX6_isSought 59 = .ok (.aload_n 0, 1) := dk_42 (dk_at dksX6_isSought_2 13 rfl rfl)
theorem dX6_isSought_60 : decode cX6_isSought 60 = .ok (.getfield 34, 3) := dk_180 0 34 (dk_at dksX6_isSought_2 14 rfl rfl)
theorem dX6_isSought_63 : decode cX6_isSought 63 = .ok (.iconst 5, 1) := dk_8 (dk_at dksX6_isSought_2 17 rfl rfl)
theorem dX6_isSought_64 : decode cX6_isSought 64 = .ok (.iaload, 1) := dk_46 (dk_at dksX6_isSought_2 18 rfl rfl)
theorem dX6_isSought_65 : decode cX6_isSought 65 = .ok (.iconst (-1), 1) := dk_2 (dk_at dksX6_isSought_2 19 rfl rfl)
theorem dX6_isSought_66 : decode cX6_isSought 66 = .ok (.ixor, 1) := dk_130 (dk_at dksX6_isSought_2 20 rfl rfl)
theorem dX6_isSought_67 : decode cX6_isSought 67 = .ok (.iand, 1) := dk_126 (dk_at dksX6_isSought_2 21 rfl rfl)
theorem dX6_isSought_68 : decode cX6_isSought 68 = .ok (.if_icmp .ne 7, 3) := dk_160 0 7 (dk_at dksX6_isSought_3 0 rfl rfl)
theorem dX6_isSought_71 : decode cX6_isSought 71 = .ok (.iconst 1, 1) := dk_4 (dk_at dksX6_isSought_3 3 rfl rfl)
theorem dX6_isSought_72 : decode cX6_isSought 72 = .ok (.goto 4, 3) := dk_167 0 4 (dk_at dksX6_isSought_3 4 rfl rfl)
theorem dX6_isSought_75 : decode cX6_isSought 75 = .ok (.iconst 0, 1) := dk_3 (dk_at dksX6_isSought_3 7 rfl rfl)
theorem dX6_isSought_76 : decode cX6_isSought 76 = .ok (.ireturn, 1) := dk_172 (dk_at dksX6_isSought_3 8 rfl rfl)
theorem gespM_0_36_X6 {p : Program} {l : Launch} {e : Env} {R : Room} {s : State} {m : MethodId} {args : Array Value} {below : List Frame} {meth : Method} {c : Code} {cc : ByteArray} {nL : Nat} {ret : Option FieldType} {D : va_G} {E : List wCell} {q : Nat → Nat} {ca : wCA} {A : Nat → Prop} {Q : State → Prop} {kc ks : Nat} {μ : wMem} {lv : List (Nat × Value)} {st : List Value} (pc : Nat) (C : wC p R s m args meth c cc "OnePassportModel" nL ret D vwCl (spM ++ E) q ca A) (hd : decode cc pc = .ok (.getfield 345, 3)) (k : wJ p l e R s m args below meth c nL D vwCl (spM ++ E) q ca A Q kc ks μ (pc + 3) lv (.int (μ.1 0 36) :: st)) : wJ p l e R s m args below meth c nL D vwCl (spM ++ E) q ca A Q kc ks μ pc lv (.ref (q 0) :: st) := wr_getI pc 36 C hd spM_0 rfl in_X6 (by decide) rfl q1435 k
theorem gespM_0_37_X6 {p : Program} {l : Launch} {e : Env} {R : Room} {s : State} {m : MethodId} {args : Array Value} {below : List Frame} {meth : Method} {c : Code} {cc : ByteArray} {nL : Nat} {ret : Option FieldType} {D : va_G} {E : List wCell} {q : Nat → Nat} {ca : wCA} {A : Nat → Prop} {Q : State → Prop} {kc ks : Nat} {μ : wMem} {lv : List (Nat × Value)} {st : List Value} (pc : Nat) (C : wC p R s m args meth c cc "OnePassportModel" nL ret D vwCl (spM ++ E) q ca A) (hd : decode cc pc = .ok (.getfield 348, 3)) (k : wJ p l e R s m args below meth c nL D vwCl (spM ++ E) q ca A Q kc ks μ (pc + 3) lv (.int (μ.1 0 37) :: st)) : wJ p l e R s m args below meth c nL D vwCl (spM ++ E) q ca A Q kc ks μ pc lv (.ref (q 0) :: st) := wr_getI pc 37 C hd spM_0 rfl in_X6 (by decide) rfl q1436 k
theorem okX6_isSought : wOkV yX6_isSought cX6_isSought 1 (some .boolean) 0 := ⟨q1855, qs113, q145, q1856, by decide, by decide, by decide +kernel⟩
def fX6_isSought (N : Nat)   (μ : wMem) : Option (Int32 × wMem) :=
  if (μ.1 0 36) = (1 : Int32) then if (μ.1 0 23) = (μ.1 0 37) then some (1, μ) else some (0, μ) else if (μ.1 0 36) = (2 : Int32) then wBind (fX6_isBit N  (μ.1 0 23) (μ.1 0 37) μ) fun v8 μ7 => wG (ok_b v8) (some (v8, μ7)) else wG (ok_in (2 : Int32) 35) (wG (ok_in (5 : Int32) 35) (if (μ.1 0 23) = ((((1 : Int32) <<< ((μ.1 7 (Int32.toNatClampNeg (2 : Int32))) &&& 31)) - (1 : Int32)) &&& ((μ.1 7 (Int32.toNatClampNeg (5 : Int32))) ^^^ (-1 : Int32))) then some (1, μ) else some (0, μ)))
set_option maxHeartbeats 4000000 in
set_option maxRecDepth 100000 in
theorem tX6_isSought (l : Launch) {D : va_G} {E : List wCell} {q : Nat → Nat} {ca : wCA} (N : Nat)    (μ : wMem) (r0 : (Int32 × wMem)) (hf : fX6_isSought N   μ = some r0) : wMi l yX6_isSought cX6_isSought 1 (some .boolean) ({ frames := 1, cells := 0, slots := 0, locals := 21 } : Room) D vwCl (spM ++ E) q ca [.ref (q 0)] μ r0 := by
  refine wMi_intro (by decide) (Nat.le_of_ble_eq_true rfl) ?_
  intro p e s m args below meth c A C
  unfold fX6_isSought at hf
  refine wr_sub [(0, .ref (q 0))] [0] rfl ?_
  refine wr_aload_n 0 C dX6_isSought_0 0 rfl rfl ?_
  refine gespM_0_36_X6 1 C dX6_isSought_1 ?_
  refine wr_iconst 4 C dX6_isSought_4 (v := 1) rfl ?_
  refine wr_icmp_ne 5 25 C dX6_isSought_5 (by decide) (fun c1 => ?_) (fun c1 => ?_)
  · replace hf := o_neg c1 hf
    refine wr_aload_n 25 C dX6_isSought_25 0 rfl rfl ?_
    refine gespM_0_36_X6 26 C dX6_isSought_26 ?_
    refine wr_iconst 29 C dX6_isSought_29 (v := 2) rfl ?_
    refine wr_icmp_ne 30 45 C dX6_isSought_30 (by decide) (fun c2 => ?_) (fun c2 => ?_)
    · replace hf := o_neg c2 hf
      refine wr_aload_n 45 C dX6_isSought_45 0 rfl rfl ?_
      refine gespM_0_23_X6 46 C dX6_isSought_46 ?_
      refine wr_iconst 49 C dX6_isSought_49 (v := 1) rfl ?_
      refine wr_aload_n 50 C dX6_isSought_50 0 rfl rfl ?_
      refine gespM_0_17_X6 51 C dX6_isSought_51 ?_
      refine wr_iconst 54 C dX6_isSought_54 (v := 2) rfl ?_
      obtain ⟨g3, hf⟩ := o_g hf
      refine wr_iald 55 C dX6_isSought_55 spM_7 g3 ?_
      refine wr_ishl 56 C dX6_isSought_56 ?_
      refine wr_iconst 57 C dX6_isSought_57 (v := 1) rfl ?_
      refine wr_isub 58 C dX6_isSought_58 ?_
      refine wr_aload_n 59 C dX6_isSought_59 0 rfl rfl ?_
      refine gespM_0_17_X6 60 C dX6_isSought_60 ?_
      refine wr_iconst 63 C dX6_isSought_63 (v := 5) rfl ?_
      obtain ⟨g4, hf⟩ := o_g hf
      refine wr_iald 64 C dX6_isSought_64 spM_7 g4 ?_
      refine wr_iconst 65 C dX6_isSought_65 (v := (-1)) rfl ?_
      refine wr_ixor 66 C dX6_isSought_66 ?_
      refine wr_iand 67 C dX6_isSought_67 ?_
      refine wr_icmp_ne 68 75 C dX6_isSought_68 (by decide) (fun c5 => ?_) (fun c5 => ?_)
      · replace hf := o_neg c5 hf
        refine wr_iconst 75 C dX6_isSought_75 (v := 0) rfl ?_
        exact wr_zret 76 C dX6_isSought_76 rfl ⟨Nat.zero_le _, Nat.zero_le _⟩ (Option.some.inj hf)
      · replace hf := o_pos c5 hf
        refine wr_iconst 71 C dX6_isSought_71 (v := 1) rfl ?_
        refine wr_goto 72 C dX6_isSought_72 (tgt := 76) (by decide) ?_
        exact wr_zret 76 C dX6_isSought_76 rfl ⟨Nat.zero_le _, Nat.zero_le _⟩ (Option.some.inj hf)
    · replace hf := o_pos c2 hf
      refine wr_aload_n 33 C dX6_isSought_33 0 rfl rfl ?_
      refine gespM_0_23_X6 34 C dX6_isSought_34 ?_
      refine wr_aload_n 37 C dX6_isSought_37 0 rfl rfl ?_
      refine gespM_0_37_X6 38 C dX6_isSought_38 ?_
      obtain ⟨v8, μ7, h6, hf⟩ := o_bind hf
      refine wr_Si (kc1 := 0) (ks1 := 0) 41 [] C dX6_isSought_41 (tX6_isBit l N   (μ.1 0 23) (μ.1 0 37) μ (v8, μ7) h6) okX6_isBit q1660 ⟨rfl, rfl, Nat.le_of_ble_eq_true rfl, Nat.le_of_ble_eq_true rfl, Nat.zero_le _, Nat.zero_le _⟩ (Nat.le_of_ble_eq_true rfl) rfl ?_
      obtain ⟨g9, hf⟩ := o_g hf
      exact wr_zret 44 C dX6_isSought_44 g9 ⟨Nat.zero_le _, Nat.zero_le _⟩ (Option.some.inj hf)
  · replace hf := o_pos c1 hf
    refine wr_aload_n 8 C dX6_isSought_8 0 rfl rfl ?_
    refine gespM_0_23_X6 9 C dX6_isSought_9 ?_
    refine wr_aload_n 12 C dX6_isSought_12 0 rfl rfl ?_
    refine gespM_0_37_X6 13 C dX6_isSought_13 ?_
    refine wr_icmp_ne 16 23 C dX6_isSought_16 (by decide) (fun c10 => ?_) (fun c10 => ?_)
    · replace hf := o_neg c10 hf
      refine wr_iconst 23 C dX6_isSought_23 (v := 0) rfl ?_
      exact wr_zret 24 C dX6_isSought_24 rfl ⟨Nat.zero_le _, Nat.zero_le _⟩ (Option.some.inj hf)
    · replace hf := o_pos c10 hf
      refine wr_iconst 19 C dX6_isSought_19 (v := 1) rfl ?_
      refine wr_goto 20 C dX6_isSought_20 (tgt := 24) (by decide) ?_
      exact wr_zret 24 C dX6_isSought_24 rfl ⟨Nat.zero_le _, Nat.zero_le _⟩ (Option.some.inj hf)
abbrev cX6_costOf : ByteArray := prog_11_method_75_code
def yX6_costOf : MethodName := ⟨RX6, "costOf", "(I)I"⟩
def dkwX6_costOf_3 : List UInt8 := [17, 0, 200, 160, 0, 7, 3, 167, 0, 6, 17, 39, 16, 96, 172]
abbrev dktX6_costOf_3 : List UInt8 := dkwX6_costOf_3 ++ []
def dkwX6_costOf_2 : List UInt8 := [167, 0, 19, 17, 39, 16, 42, 27, 16, 10, 112, 27, 16, 100, 108, 182, 1, 44, 104, 96, 172, 4, 27]
abbrev dktX6_costOf_2 : List UInt8 := dkwX6_costOf_2 ++ dktX6_costOf_3
def dkwX6_costOf_1 : List UInt8 := [154, 0, 5, 28, 172, 42, 180, 1, 95, 4, 160, 0, 33, 28, 27, 17, 0, 200, 160, 0, 7, 3]
abbrev dktX6_costOf_1 : List UInt8 := dkwX6_costOf_1 ++ dktX6_costOf_2
def dkwX6_costOf_0 : List UInt8 := [27, 17, 0, 200, 160, 0, 12, 42, 180, 0, 34, 3, 46, 167, 0, 4, 4, 61, 42, 180, 1, 95]
abbrev dktX6_costOf_0 : List UInt8 := dkwX6_costOf_0 ++ dktX6_costOf_1
theorem dksX6_costOf_0 : cX6_costOf.data.toList.drop 0 = dktX6_costOf_0 := by decide +kernel
theorem dksX6_costOf_1 : cX6_costOf.data.toList.drop 22 = dktX6_costOf_1 := dk_seg dksX6_costOf_0 22 rfl rfl
theorem dksX6_costOf_2 : cX6_costOf.data.toList.drop 44 = dktX6_costOf_2 := dk_seg dksX6_costOf_1 22 rfl rfl
theorem dksX6_costOf_3 : cX6_costOf.data.toList.drop 67 = dktX6_costOf_3 := dk_seg dksX6_costOf_2 23 rfl rfl
theorem dX6_costOf_0 : decode cX6_costOf 0 = .ok (.iload_n 1, 1) := dk_27 (dk_at dksX6_costOf_0 0 rfl rfl)
theorem dX6_costOf_1 : decode cX6_costOf 1 = .ok (.sipush 200, 3) := dk_17 0 200 (dk_at dksX6_costOf_0 1 rfl rfl)
theorem dX6_costOf_4 : decode cX6_costOf 4 = .ok (.if_icmp .ne 12, 3) := dk_160 0 12 (dk_at dksX6_costOf_0 4 rfl rfl)
theorem dX6_costOf_7 : decode cX6_costOf 7 = .ok (.aload_n 0, 1) := dk_42 (dk_at dksX6_costOf_0 7 rfl rfl)
theorem dX6_costOf_8 : decode cX6_costOf 8 = .ok (.getfield 34, 3) := dk_180 0 34 (dk_at dksX6_costOf_0 8 rfl rfl)
theorem dX6_costOf_11 : decode cX6_costOf 11 = .ok (.iconst 0, 1) := dk_3 (dk_at dksX6_costOf_0 11 rfl rfl)
theorem dX6_costOf_12 : decode cX6_costOf 12 = .ok (.iaload, 1) := dk_46 (dk_at dksX6_costOf_0 12 rfl rfl)
theorem dX6_costOf_13 : decode cX6_costOf 13 = .ok (.goto 4, 3) := dk_167 0 4 (dk_at dksX6_costOf_0 13 rfl rfl)
theorem dX6_costOf_16 : decode cX6_costOf 16 = .ok (.iconst 1, 1) := dk_4 (dk_at dksX6_costOf_0 16 rfl rfl)
theorem dX6_costOf_17 : decode cX6_costOf 17 = .ok (.istore_n 2, 1) := dk_61 (dk_at dksX6_costOf_0 17 rfl rfl)
theorem dX6_costOf_18 : decode cX6_costOf 18 = .ok (.aload_n 0, 1) := dk_42 (dk_at dksX6_costOf_0 18 rfl rfl)
theorem dX6_costOf_19 : decode cX6_costOf 19 = .ok (.getfield 351, 3) := dk_180 1 95 (dk_at dksX6_costOf_0 19 rfl rfl)
theorem dX6_costOf_22 : decode cX6_costOf 22 = .ok (.ifCond .ne 5, 3) := dk_154 0 5 (dk_at dksX6_costOf_1 0 rfl rfl)
theorem dX6_costOf_25 : decode cX6_costOf 25 = .ok (.iload_n 2, 1) := dk_28 (dk_at dksX6_costOf_1 3 rfl rfl)
theorem dX6_costOf_26 : decode cX6_costOf 26 = .ok (.ireturn, 1) := dk_172 (dk_at dksX6_costOf_1 4 rfl rfl)
theorem dX6_costOf_27 : decode cX6_costOf 27 = .ok (.aload_n 0, 1) := dk_42 (dk_at dksX6_costOf_1 5 rfl rfl)
theorem dX6_costOf_28 : decode cX6_costOf 28 = .ok (.getfield 351, 3) := dk_180 1 95 (dk_at dksX6_costOf_1 6 rfl rfl)
theorem dX6_costOf_31 : decode cX6_costOf 31 = .ok (.iconst 1, 1) := dk_4 (dk_at dksX6_costOf_1 9 rfl rfl)
theorem dX6_costOf_32 : decode cX6_costOf 32 = .ok (.if_icmp .ne 33, 3) := dk_160 0 33 (dk_at dksX6_costOf_1 10 rfl rfl)
theorem dX6_costOf_35 : decode cX6_costOf 35 = .ok (.iload_n 2, 1) := dk_28 (dk_at dksX6_costOf_1 13 rfl rfl)
theorem dX6_costOf_36 : decode cX6_costOf 36 = .ok (.iload_n 1, 1) := dk_27 (dk_at dksX6_costOf_1 14 rfl rfl)
theorem dX6_costOf_37 : decode cX6_costOf 37 = .ok (.sipush 200, 3) := dk_17 0 200 (dk_at dksX6_costOf_1 15 rfl rfl)
theorem dX6_costOf_40 : decode cX6_costOf 40 = .ok (.if_icmp .ne 7, 3) := dk_160 0 7 (dk_at dksX6_costOf_1 18 rfl rfl)
theorem dX6_costOf_43 : decode cX6_costOf 43 = .ok (.iconst 0, 1) := dk_3 (dk_at dksX6_costOf_1 21 rfl rfl)
theorem dX6_costOf_44 : decode cX6_costOf 44 = .ok (.goto 19, 3) := dk_167 0 19 (dk_at dksX6_costOf_2 0 rfl rfl)
theorem dX6_costOf_47 : decode cX6_costOf 47 = .ok (.sipush 10000, 3) := dk_17 39 16 (dk_at dksX6_costOf_2 3 rfl rfl)
theorem dX6_costOf_50 : decode cX6_costOf 50 = .ok (.aload_n 0, 1) := dk_42 (dk_at dksX6_costOf_2 6 rfl rfl)
theorem dX6_costOf_51 : decode cX6_costOf 51 = .ok (.iload_n 1, 1) := dk_27 (dk_at dksX6_costOf_2 7 rfl rfl)
theorem dX6_costOf_52 : decode cX6_costOf 52 = .ok (.bipush 10, 2) := dk_16 10 (dk_at dksX6_costOf_2 8 rfl rfl)
theorem dX6_costOf_54 : decode cX6_costOf 54 = .ok (.irem, 1) := dk_112 (dk_at dksX6_costOf_2 10 rfl rfl)
theorem dX6_costOf_55 : decode cX6_costOf 55 = .ok (.iload_n 1, 1) := dk_27 (dk_at dksX6_costOf_2 11 rfl rfl)
theorem dX6_costOf_56 : decode cX6_costOf 56 = .ok (.bipush 100, 2) := dk_16 100 (dk_at dksX6_costOf_2 12 rfl rfl)
theorem dX6_costOf_58 : decode cX6_costOf 58 = .ok (.idiv, 1) := dk_108 (dk_at dksX6_costOf_2 14 rfl rfl)
theorem dX6_costOf_59 : decode cX6_costOf 59 = .ok (.invokevirtual 300, 3) := dk_182 1 44 (dk_at dksX6_costOf_2 15 rfl rfl)
theorem dX6_costOf_62 : decode cX6_costOf 62 = .ok (.imul, 1) := dk_104 (dk_at dksX6_costOf_2 18 rfl rfl)
theorem dX6_costOf_63 : decode cX6_costOf 63 = .ok (.iadd, 1) := dk_96 (dk_at dksX6_costOf_2 19 rfl rfl)
theorem dX6_costOf_64 : decode cX6_costOf 64 = .ok (.ireturn, 1) := dk_172 (dk_at dksX6_costOf_2 20 rfl rfl)
theorem dX6_costOf_65 : decode cX6_costOf 65 = .ok (.iconst 1, 1) := dk_4 (dk_at dksX6_costOf_2 21 rfl rfl)
theorem dX6_costOf_66 : decode cX6_costOf 66 = .ok (.iload_n 1, 1) := dk_27 (dk_at dksX6_costOf_2 22 rfl rfl)
theorem dX6_costOf_67 : decode cX6_costOf 67 = .ok (.sipush 200, 3) := dk_17 0 200 (dk_at dksX6_costOf_3 0 rfl rfl)
theorem dX6_costOf_70 : decode cX6_costOf 70 = .ok (.if_icmp .ne 7, 3) := dk_160 0 7 (dk_at dksX6_costOf_3 3 rfl rfl)
theorem dX6_costOf_73 : decode cX6_costOf 73 = .ok (.iconst 0, 1) := dk_3 (dk_at dksX6_costOf_3 6 rfl rfl)
theorem dX6_costOf_74 : decode cX6_costOf 74 = .ok (.goto 6, 3) := dk_167 0 6 (dk_at dksX6_costOf_3 7 rfl rfl)
theorem dX6_costOf_77 : decode cX6_costOf 77 = .ok (.sipush 10000, 3) := dk_17 39 16 (dk_at dksX6_costOf_3 10 rfl rfl)
theorem dX6_costOf_80 : decode cX6_costOf 80 = .ok (.iadd, 1) := dk_96 (dk_at dksX6_costOf_3 13 rfl rfl)
theorem dX6_costOf_81 : decode cX6_costOf 81 = .ok (.ireturn, 1) := dk_172 (dk_at dksX6_costOf_3 14 rfl rfl)
theorem gespM_0_38_X6 {p : Program} {l : Launch} {e : Env} {R : Room} {s : State} {m : MethodId} {args : Array Value} {below : List Frame} {meth : Method} {c : Code} {cc : ByteArray} {nL : Nat} {ret : Option FieldType} {D : va_G} {E : List wCell} {q : Nat → Nat} {ca : wCA} {A : Nat → Prop} {Q : State → Prop} {kc ks : Nat} {μ : wMem} {lv : List (Nat × Value)} {st : List Value} (pc : Nat) (C : wC p R s m args meth c cc "OnePassportModel" nL ret D vwCl (spM ++ E) q ca A) (hd : decode cc pc = .ok (.getfield 351, 3)) (k : wJ p l e R s m args below meth c nL D vwCl (spM ++ E) q ca A Q kc ks μ (pc + 3) lv (.int (μ.1 0 38) :: st)) : wJ p l e R s m args below meth c nL D vwCl (spM ++ E) q ca A Q kc ks μ pc lv (.ref (q 0) :: st) := wr_getI pc 38 C hd spM_0 rfl in_X6 (by decide) rfl q1437 k
theorem okX6_costOf : wOkV yX6_costOf cX6_costOf 3 (some .int) 1 := ⟨q1868, qs116, q145, q1869, by decide, by decide, by decide +kernel⟩
def fX6_costOf (N : Nat)  (a1 : Int32) (μ : wMem) : Option (Int32 × wMem) :=
  wLet (fun (v2 : Int32) (μ1 : wMem) => if (μ1.1 0 38) = 0 then some (v2, μ1) else if (μ1.1 0 38) = (1 : Int32) then wLet (fun (v10 : Int32) (v11 : Int32) (μ9 : wMem) => some (v11 + v10, μ9)) fun JcostOf63 => if a1 = (200 : Int32) then JcostOf63 0 v2 μ1 else wBind (fX6_riskOf N  (a1 - a1 / (10 : Int32) * (10 : Int32)) (a1 / (100 : Int32)) μ1) fun v15 μ14 => JcostOf63 ((10000 : Int32) * v15) v2 μ14 else wLet (fun (v6 : Int32) (v7 : Int32) (μ5 : wMem) => some (v7 + v6, μ5)) fun JcostOf80 => if a1 = (200 : Int32) then JcostOf80 0 1 μ1 else JcostOf80 10000 1 μ1) fun JcostOf17 => if a1 = (200 : Int32) then wG (ok_in (0 : Int32) 35) (JcostOf17 (μ.1 7 (Int32.toNatClampNeg (0 : Int32))) μ) else JcostOf17 1 μ
set_option maxHeartbeats 4000000 in
set_option maxRecDepth 100000 in
theorem tX6_costOf (l : Launch) {D : va_G} {E : List wCell} {q : Nat → Nat} {ca : wCA} (N : Nat)   (a1 : Int32) (μ : wMem) (r0 : (Int32 × wMem)) (hf : fX6_costOf N  a1 μ = some r0) : wMi l yX6_costOf cX6_costOf 3 (some .int) ({ frames := 1, cells := 0, slots := 0, locals := 22 } : Room) D vwCl (spM ++ E) q ca [.ref (q 0), .int a1] μ r0 := by
  refine wMi_intro (by decide) (Nat.le_of_ble_eq_true rfl) ?_
  intro p e s m args below meth c A C
  unfold fX6_costOf at hf
  refine wr_sub [(0, .ref (q 0)), (1, .int a1)] [0, 1] rfl ?_
  refine wr_iload_n 0 C dX6_costOf_0 1 rfl rfl ?_
  refine wr_sipush 1 C dX6_costOf_1 (v := 200) rfl ?_
  obtain ⟨JcostOf17, eJcostOf17, hf⟩ := o_let hf
  have hJcostOf17 : ∀ (v2 : Int32) (μ1 : wMem), JcostOf17 v2 μ1 = some r0 → wJ p l e ({ frames := 1, cells := 0, slots := 0, locals := 22 } : Room) s m args below meth c 3 D vwCl (spM ++ E) q ca A (wQi ({ frames := 1, cells := 0, slots := 0, locals := 22 } : Room) D vwCl (spM ++ E) q ca below args s A r0) 0 0 μ1 17 [(0, .ref (q 0)), (1, .int a1)] [.int v2] := by
    intro v2 μ1 hf
    rw [eJcostOf17] at hf
    refine wr_istore_n 17 [(2, .int v2), (0, .ref (q 0)), (1, .int a1)] C dX6_costOf_17 rfl rfl (Nat.le_of_ble_eq_true rfl) rfl ?_
    refine wr_aload_n 18 C dX6_costOf_18 1 rfl rfl ?_
    refine gespM_0_38_X6 19 C dX6_costOf_19 ?_
    refine wr_if_ne 22 27 C dX6_costOf_22 (by decide) (fun c3 => ?_) (fun c3 => ?_)
    · replace hf := o_neg c3 hf
      refine wr_aload_n 27 C dX6_costOf_27 1 rfl rfl ?_
      refine gespM_0_38_X6 28 C dX6_costOf_28 ?_
      refine wr_iconst 31 C dX6_costOf_31 (v := 1) rfl ?_
      refine wr_icmp_ne 32 65 C dX6_costOf_32 (by decide) (fun c4 => ?_) (fun c4 => ?_)
      · replace hf := o_neg c4 hf
        refine wr_iconst 65 C dX6_costOf_65 (v := 1) rfl ?_
        refine wr_iload_n 66 C dX6_costOf_66 2 rfl rfl ?_
        refine wr_sipush 67 C dX6_costOf_67 (v := 200) rfl ?_
        obtain ⟨JcostOf80, eJcostOf80, hf⟩ := o_let hf
        have hJcostOf80 : ∀ (v6 : Int32) (v7 : Int32) (μ5 : wMem), JcostOf80 v6 v7 μ5 = some r0 → wJ p l e ({ frames := 1, cells := 0, slots := 0, locals := 22 } : Room) s m args below meth c 3 D vwCl (spM ++ E) q ca A (wQi ({ frames := 1, cells := 0, slots := 0, locals := 22 } : Room) D vwCl (spM ++ E) q ca below args s A r0) 0 0 μ5 80 [] [.int v6, .int v7] := by
          intro v6 v7 μ5 hf
          rw [eJcostOf80] at hf
          refine wr_iadd 80 C dX6_costOf_80 ?_
          exact wr_iret 81 C dX6_costOf_81 ⟨Nat.zero_le _, Nat.zero_le _⟩ (Option.some.inj hf)
        refine wr_icmp_ne 70 77 C dX6_costOf_70 (by decide) (fun c8 => ?_) (fun c8 => ?_)
        · replace hf := o_neg c8 hf
          refine wr_sipush 77 C dX6_costOf_77 (v := 10000) rfl ?_
          refine wr_sub [] [] rfl ?_
          exact hJcostOf80 10000 1 μ1 hf
        · replace hf := o_pos c8 hf
          refine wr_iconst 73 C dX6_costOf_73 (v := 0) rfl ?_
          refine wr_goto 74 C dX6_costOf_74 (tgt := 80) (by decide) ?_
          refine wr_sub [] [] rfl ?_
          exact hJcostOf80 0 1 μ1 hf
      · replace hf := o_pos c4 hf
        refine wr_iload_n 35 C dX6_costOf_35 0 rfl rfl ?_
        refine wr_iload_n 36 C dX6_costOf_36 2 rfl rfl ?_
        refine wr_sipush 37 C dX6_costOf_37 (v := 200) rfl ?_
        obtain ⟨JcostOf63, eJcostOf63, hf⟩ := o_let hf
        have hJcostOf63 : ∀ (v10 : Int32) (v11 : Int32) (μ9 : wMem), JcostOf63 v10 v11 μ9 = some r0 → wJ p l e ({ frames := 1, cells := 0, slots := 0, locals := 22 } : Room) s m args below meth c 3 D vwCl (spM ++ E) q ca A (wQi ({ frames := 1, cells := 0, slots := 0, locals := 22 } : Room) D vwCl (spM ++ E) q ca below args s A r0) 0 0 μ9 63 [] [.int v10, .int v11] := by
          intro v10 v11 μ9 hf
          rw [eJcostOf63] at hf
          refine wr_iadd 63 C dX6_costOf_63 ?_
          exact wr_iret 64 C dX6_costOf_64 ⟨Nat.zero_le _, Nat.zero_le _⟩ (Option.some.inj hf)
        refine wr_icmp_ne 40 47 C dX6_costOf_40 (by decide) (fun c12 => ?_) (fun c12 => ?_)
        · replace hf := o_neg c12 hf
          refine wr_sipush 47 C dX6_costOf_47 (v := 10000) rfl ?_
          refine wr_aload_n 50 C dX6_costOf_50 1 rfl rfl ?_
          refine wr_iload_n 51 C dX6_costOf_51 2 rfl rfl ?_
          refine wr_bipush 52 C dX6_costOf_52 (v := 10) rfl ?_
          refine wr_irem 54 C dX6_costOf_54 (by decide) ?_
          refine wr_iload_n 55 C dX6_costOf_55 2 rfl rfl ?_
          refine wr_bipush 56 C dX6_costOf_56 (v := 100) rfl ?_
          refine wr_idiv 58 C dX6_costOf_58 (by decide) ?_
          obtain ⟨v15, μ14, h13, hf⟩ := o_bind hf
          refine wr_Vi (kc1 := 0) (ks1 := 0) 59 [.int 10000, .int v2] C dX6_costOf_59 (tX6_riskOf l N   (a1 - a1 / (10 : Int32) * (10 : Int32)) (a1 / (100 : Int32)) μ1 (v15, μ14) h13) okX6_riskOf q1706 (b := 0) spM_0 rfl ⟨rfl, rfl, Nat.le_of_ble_eq_true rfl, Nat.le_of_ble_eq_true rfl, Nat.zero_le _, Nat.zero_le _⟩ (Nat.le_of_ble_eq_true rfl) rfl ?_
          refine wr_imul 62 C dX6_costOf_62 ?_
          refine wr_sub [] [] rfl ?_
          exact hJcostOf63 ((10000 : Int32) * v15) v2 μ14 hf
        · replace hf := o_pos c12 hf
          refine wr_iconst 43 C dX6_costOf_43 (v := 0) rfl ?_
          refine wr_goto 44 C dX6_costOf_44 (tgt := 63) (by decide) ?_
          refine wr_sub [] [] rfl ?_
          exact hJcostOf63 0 v2 μ1 hf
    · replace hf := o_pos c3 hf
      refine wr_iload_n 25 C dX6_costOf_25 0 rfl rfl ?_
      exact wr_iret 26 C dX6_costOf_26 ⟨Nat.zero_le _, Nat.zero_le _⟩ (Option.some.inj hf)
  refine wr_icmp_ne 4 16 C dX6_costOf_4 (by decide) (fun c16 => ?_) (fun c16 => ?_)
  · replace hf := o_neg c16 hf
    refine wr_iconst 16 C dX6_costOf_16 (v := 1) rfl ?_
    exact hJcostOf17 1 μ hf
  · replace hf := o_pos c16 hf
    refine wr_aload_n 7 C dX6_costOf_7 0 rfl rfl ?_
    refine gespM_0_17_X6 8 C dX6_costOf_8 ?_
    refine wr_iconst 11 C dX6_costOf_11 (v := 0) rfl ?_
    obtain ⟨g17, hf⟩ := o_g hf
    refine wr_iald 12 C dX6_costOf_12 spM_7 g17 ?_
    refine wr_goto 13 C dX6_costOf_13 (tgt := 17) (by decide) ?_
    exact hJcostOf17 (μ.1 7 (Int32.toNatClampNeg (0 : Int32))) μ hf
abbrev cX6_costBy : ByteArray := prog_11_method_78_code
def yX6_costBy : MethodName := ⟨RX6, "costBy", "(I)I"⟩
def dkwX6_costBy_1 : List UInt8 := [19, 1, 101, 167, 0, 10, 28, 42, 27, 182, 1, 108, 96, 172]
abbrev dktX6_costBy_1 : List UInt8 := dkwX6_costBy_1 ++ []
def dkwX6_costBy_0 : List UInt8 := [42, 27, 182, 1, 47, 42, 180, 0, 63, 42, 182, 1, 86, 46, 61, 28, 19, 1, 101, 160, 0, 9]
abbrev dktX6_costBy_0 : List UInt8 := dkwX6_costBy_0 ++ dktX6_costBy_1
theorem dksX6_costBy_0 : cX6_costBy.data.toList.drop 0 = dktX6_costBy_0 := by decide +kernel
theorem dksX6_costBy_1 : cX6_costBy.data.toList.drop 22 = dktX6_costBy_1 := dk_seg dksX6_costBy_0 22 rfl rfl
theorem dX6_costBy_0 : decode cX6_costBy 0 = .ok (.aload_n 0, 1) := dk_42 (dk_at dksX6_costBy_0 0 rfl rfl)
theorem dX6_costBy_1 : decode cX6_costBy 1 = .ok (.iload_n 1, 1) := dk_27 (dk_at dksX6_costBy_0 1 rfl rfl)
theorem dX6_costBy_2 : decode cX6_costBy 2 = .ok (.invokevirtual 303, 3) := dk_182 1 47 (dk_at dksX6_costBy_0 2 rfl rfl)
theorem dX6_costBy_5 : decode cX6_costBy 5 = .ok (.aload_n 0, 1) := dk_42 (dk_at dksX6_costBy_0 5 rfl rfl)
theorem dX6_costBy_6 : decode cX6_costBy 6 = .ok (.getfield 63, 3) := dk_180 0 63 (dk_at dksX6_costBy_0 6 rfl rfl)
theorem dX6_costBy_9 : decode cX6_costBy 9 = .ok (.aload_n 0, 1) := dk_42 (dk_at dksX6_costBy_0 9 rfl rfl)
theorem dX6_costBy_10 : decode cX6_costBy 10 = .ok (.invokevirtual 342, 3) := dk_182 1 86 (dk_at dksX6_costBy_0 10 rfl rfl)
theorem dX6_costBy_13 : decode cX6_costBy 13 = .ok (.iaload, 1) := dk_46 (dk_at dksX6_costBy_0 13 rfl rfl)
theorem dX6_costBy_14 : decode cX6_costBy 14 = .ok (.istore_n 2, 1) := dk_61 (dk_at dksX6_costBy_0 14 rfl rfl)
theorem dX6_costBy_15 : decode cX6_costBy 15 = .ok (.iload_n 2, 1) := dk_28 (dk_at dksX6_costBy_0 15 rfl rfl)
theorem dX6_costBy_16 : decode cX6_costBy 16 = .ok (.ldc_w 357, 3) := dk_19 1 101 (dk_at dksX6_costBy_0 16 rfl rfl)
theorem dX6_costBy_19 : decode cX6_costBy 19 = .ok (.if_icmp .ne 9, 3) := dk_160 0 9 (dk_at dksX6_costBy_0 19 rfl rfl)
theorem dX6_costBy_22 : decode cX6_costBy 22 = .ok (.ldc_w 357, 3) := dk_19 1 101 (dk_at dksX6_costBy_1 0 rfl rfl)
theorem dX6_costBy_25 : decode cX6_costBy 25 = .ok (.goto 10, 3) := dk_167 0 10 (dk_at dksX6_costBy_1 3 rfl rfl)
theorem dX6_costBy_28 : decode cX6_costBy 28 = .ok (.iload_n 2, 1) := dk_28 (dk_at dksX6_costBy_1 6 rfl rfl)
theorem dX6_costBy_29 : decode cX6_costBy 29 = .ok (.aload_n 0, 1) := dk_42 (dk_at dksX6_costBy_1 7 rfl rfl)
theorem dX6_costBy_30 : decode cX6_costBy 30 = .ok (.iload_n 1, 1) := dk_27 (dk_at dksX6_costBy_1 8 rfl rfl)
theorem dX6_costBy_31 : decode cX6_costBy 31 = .ok (.invokevirtual 364, 3) := dk_182 1 108 (dk_at dksX6_costBy_1 9 rfl rfl)
theorem dX6_costBy_34 : decode cX6_costBy 34 = .ok (.iadd, 1) := dk_96 (dk_at dksX6_costBy_1 12 rfl rfl)
theorem dX6_costBy_35 : decode cX6_costBy 35 = .ok (.ireturn, 1) := dk_172 (dk_at dksX6_costBy_1 13 rfl rfl)
theorem gespM_0_35_X6 {p : Program} {l : Launch} {e : Env} {R : Room} {s : State} {m : MethodId} {args : Array Value} {below : List Frame} {meth : Method} {c : Code} {cc : ByteArray} {nL : Nat} {ret : Option FieldType} {D : va_G} {E : List wCell} {q : Nat → Nat} {ca : wCA} {A : Nat → Prop} {Q : State → Prop} {kc ks : Nat} {μ : wMem} {lv : List (Nat × Value)} {st : List Value} (pc : Nat) (C : wC p R s m args meth c cc "OnePassportModel" nL ret D vwCl (spM ++ E) q ca A) (hd : decode cc pc = .ok (.getfield 63, 3)) (k : wJ p l e R s m args below meth c nL D vwCl (spM ++ E) q ca A Q kc ks μ (pc + 3) lv (.ref (q 16) :: st)) : wJ p l e R s m args below meth c nL D vwCl (spM ++ E) q ca A Q kc ks μ pc lv (.ref (q 0) :: st) := wr_getR pc 35 C hd spM_0 rfl in_X6 (by decide) rfl q1434 k
theorem okX6_costBy : wOkV yX6_costBy cX6_costBy 3 (some .int) 1 := ⟨q1864, qs115, q145, q1865, by decide, by decide, by decide +kernel⟩
def fX6_costBy (N : Nat)  (a1 : Int32) (μ : wMem) : Option (Int32 × wMem) :=
  wBindV (fX6_does N  a1 μ) fun μ2 => wBind (fX6_numberOf N   μ2) fun v5 μ4 => wG (ok_in v5 94080) (wLet (μ4.1 16 (Int32.toNatClampNeg v5) : Int32) fun x7 => if x7 = (2000000000 : Int32) then some (2000000000, μ4) else wBind (fX6_costOf N  a1 μ4) fun v11 μ10 => some (x7 + v11, μ10))
set_option maxHeartbeats 4000000 in
set_option maxRecDepth 100000 in
theorem tX6_costBy (l : Launch) {D : va_G} {E : List wCell} {q : Nat → Nat} {ca : wCA} (N : Nat)   (a1 : Int32) (μ : wMem) (r0 : (Int32 × wMem)) (hf : fX6_costBy N  a1 μ = some r0) : wMi l yX6_costBy cX6_costBy 3 (some .int) ({ frames := 3, cells := 0, slots := 0, locals := 70 } : Room) D vwCl (spM ++ E) q ca [.ref (q 0), .int a1] μ r0 := by
  refine wMi_intro (by decide) (Nat.le_of_ble_eq_true rfl) ?_
  intro p e s m args below meth c A C
  unfold fX6_costBy at hf
  refine wr_sub [(0, .ref (q 0)), (1, .int a1)] [0, 1] rfl ?_
  refine wr_aload_n 0 C dX6_costBy_0 0 rfl rfl ?_
  refine wr_iload_n 1 C dX6_costBy_1 1 rfl rfl ?_
  obtain ⟨μ2, h1, hf⟩ := o_bindV hf
  refine wr_Vv (kc1 := 0) (ks1 := 0) 2 [] C dX6_costBy_2 (tX6_does l N   a1 μ μ2 h1) okX6_does q1710 (b := 0) spM_0 rfl ⟨rfl, rfl, Nat.le_of_ble_eq_true rfl, Nat.le_of_ble_eq_true rfl, Nat.zero_le _, Nat.zero_le _⟩ (Nat.le_of_ble_eq_true rfl) rfl ?_
  refine wr_aload_n 5 C dX6_costBy_5 0 rfl rfl ?_
  refine gespM_0_35_X6 6 C dX6_costBy_6 ?_
  refine wr_aload_n 9 C dX6_costBy_9 0 rfl rfl ?_
  obtain ⟨v5, μ4, h3, hf⟩ := o_bind hf
  refine wr_Vi (kc1 := 0) (ks1 := 0) 10 [.ref (q 16)] C dX6_costBy_10 (tX6_numberOf l N    μ2 (v5, μ4) h3) okX6_numberOf q1841 (b := 0) spM_0 rfl ⟨rfl, rfl, Nat.le_of_ble_eq_true rfl, Nat.le_of_ble_eq_true rfl, Nat.zero_le _, Nat.zero_le _⟩ (Nat.le_of_ble_eq_true rfl) rfl ?_
  obtain ⟨g6, hf⟩ := o_g hf
  refine wr_iald 13 C dX6_costBy_13 spM_16 g6 ?_
  obtain ⟨x7, ex7, hf⟩ := o_let hf
  refine wr_istore_n 14 [(2, .int x7), (0, .ref (q 0)), (1, .int a1)] C dX6_costBy_14 ex7 rfl (Nat.le_of_ble_eq_true rfl) rfl ?_
  refine wr_iload_n 15 C dX6_costBy_15 0 rfl rfl ?_
  refine wr_ldcw 16 C dX6_costBy_16 q1857 ?_
  refine wr_icmp_ne 19 28 C dX6_costBy_19 (by decide) (fun c8 => ?_) (fun c8 => ?_)
  · replace hf := o_neg c8 hf
    refine wr_iload_n 28 C dX6_costBy_28 0 rfl rfl ?_
    refine wr_aload_n 29 C dX6_costBy_29 1 rfl rfl ?_
    refine wr_iload_n 30 C dX6_costBy_30 2 rfl rfl ?_
    obtain ⟨v11, μ10, h9, hf⟩ := o_bind hf
    refine wr_Vi (kc1 := 0) (ks1 := 0) 31 [.int x7] C dX6_costBy_31 (tX6_costOf l N   a1 μ4 (v11, μ10) h9) okX6_costOf q1866 (b := 0) spM_0 rfl ⟨rfl, rfl, Nat.le_of_ble_eq_true rfl, Nat.le_of_ble_eq_true rfl, Nat.zero_le _, Nat.zero_le _⟩ (Nat.le_of_ble_eq_true rfl) rfl ?_
    refine wr_iadd 34 C dX6_costBy_34 ?_
    exact wr_iret 35 C dX6_costBy_35 ⟨Nat.zero_le _, Nat.zero_le _⟩ (Option.some.inj hf)
  · replace hf := o_pos c8 hf
    refine wr_ldcw 22 C dX6_costBy_22 q1857 ?_
    refine wr_goto 25 C dX6_costBy_25 (tgt := 35) (by decide) ?_
    exact wr_iret 35 C dX6_costBy_35 ⟨Nat.zero_le _, Nat.zero_le _⟩ (Option.some.inj hf)
abbrev cX6_betters : ByteArray := prog_11_method_77_code
def yX6_betters : MethodName := ⟨RX6, "betters", "(I)Z"⟩
def dkwX6_betters_2 : List UInt8 := [27, 182, 1, 32, 42, 29, 4, 96, 182, 1, 80, 62, 167, 255, 210, 28, 172]
abbrev dktX6_betters_2 : List UInt8 := dkwX6_betters_2 ++ []
def dkwX6_betters_1 : List UInt8 := [54, 4, 21, 4, 42, 180, 0, 63, 27, 46, 162, 0, 13, 42, 180, 0, 63, 27, 21, 4, 79, 4, 61, 42]
abbrev dktX6_betters_1 : List UInt8 := dkwX6_betters_1 ++ dktX6_betters_2
def dkwX6_betters_0 : List UInt8 := [3, 61, 42, 27, 182, 1, 32, 42, 3, 182, 1, 80, 62, 29, 2, 159, 0, 47, 42, 29, 182, 1, 105]
abbrev dktX6_betters_0 : List UInt8 := dkwX6_betters_0 ++ dktX6_betters_1
theorem dksX6_betters_0 : cX6_betters.data.toList.drop 0 = dktX6_betters_0 := by decide +kernel
theorem dksX6_betters_1 : cX6_betters.data.toList.drop 23 = dktX6_betters_1 := dk_seg dksX6_betters_0 23 rfl rfl
theorem dksX6_betters_2 : cX6_betters.data.toList.drop 47 = dktX6_betters_2 := dk_seg dksX6_betters_1 24 rfl rfl
theorem dX6_betters_0 : decode cX6_betters 0 = .ok (.iconst 0, 1) := dk_3 (dk_at dksX6_betters_0 0 rfl rfl)
theorem dX6_betters_1 : decode cX6_betters 1 = .ok (.istore_n 2, 1) := dk_61 (dk_at dksX6_betters_0 1 rfl rfl)
theorem dX6_betters_2 : decode cX6_betters 2 = .ok (.aload_n 0, 1) := dk_42 (dk_at dksX6_betters_0 2 rfl rfl)
theorem dX6_betters_3 : decode cX6_betters 3 = .ok (.iload_n 1, 1) := dk_27 (dk_at dksX6_betters_0 3 rfl rfl)
theorem dX6_betters_4 : decode cX6_betters 4 = .ok (.invokevirtual 288, 3) := dk_182 1 32 (dk_at dksX6_betters_0 4 rfl rfl)
theorem dX6_betters_7 : decode cX6_betters 7 = .ok (.aload_n 0, 1) := dk_42 (dk_at dksX6_betters_0 7 rfl rfl)
theorem dX6_betters_8 : decode cX6_betters 8 = .ok (.iconst 0, 1) := dk_3 (dk_at dksX6_betters_0 8 rfl rfl)
theorem dX6_betters_9 : decode cX6_betters 9 = .ok (.invokevirtual 336, 3) := dk_182 1 80 (dk_at dksX6_betters_0 9 rfl rfl)
theorem dX6_betters_12 : decode cX6_betters 12 = .ok (.istore_n 3, 1) := dk_62 (dk_at dksX6_betters_0 12 rfl rfl)
theorem dX6_betters_13 : decode cX6_betters 13 = .ok (.iload_n 3, 1) := dk_29 (dk_at dksX6_betters_0 13 rfl rfl)
theorem dX6_betters_14 : decode cX6_betters 14 = .ok (.iconst (-1), 1) := dk_2 (dk_at dksX6_betters_0 14 rfl rfl)
theorem dX6_betters_15 : decode cX6_betters 15 = .ok (.if_icmp .eq 47, 3) := dk_159 0 47 (dk_at dksX6_betters_0 15 rfl rfl)
theorem dX6_betters_18 : decode cX6_betters 18 = .ok (.aload_n 0, 1) := dk_42 (dk_at dksX6_betters_0 18 rfl rfl)
theorem dX6_betters_19 : decode cX6_betters 19 = .ok (.iload_n 3, 1) := dk_29 (dk_at dksX6_betters_0 19 rfl rfl)
theorem dX6_betters_20 : decode cX6_betters 20 = .ok (.invokevirtual 361, 3) := dk_182 1 105 (dk_at dksX6_betters_0 20 rfl rfl)
theorem dX6_betters_23 : decode cX6_betters 23 = .ok (.istore 4, 2) := dk_54 4 (dk_at dksX6_betters_1 0 rfl rfl)
theorem dX6_betters_25 : decode cX6_betters 25 = .ok (.iload 4, 2) := dk_21 4 (dk_at dksX6_betters_1 2 rfl rfl)
theorem dX6_betters_27 : decode cX6_betters 27 = .ok (.aload_n 0, 1) := dk_42 (dk_at dksX6_betters_1 4 rfl rfl)
theorem dX6_betters_28 : decode cX6_betters 28 = .ok (.getfield 63, 3) := dk_180 0 63 (dk_at dksX6_betters_1 5 rfl rfl)
theorem dX6_betters_31 : decode cX6_betters 31 = .ok (.iload_n 1, 1) := dk_27 (dk_at dksX6_betters_1 8 rfl rfl)
theorem dX6_betters_32 : decode cX6_betters 32 = .ok (.iaload, 1) := dk_46 (dk_at dksX6_betters_1 9 rfl rfl)
theorem dX6_betters_33 : decode cX6_betters 33 = .ok (.if_icmp .ge 13, 3) := dk_162 0 13 (dk_at dksX6_betters_1 10 rfl rfl)
theorem dX6_betters_36 : decode cX6_betters 36 = .ok (.aload_n 0, 1) := dk_42 (dk_at dksX6_betters_1 13 rfl rfl)
theorem dX6_betters_37 : decode cX6_betters 37 = .ok (.getfield 63, 3) := dk_180 0 63 (dk_at dksX6_betters_1 14 rfl rfl)
theorem dX6_betters_40 : decode cX6_betters 40 = .ok (.iload_n 1, 1) := dk_27 (dk_at dksX6_betters_1 17 rfl rfl)
theorem dX6_betters_41 : decode cX6_betters 41 = .ok (.iload 4, 2) := dk_21 4 (dk_at dksX6_betters_1 18 rfl rfl)
theorem dX6_betters_43 : decode cX6_betters 43 = .ok (.iastore, 1) := dk_79 (dk_at dksX6_betters_1 20 rfl rfl)
theorem dX6_betters_44 : decode cX6_betters 44 = .ok (.iconst 1, 1) := dk_4 (dk_at dksX6_betters_1 21 rfl rfl)
theorem dX6_betters_45 : decode cX6_betters 45 = .ok (.istore_n 2, 1) := dk_61 (dk_at dksX6_betters_1 22 rfl rfl)
theorem dX6_betters_46 : decode cX6_betters 46 = .ok (.aload_n 0, 1) := dk_42 (dk_at dksX6_betters_1 23 rfl rfl)
theorem dX6_betters_47 : decode cX6_betters 47 = .ok (.iload_n 1, 1) := dk_27 (dk_at dksX6_betters_2 0 rfl rfl)
theorem dX6_betters_48 : decode cX6_betters 48 = .ok (.invokevirtual 288, 3) := dk_182 1 32 (dk_at dksX6_betters_2 1 rfl rfl)
theorem dX6_betters_51 : decode cX6_betters 51 = .ok (.aload_n 0, 1) := dk_42 (dk_at dksX6_betters_2 4 rfl rfl)
theorem dX6_betters_52 : decode cX6_betters 52 = .ok (.iload_n 3, 1) := dk_29 (dk_at dksX6_betters_2 5 rfl rfl)
theorem dX6_betters_53 : decode cX6_betters 53 = .ok (.iconst 1, 1) := dk_4 (dk_at dksX6_betters_2 6 rfl rfl)
theorem dX6_betters_54 : decode cX6_betters 54 = .ok (.iadd, 1) := dk_96 (dk_at dksX6_betters_2 7 rfl rfl)
theorem dX6_betters_55 : decode cX6_betters 55 = .ok (.invokevirtual 336, 3) := dk_182 1 80 (dk_at dksX6_betters_2 8 rfl rfl)
theorem dX6_betters_58 : decode cX6_betters 58 = .ok (.istore_n 3, 1) := dk_62 (dk_at dksX6_betters_2 11 rfl rfl)
theorem dX6_betters_59 : decode cX6_betters 59 = .ok (.goto (-46), 3) := dk_167 255 210 (dk_at dksX6_betters_2 12 rfl rfl)
theorem dX6_betters_62 : decode cX6_betters 62 = .ok (.iload_n 2, 1) := dk_28 (dk_at dksX6_betters_2 15 rfl rfl)
theorem dX6_betters_63 : decode cX6_betters 63 = .ok (.ireturn, 1) := dk_172 (dk_at dksX6_betters_2 16 rfl rfl)

theorem okX6_betters : wOkV yX6_betters cX6_betters 5 (some .boolean) 1 := ⟨q1860, qs114, q145, q1861, by decide, by decide, by decide +kernel⟩
def gbX6_betters_13 (N : Nat)  (x1_ : Int32) (K : (Int32 → wMem → Option (Int32 × wMem))) (rec : (Int32 → Int32 → wMem → Option (Int32 × wMem))) (x2_ : Int32) (x3_ : Int32) (μ : wMem) : Option (Int32 × wMem) :=
  if x3_ = (-1 : Int32) then K x2_ μ else wBind (fX6_costBy N  x3_ μ) fun v9 μ8 => wG (ok_in x1_ 94080) (wLet (fun (x12 : Int32) (μ11 : wMem) => wBindV (fX6_begin N  x1_ μ11) fun μ14 => wBind (fX6_nextAct N  (x3_ + (1 : Int32)) μ14) fun v17 μ16 => rec x12 v17 μ16) fun Jbetters46 => if (μ8.1 16 (Int32.toNatClampNeg x1_)) ≤ v9 then Jbetters46 x2_ μ8 else wG (ok_in x1_ 94080) (wLet (wSI μ8 16 (Int32.toNatClampNeg x1_) v9) fun μ20 => Jbetters46 1 μ20))
def gX6_betters_13 (N : Nat)  (x1_ : Int32) (K : (Int32 → wMem → Option (Int32 × wMem))) : Nat → (Int32 → Int32 → wMem → Option (Int32 × wMem))
  | 0 => fun _ _ _ => none
  | k + 1 => gbX6_betters_13 N  x1_ K (gX6_betters_13 N  x1_ K k)
set_option maxHeartbeats 4000000 in
set_option maxRecDepth 100000 in
theorem tX6_betters_13 {p : Program} {l : Launch} {e : Env} {s : State} {m : MethodId} {args : Array Value} {below : List Frame} {meth : Method} {c : Code} {D : va_G} {E : List wCell} {q : Nat → Nat} {ca : wCA} {A : Nat → Prop} (C : wC p ({ frames := 5, cells := 0, slots := 0, locals := 116 } : Room) s m args meth c cX6_betters yX6_betters.cls 5 (some .boolean) D vwCl (spM ++ E) q ca A) (N : Nat)   (x1_ : Int32) (K : (Int32 → wMem → Option (Int32 × wMem))) (r0 : (Int32 × wMem)) (hK : ∀ (y2_ : Int32) (μ : wMem), K y2_ μ = some r0 → wJ p l e ({ frames := 5, cells := 0, slots := 0, locals := 116 } : Room) s m args below meth c 5 D vwCl (spM ++ E) q ca A (wQi ({ frames := 5, cells := 0, slots := 0, locals := 116 } : Room) D vwCl (spM ++ E) q ca below args s A r0) 0 0 μ 62 [(2, .int y2_)] []) : ∀ (k : Nat) (x2_ : Int32) (x3_ : Int32) (μ : wMem), gX6_betters_13 N  x1_ K k x2_ x3_ μ = some r0 → wJ p l e ({ frames := 5, cells := 0, slots := 0, locals := 116 } : Room) s m args below meth c 5 D vwCl (spM ++ E) q ca A (wQi ({ frames := 5, cells := 0, slots := 0, locals := 116 } : Room) D vwCl (spM ++ E) q ca below args s A r0) 0 0 μ 13 [(0, .ref (q 0)), (1, .int x1_), (2, .int x2_), (3, .int x3_)] [] := by
  intro k
  induction k with
  | zero =>
    intro x2_ x3_ μ hf
    cases hf
  | succ k ih =>
    intro x2_ x3_ μ hf
    replace hf : gbX6_betters_13 N  x1_ K (gX6_betters_13 N  x1_ K k) x2_ x3_ μ = some r0 := hf
    unfold gbX6_betters_13 at hf
    refine wr_iload_n 13 C dX6_betters_13 3 rfl rfl ?_
    refine wr_iconst 14 C dX6_betters_14 (v := (-1)) rfl ?_
    refine wr_icmp_eq 15 62 C dX6_betters_15 (by decide) (fun c6 => ?_) (fun c6 => ?_)
    · replace hf := o_pos c6 hf
      refine wr_sub [(2, .int x2_)] [2] rfl ?_
      exact hK x2_ μ hf
    · replace hf := o_neg c6 hf
      refine wr_aload_n 18 C dX6_betters_18 0 rfl rfl ?_
      refine wr_iload_n 19 C dX6_betters_19 3 rfl rfl ?_
      obtain ⟨v9, μ8, h7, hf⟩ := o_bind hf
      refine wr_Vi (kc1 := 0) (ks1 := 0) 20 [] C dX6_betters_20 (tX6_costBy l N   x3_ μ (v9, μ8) h7) okX6_costBy q1862 (b := 0) spM_0 rfl ⟨rfl, rfl, Nat.le_of_ble_eq_true rfl, Nat.le_of_ble_eq_true rfl, Nat.zero_le _, Nat.zero_le _⟩ (Nat.le_of_ble_eq_true rfl) rfl ?_
      refine wr_istore 23 [(4, .int v9), (0, .ref (q 0)), (1, .int x1_), (2, .int x2_), (3, .int x3_)] C dX6_betters_23 rfl (Nat.le_of_ble_eq_true rfl) rfl ?_
      refine wr_iload 25 C dX6_betters_25 0 rfl ?_
      refine wr_aload_n 27 C dX6_betters_27 1 rfl rfl ?_
      refine gespM_0_35_X6 28 C dX6_betters_28 ?_
      refine wr_iload_n 31 C dX6_betters_31 2 rfl rfl ?_
      obtain ⟨g10, hf⟩ := o_g hf
      refine wr_iald 32 C dX6_betters_32 spM_16 g10 ?_
      obtain ⟨Jbetters46, eJbetters46, hf⟩ := o_let hf
      have hJbetters46 : ∀ (x12 : Int32) (μ11 : wMem), Jbetters46 x12 μ11 = some r0 → wJ p l e ({ frames := 5, cells := 0, slots := 0, locals := 116 } : Room) s m args below meth c 5 D vwCl (spM ++ E) q ca A (wQi ({ frames := 5, cells := 0, slots := 0, locals := 116 } : Room) D vwCl (spM ++ E) q ca below args s A r0) 0 0 μ11 46 [(0, .ref (q 0)), (1, .int x1_), (2, .int x12), (3, .int x3_)] [] := by
        intro x12 μ11 hf
        rw [eJbetters46] at hf
        refine wr_aload_n 46 C dX6_betters_46 0 rfl rfl ?_
        refine wr_iload_n 47 C dX6_betters_47 1 rfl rfl ?_
        obtain ⟨μ14, h13, hf⟩ := o_bindV hf
        refine wr_Vv (kc1 := 0) (ks1 := 0) 48 [] C dX6_betters_48 (tX6_begin l N   x1_ μ11 μ14 h13) okX6_begin q1698 (b := 0) spM_0 rfl ⟨rfl, rfl, Nat.le_of_ble_eq_true rfl, Nat.le_of_ble_eq_true rfl, Nat.zero_le _, Nat.zero_le _⟩ (Nat.le_of_ble_eq_true rfl) rfl ?_
        refine wr_aload_n 51 C dX6_betters_51 0 rfl rfl ?_
        refine wr_iload_n 52 C dX6_betters_52 3 rfl rfl ?_
        refine wr_iconst 53 C dX6_betters_53 (v := 1) rfl ?_
        refine wr_iadd 54 C dX6_betters_54 ?_
        obtain ⟨v17, μ16, h15, hf⟩ := o_bind hf
        refine wr_Vi (kc1 := 0) (ks1 := 0) 55 [] C dX6_betters_55 (tX6_nextAct l N   (x3_ + (1 : Int32)) μ14 (v17, μ16) h15) okX6_nextAct q1814 (b := 0) spM_0 rfl ⟨rfl, rfl, Nat.le_of_ble_eq_true rfl, Nat.le_of_ble_eq_true rfl, Nat.zero_le _, Nat.zero_le _⟩ (Nat.le_of_ble_eq_true rfl) rfl ?_
        refine wr_istore_n 58 [(3, .int v17), (0, .ref (q 0)), (1, .int x1_), (2, .int x12)] C dX6_betters_58 rfl rfl (Nat.le_of_ble_eq_true rfl) rfl ?_
        refine wr_goto 59 C dX6_betters_59 (tgt := 13) (by decide) ?_
        refine wr_sub [(0, .ref (q 0)), (1, .int x1_), (2, .int x12), (3, .int v17)] [1, 2, 3, 0] rfl ?_
        exact ih x12 v17 μ16 hf
      refine wr_icmp_ge 33 46 C dX6_betters_33 (by decide) (fun c18 => ?_) (fun c18 => ?_)
      · replace hf := o_pos c18 hf
        refine wr_sub [(0, .ref (q 0)), (1, .int x1_), (2, .int x2_), (3, .int x3_)] [1, 2, 3, 4] rfl ?_
        exact hJbetters46 x2_ μ8 hf
      · replace hf := o_neg c18 hf
        refine wr_aload_n 36 C dX6_betters_36 1 rfl rfl ?_
        refine gespM_0_35_X6 37 C dX6_betters_37 ?_
        refine wr_iload_n 40 C dX6_betters_40 2 rfl rfl ?_
        refine wr_iload 41 C dX6_betters_41 0 rfl ?_
        obtain ⟨g19, hf⟩ := o_g hf
        obtain ⟨μ20, eμ20, hf⟩ := o_let hf
        refine wr_iast 43 C dX6_betters_43 spM_16 g19 eμ20 ?_
        refine wr_iconst 44 C dX6_betters_44 (v := 1) rfl ?_
        refine wr_istore_n 45 [(2, .int 1), (4, .int v9), (0, .ref (q 0)), (1, .int x1_), (3, .int x3_)] C dX6_betters_45 rfl rfl (Nat.le_of_ble_eq_true rfl) rfl ?_
        refine wr_sub [(0, .ref (q 0)), (1, .int x1_), (2, .int 1), (3, .int x3_)] [2, 3, 0, 4] rfl ?_
        exact hJbetters46 1 μ20 hf
def fX6_betters (N : Nat)  (a1 : Int32) (μ : wMem) : Option (Int32 × wMem) :=
  wBindV (fX6_begin N  a1 μ) fun μ2 => wBind (fX6_nextAct N  0 μ2) fun v5 μ4 => gX6_betters_13 N  a1 (fun (x22 : Int32) (μ21 : wMem) => wG (ok_b x22) (some (x22, μ21))) N 0 v5 μ4
set_option maxHeartbeats 4000000 in
set_option maxRecDepth 100000 in
theorem tX6_betters (l : Launch) {D : va_G} {E : List wCell} {q : Nat → Nat} {ca : wCA} (N : Nat)   (a1 : Int32) (μ : wMem) (r0 : (Int32 × wMem)) (hf : fX6_betters N  a1 μ = some r0) : wMi l yX6_betters cX6_betters 5 (some .boolean) ({ frames := 5, cells := 0, slots := 0, locals := 116 } : Room) D vwCl (spM ++ E) q ca [.ref (q 0), .int a1] μ r0 := by
  refine wMi_intro (by decide) (Nat.le_of_ble_eq_true rfl) ?_
  intro p e s m args below meth c A C
  unfold fX6_betters at hf
  refine wr_sub [(0, .ref (q 0)), (1, .int a1)] [0, 1] rfl ?_
  refine wr_iconst 0 C dX6_betters_0 (v := 0) rfl ?_
  refine wr_istore_n 1 [(2, .int 0), (0, .ref (q 0)), (1, .int a1)] C dX6_betters_1 rfl rfl (Nat.le_of_ble_eq_true rfl) rfl ?_
  refine wr_aload_n 2 C dX6_betters_2 1 rfl rfl ?_
  refine wr_iload_n 3 C dX6_betters_3 2 rfl rfl ?_
  obtain ⟨μ2, h1, hf⟩ := o_bindV hf
  refine wr_Vv (kc1 := 0) (ks1 := 0) 4 [] C dX6_betters_4 (tX6_begin l N   a1 μ μ2 h1) okX6_begin q1698 (b := 0) spM_0 rfl ⟨rfl, rfl, Nat.le_of_ble_eq_true rfl, Nat.le_of_ble_eq_true rfl, Nat.zero_le _, Nat.zero_le _⟩ (Nat.le_of_ble_eq_true rfl) rfl ?_
  refine wr_aload_n 7 C dX6_betters_7 1 rfl rfl ?_
  refine wr_iconst 8 C dX6_betters_8 (v := 0) rfl ?_
  obtain ⟨v5, μ4, h3, hf⟩ := o_bind hf
  refine wr_Vi (kc1 := 0) (ks1 := 0) 9 [] C dX6_betters_9 (tX6_nextAct l N   0 μ2 (v5, μ4) h3) okX6_nextAct q1814 (b := 0) spM_0 rfl ⟨rfl, rfl, Nat.le_of_ble_eq_true rfl, Nat.le_of_ble_eq_true rfl, Nat.zero_le _, Nat.zero_le _⟩ (Nat.le_of_ble_eq_true rfl) rfl ?_
  refine wr_istore_n 12 [(3, .int v5), (2, .int 0), (0, .ref (q 0)), (1, .int a1)] C dX6_betters_12 rfl rfl (Nat.le_of_ble_eq_true rfl) rfl ?_
  refine wr_sub [(0, .ref (q 0)), (1, .int a1), (2, .int 0), (3, .int v5)] [2, 3, 1, 0] rfl ?_
  refine tX6_betters_13 C N   a1 _ r0 (fun x22 μ21 hf => ?_) N 0 v5 μ4 hf
  · replace hf := hf
    refine wr_iload_n 62 C dX6_betters_62 0 rfl rfl ?_
    obtain ⟨g23, hf⟩ := o_g hf
    exact wr_zret 63 C dX6_betters_63 g23 ⟨Nat.zero_le _, Nat.zero_le _⟩ (Option.some.inj hf)
abbrev cX6_seeks : ByteArray := prog_11_method_76_code
def yX6_seeks : MethodName := ⟨RX6, "seeks", "(III)V"⟩
def dkwX6_seeks_5 : List UInt8 := [182, 1, 102, 128, 54, 4, 132, 5, 255, 167, 255, 217, 167, 255, 198, 177]
abbrev dktX6_seeks_5 : List UInt8 := dkwX6_seeks_5 ++ []
def dkwX6_seeks_4 : List UInt8 := [180, 0, 63, 42, 180, 0, 60, 21, 5, 46, 46, 153, 0, 19, 21, 4, 42, 42, 180, 0, 60, 21, 5, 46]
abbrev dktX6_seeks_4 : List UInt8 := dkwX6_seeks_4 ++ dktX6_seeks_5
def dkwX6_seeks_3 : List UInt8 := [54, 4, 21, 4, 153, 0, 59, 3, 54, 4, 42, 180, 1, 83, 4, 100, 54, 5, 21, 5, 155, 0, 40, 42]
abbrev dktX6_seeks_3 : List UInt8 := dkwX6_seeks_3 ++ dktX6_seeks_4
def dkwX6_seeks_2 : List UInt8 := [46, 42, 182, 1, 98, 153, 0, 7, 3, 167, 0, 6, 19, 1, 101, 79, 132, 4, 1, 167, 255, 207, 4]
abbrev dktX6_seeks_2 : List UInt8 := dkwX6_seeks_2 ++ dktX6_seeks_3
def dkwX6_seeks_1 : List UInt8 := [162, 0, 46, 42, 42, 180, 0, 60, 21, 4, 46, 182, 1, 32, 42, 180, 0, 63, 42, 180, 0, 60, 21, 4]
abbrev dktX6_seeks_1 : List UInt8 := dkwX6_seeks_1 ++ dktX6_seeks_2
def dkwX6_seeks_0 : List UInt8 := [42, 27, 181, 1, 89, 42, 28, 181, 1, 92, 42, 29, 181, 1, 95, 3, 54, 4, 21, 4, 42, 180, 1, 83]
abbrev dktX6_seeks_0 : List UInt8 := dkwX6_seeks_0 ++ dktX6_seeks_1
theorem dksX6_seeks_0 : cX6_seeks.data.toList.drop 0 = dktX6_seeks_0 := by decide +kernel
theorem dksX6_seeks_1 : cX6_seeks.data.toList.drop 24 = dktX6_seeks_1 := dk_seg dksX6_seeks_0 24 rfl rfl
theorem dksX6_seeks_2 : cX6_seeks.data.toList.drop 48 = dktX6_seeks_2 := dk_seg dksX6_seeks_1 24 rfl rfl
theorem dksX6_seeks_3 : cX6_seeks.data.toList.drop 71 = dktX6_seeks_3 := dk_seg dksX6_seeks_2 23 rfl rfl
theorem dksX6_seeks_4 : cX6_seeks.data.toList.drop 95 = dktX6_seeks_4 := dk_seg dksX6_seeks_3 24 rfl rfl
theorem dksX6_seeks_5 : cX6_seeks.data.toList.drop 119 = dktX6_seeks_5 := dk_seg dksX6_seeks_4 24 rfl rfl
theorem dX6_seeks_0 : decode cX6_seeks 0 = .ok (.aload_n 0, 1) := dk_42 (dk_at dksX6_seeks_0 0 rfl rfl)
theorem dX6_seeks_1 : decode cX6_seeks 1 = .ok (.iload_n 1, 1) := dk_27 (dk_at dksX6_seeks_0 1 rfl rfl)
theorem dX6_seeks_2 : decode cX6_seeks 2 = .ok (.putfield 345, 3) := dk_181 1 89 (dk_at dksX6_seeks_0 2 rfl rfl)
theorem dX6_seeks_5 : decode cX6_seeks 5 = .ok (.aload_n 0, 1) := dk_42 (dk_at dksX6_seeks_0 5 rfl rfl)
theorem dX6_seeks_6 : decode cX6_seeks 6 = .ok (.iload_n 2, 1) := dk_28 (dk_at dksX6_seeks_0 6 rfl rfl)
theorem dX6_seeks_7 : decode cX6_seeks 7 = .ok (.putfield 348, 3) := dk_181 1 92 (dk_at dksX6_seeks_0 7 rfl rfl)
theorem dX6_seeks_10 : decode cX6_seeks 10 = .ok (.aload_n 0, 1) := dk_42 (dk_at dksX6_seeks_0 10 rfl rfl)
theorem dX6_seeks_11 : decode cX6_seeks 11 = .ok (.iload_n 3, 1) := dk_29 (dk_at dksX6_seeks_0 11 rfl rfl)
theorem dX6_seeks_12 : decode cX6_seeks 12 = .ok (.putfield 351, 3) := dk_181 1 95 (dk_at dksX6_seeks_0 12 rfl rfl)
theorem dX6_seeks_15 : decode cX6_seeks 15 = .ok (.iconst 0, 1) := dk_3 (dk_at dksX6_seeks_0 15 rfl rfl)
theorem dX6_seeks_16 : decode cX6_seeks 16 = .ok (.istore 4, 2) := dk_54 4 (dk_at dksX6_seeks_0 16 rfl rfl)
theorem dX6_seeks_18 : decode cX6_seeks 18 = .ok (.iload 4, 2) := dk_21 4 (dk_at dksX6_seeks_0 18 rfl rfl)
theorem dX6_seeks_20 : decode cX6_seeks 20 = .ok (.aload_n 0, 1) := dk_42 (dk_at dksX6_seeks_0 20 rfl rfl)
theorem dX6_seeks_21 : decode cX6_seeks 21 = .ok (.getfield 339, 3) := dk_180 1 83 (dk_at dksX6_seeks_0 21 rfl rfl)
theorem dX6_seeks_24 : decode cX6_seeks 24 = .ok (.if_icmp .ge 46, 3) := dk_162 0 46 (dk_at dksX6_seeks_1 0 rfl rfl)
theorem dX6_seeks_27 : decode cX6_seeks 27 = .ok (.aload_n 0, 1) := dk_42 (dk_at dksX6_seeks_1 3 rfl rfl)
theorem dX6_seeks_28 : decode cX6_seeks 28 = .ok (.aload_n 0, 1) := dk_42 (dk_at dksX6_seeks_1 4 rfl rfl)
theorem dX6_seeks_29 : decode cX6_seeks 29 = .ok (.getfield 60, 3) := dk_180 0 60 (dk_at dksX6_seeks_1 5 rfl rfl)
theorem dX6_seeks_32 : decode cX6_seeks 32 = .ok (.iload 4, 2) := dk_21 4 (dk_at dksX6_seeks_1 8 rfl rfl)
theorem dX6_seeks_34 : decode cX6_seeks 34 = .ok (.iaload, 1) := dk_46 (dk_at dksX6_seeks_1 10 rfl rfl)
theorem dX6_seeks_35 : decode cX6_seeks 35 = .ok (.invokevirtual 288, 3) := dk_182 1 32 (dk_at dksX6_seeks_1 11 rfl rfl)
theorem dX6_seeks_38 : decode cX6_seeks 38 = .ok (.aload_n 0, 1) := dk_42 (dk_at dksX6_seeks_1 14 rfl rfl)
theorem dX6_seeks_39 : decode cX6_seeks 39 = .ok (.getfield 63, 3) := dk_180 0 63 (dk_at dksX6_seeks_1 15 rfl rfl)
theorem dX6_seeks_42 : decode cX6_seeks 42 = .ok (.aload_n 0, 1) := dk_42 (dk_at dksX6_seeks_1 18 rfl rfl)
theorem dX6_seeks_43 : decode cX6_seeks 43 = .ok (.getfield 60, 3) := dk_180 0 60 (dk_at dksX6_seeks_1 19 rfl rfl)
theorem dX6_seeks_46 : decode cX6_seeks 46 = .ok (.iload 4, 2) := dk_21 4 (dk_at dksX6_seeks_1 22 rfl rfl)
theorem dX6_seeks_48 : decode cX6_seeks 48 = .ok (.iaload, 1) := dk_46 (dk_at dksX6_seeks_2 0 rfl rfl)
theorem dX6_seeks_49 : decode cX6_seeks 49 = .ok (.aload_n 0, 1) := dk_42 (dk_at dksX6_seeks_2 1 rfl rfl)
theorem dX6_seeks_50 : decode cX6_seeks 50 = .ok (.invokevirtual 354, 3) := dk_182 1 98 (dk_at dksX6_seeks_2 2 rfl rfl)
theorem dX6_seeks_53 : decode cX6_seeks 53 = .ok (.ifCond .eq 7, 3) := dk_153 0 7 (dk_at dksX6_seeks_2 5 rfl rfl)
theorem dX6_seeks_56 : decode cX6_seeks 56 = .ok (.iconst 0, 1) := dk_3 (dk_at dksX6_seeks_2 8 rfl rfl)
theorem dX6_seeks_57 : decode cX6_seeks 57 = .ok (.goto 6, 3) := dk_167 0 6 (dk_at dksX6_seeks_2 9 rfl rfl)
theorem dX6_seeks_60 : decode cX6_seeks 60 = .ok (.ldc_w 357, 3) := dk_19 1 101 (dk_at dksX6_seeks_2 12 rfl rfl)
theorem dX6_seeks_63 : decode cX6_seeks 63 = .ok (.iastore, 1) := dk_79 (dk_at dksX6_seeks_2 15 rfl rfl)
theorem dX6_seeks_64 : decode cX6_seeks 64 = .ok (.iinc 4 1, 3) := dk_132 4 1 (dk_at dksX6_seeks_2 16 rfl rfl)
theorem dX6_seeks_67 : decode cX6_seeks 67 = .ok (.goto (-49), 3) := dk_167 255 207 (dk_at dksX6_seeks_2 19 rfl rfl)
theorem dX6_seeks_70 : decode cX6_seeks 70 = .ok (.iconst 1, 1) := dk_4 (dk_at dksX6_seeks_2 22 rfl rfl)
theorem dX6_seeks_71 : decode cX6_seeks 71 = .ok (.istore 4, 2) := dk_54 4 (dk_at dksX6_seeks_3 0 rfl rfl)
theorem dX6_seeks_73 : decode cX6_seeks 73 = .ok (.iload 4, 2) := dk_21 4 (dk_at dksX6_seeks_3 2 rfl rfl)
theorem dX6_seeks_75 : decode cX6_seeks 75 = .ok (.ifCond .eq 59, 3) := dk_153 0 59 (dk_at dksX6_seeks_3 4 rfl rfl)
theorem dX6_seeks_78 : decode cX6_seeks 78 = .ok (.iconst 0, 1) := dk_3 (dk_at dksX6_seeks_3 7 rfl rfl)
theorem dX6_seeks_79 : decode cX6_seeks 79 = .ok (.istore 4, 2) := dk_54 4 (dk_at dksX6_seeks_3 8 rfl rfl)
theorem dX6_seeks_81 : decode cX6_seeks 81 = .ok (.aload_n 0, 1) := dk_42 (dk_at dksX6_seeks_3 10 rfl rfl)
theorem dX6_seeks_82 : decode cX6_seeks 82 = .ok (.getfield 339, 3) := dk_180 1 83 (dk_at dksX6_seeks_3 11 rfl rfl)
theorem dX6_seeks_85 : decode cX6_seeks 85 = .ok (.iconst 1, 1) := dk_4 (dk_at dksX6_seeks_3 14 rfl rfl)
theorem dX6_seeks_86 : decode cX6_seeks 86 = .ok (.isub, 1) := dk_100 (dk_at dksX6_seeks_3 15 rfl rfl)
theorem dX6_seeks_87 : decode cX6_seeks 87 = .ok (.istore 5, 2) := dk_54 5 (dk_at dksX6_seeks_3 16 rfl rfl)
theorem dX6_seeks_89 : decode cX6_seeks 89 = .ok (.iload 5, 2) := dk_21 5 (dk_at dksX6_seeks_3 18 rfl rfl)
theorem dX6_seeks_91 : decode cX6_seeks 91 = .ok (.ifCond .lt 40, 3) := dk_155 0 40 (dk_at dksX6_seeks_3 20 rfl rfl)
theorem dX6_seeks_94 : decode cX6_seeks 94 = .ok (.aload_n 0, 1) := dk_42 (dk_at dksX6_seeks_3 23 rfl rfl)
theorem dX6_seeks_95 : decode cX6_seeks 95 = .ok (.getfield 63, 3) := dk_180 0 63 (dk_at dksX6_seeks_4 0 rfl rfl)
theorem dX6_seeks_98 : decode cX6_seeks 98 = .ok (.aload_n 0, 1) := dk_42 (dk_at dksX6_seeks_4 3 rfl rfl)
theorem dX6_seeks_99 : decode cX6_seeks 99 = .ok (.getfield 60, 3) := dk_180 0 60 (dk_at dksX6_seeks_4 4 rfl rfl)
theorem dX6_seeks_102 : decode cX6_seeks 102 = .ok (.iload 5, 2) := dk_21 5 (dk_at dksX6_seeks_4 7 rfl rfl)
theorem dX6_seeks_104 : decode cX6_seeks 104 = .ok (.iaload, 1) := dk_46 (dk_at dksX6_seeks_4 9 rfl rfl)
theorem dX6_seeks_105 : decode cX6_seeks 105 = .ok (.iaload, 1) := dk_46 (dk_at dksX6_seeks_4 10 rfl rfl)
theorem dX6_seeks_106 : decode cX6_seeks 106 = .ok (.ifCond .eq 19, 3) := dk_153 0 19 (dk_at dksX6_seeks_4 11 rfl rfl)
theorem dX6_seeks_109 : decode cX6_seeks 109 = .ok (.iload 4, 2) := dk_21 4 (dk_at dksX6_seeks_4 14 rfl rfl)
theorem dX6_seeks_111 : decode cX6_seeks 111 = .ok (.aload_n 0, 1) := dk_42 (dk_at dksX6_seeks_4 16 rfl rfl)
theorem dX6_seeks_112 : decode cX6_seeks 112 = .ok (.aload_n 0, 1) := dk_42 (dk_at dksX6_seeks_4 17 rfl rfl)
theorem dX6_seeks_113 : decode cX6_seeks 113 = .ok (.getfield 60, 3) := dk_180 0 60 (dk_at dksX6_seeks_4 18 rfl rfl)
theorem dX6_seeks_116 : decode cX6_seeks 116 = .ok (.iload 5, 2) := dk_21 5 (dk_at dksX6_seeks_4 21 rfl rfl)
theorem dX6_seeks_118 : decode cX6_seeks 118 = .ok (.iaload, 1) := dk_46 (dk_at dksX6_seeks_4 23 rfl rfl)
theorem dX6_seeks_119 : decode cX6_seeks 119 = .ok (.invokevirtual 358, 3) := dk_182 1 102 (dk_at dksX6_seeks_5 0 rfl rfl)
theorem dX6_seeks_122 : decode cX6_seeks 122 = .ok (.ior, 1) := dk_128 (dk_at dksX6_seeks_5 3 rfl rfl)
theorem dX6_seeks_123 : decode cX6_seeks 123 = .ok (.istore 4, 2) := dk_54 4 (dk_at dksX6_seeks_5 4 rfl rfl)
theorem dX6_seeks_125 : decode cX6_seeks 125 = .ok (.iinc 5 (-1), 3) := dk_132 5 255 (dk_at dksX6_seeks_5 6 rfl rfl)
theorem dX6_seeks_128 : decode cX6_seeks 128 = .ok (.goto (-39), 3) := dk_167 255 217 (dk_at dksX6_seeks_5 9 rfl rfl)
theorem dX6_seeks_131 : decode cX6_seeks 131 = .ok (.goto (-58), 3) := dk_167 255 198 (dk_at dksX6_seeks_5 12 rfl rfl)
theorem dX6_seeks_134 : decode cX6_seeks 134 = .ok (.return_, 1) := dk_177 (dk_at dksX6_seeks_5 15 rfl rfl)
theorem puspM_0_36_X6 {p : Program} {l : Launch} {e : Env} {R : Room} {s : State} {m : MethodId} {args : Array Value} {below : List Frame} {meth : Method} {c : Code} {cc : ByteArray} {nL : Nat} {ret : Option FieldType} {D : va_G} {E : List wCell} {q : Nat → Nat} {ca : wCA} {A : Nat → Prop} {Q : State → Prop} {kc ks : Nat} {μ : wMem} {lv : List (Nat × Value)} {st : List Value} {v : Int32} {μ1 : wMem} (pc : Nat) (C : wC p R s m args meth c cc "OnePassportModel" nL ret D vwCl (spM ++ E) q ca A) (hd : decode cc pc = .ok (.putfield 345, 3)) (hμ : μ1 = wSI μ 0 36 v) (k : wJ p l e R s m args below meth c nL D vwCl (spM ++ E) q ca A Q kc ks μ1 (pc + 3) lv st) : wJ p l e R s m args below meth c nL D vwCl (spM ++ E) q ca A Q kc ks μ pc lv (.int v :: .ref (q 0) :: st) := wr_putI pc 36 C hd spM_0 rfl in_X6 tyX6 tyX6_ok nmX6 (by decide) rfl q1435 rfl rfl hμ k
theorem puspM_0_37_X6 {p : Program} {l : Launch} {e : Env} {R : Room} {s : State} {m : MethodId} {args : Array Value} {below : List Frame} {meth : Method} {c : Code} {cc : ByteArray} {nL : Nat} {ret : Option FieldType} {D : va_G} {E : List wCell} {q : Nat → Nat} {ca : wCA} {A : Nat → Prop} {Q : State → Prop} {kc ks : Nat} {μ : wMem} {lv : List (Nat × Value)} {st : List Value} {v : Int32} {μ1 : wMem} (pc : Nat) (C : wC p R s m args meth c cc "OnePassportModel" nL ret D vwCl (spM ++ E) q ca A) (hd : decode cc pc = .ok (.putfield 348, 3)) (hμ : μ1 = wSI μ 0 37 v) (k : wJ p l e R s m args below meth c nL D vwCl (spM ++ E) q ca A Q kc ks μ1 (pc + 3) lv st) : wJ p l e R s m args below meth c nL D vwCl (spM ++ E) q ca A Q kc ks μ pc lv (.int v :: .ref (q 0) :: st) := wr_putI pc 37 C hd spM_0 rfl in_X6 tyX6 tyX6_ok nmX6 (by decide) rfl q1436 rfl rfl hμ k
theorem puspM_0_38_X6 {p : Program} {l : Launch} {e : Env} {R : Room} {s : State} {m : MethodId} {args : Array Value} {below : List Frame} {meth : Method} {c : Code} {cc : ByteArray} {nL : Nat} {ret : Option FieldType} {D : va_G} {E : List wCell} {q : Nat → Nat} {ca : wCA} {A : Nat → Prop} {Q : State → Prop} {kc ks : Nat} {μ : wMem} {lv : List (Nat × Value)} {st : List Value} {v : Int32} {μ1 : wMem} (pc : Nat) (C : wC p R s m args meth c cc "OnePassportModel" nL ret D vwCl (spM ++ E) q ca A) (hd : decode cc pc = .ok (.putfield 351, 3)) (hμ : μ1 = wSI μ 0 38 v) (k : wJ p l e R s m args below meth c nL D vwCl (spM ++ E) q ca A Q kc ks μ1 (pc + 3) lv st) : wJ p l e R s m args below meth c nL D vwCl (spM ++ E) q ca A Q kc ks μ pc lv (.int v :: .ref (q 0) :: st) := wr_putI pc 38 C hd spM_0 rfl in_X6 tyX6 tyX6_ok nmX6 (by decide) rfl q1437 rfl rfl hμ k
theorem okX6_seeks : wOkV yX6_seeks cX6_seeks 6 none 3 := ⟨q1851, qs112, q145, q1852, by decide, by decide, by decide +kernel⟩
def gbX6_seeks_18 (N : Nat)   (K : (wMem → Option wMem)) (rec : (Int32 → wMem → Option wMem)) (x4_ : Int32) (μ : wMem) : Option wMem :=
  if (μ.1 0 34) ≤ x4_ then K  μ else wG (ok_in x4_ 94080) (wBindV (fX6_begin N  (μ.1 15 (Int32.toNatClampNeg x4_)) μ) fun μ7 => wG (ok_in x4_ 94080) (wBind (fX6_isSought N   μ7) fun v11 μ10 => wLet (fun (v13 : Int32) (v14 : Int32) (μ12 : wMem) => wG (ok_in v14 94080) (wLet (wSI μ12 16 (Int32.toNatClampNeg v14) v13) fun μ16 => wLet (x4_ + 1 : Int32) fun x17 => rec x17 μ16)) fun Jseeks63 => if v11 = 0 then Jseeks63 2000000000 (μ7.1 15 (Int32.toNatClampNeg x4_)) μ10 else Jseeks63 0 (μ7.1 15 (Int32.toNatClampNeg x4_)) μ10))
def gX6_seeks_18 (N : Nat)   (K : (wMem → Option wMem)) : Nat → (Int32 → wMem → Option wMem)
  | 0 => fun _ _ => none
  | k + 1 => gbX6_seeks_18 N   K (gX6_seeks_18 N   K k)
set_option maxHeartbeats 4000000 in
set_option maxRecDepth 100000 in
theorem tX6_seeks_18 {p : Program} {l : Launch} {e : Env} {s : State} {m : MethodId} {args : Array Value} {below : List Frame} {meth : Method} {c : Code} {D : va_G} {E : List wCell} {q : Nat → Nat} {ca : wCA} {A : Nat → Prop} (C : wC p ({ frames := 6, cells := 0, slots := 0, locals := 140 } : Room) s m args meth c cX6_seeks yX6_seeks.cls 6 none D vwCl (spM ++ E) q ca A) (N : Nat)    (K : (wMem → Option wMem)) (r0 : wMem) (hK : ∀  (μ : wMem), K  μ = some r0 → wJ p l e ({ frames := 6, cells := 0, slots := 0, locals := 140 } : Room) s m args below meth c 6 D vwCl (spM ++ E) q ca A (wQv ({ frames := 6, cells := 0, slots := 0, locals := 140 } : Room) D vwCl (spM ++ E) q ca below args s A r0) 0 0 μ 70 [(0, .ref (q 0))] []) : ∀ (k : Nat) (x4_ : Int32) (μ : wMem), gX6_seeks_18 N   K k x4_ μ = some r0 → wJ p l e ({ frames := 6, cells := 0, slots := 0, locals := 140 } : Room) s m args below meth c 6 D vwCl (spM ++ E) q ca A (wQv ({ frames := 6, cells := 0, slots := 0, locals := 140 } : Room) D vwCl (spM ++ E) q ca below args s A r0) 0 0 μ 18 [(0, .ref (q 0)), (4, .int x4_)] [] := by
  intro k
  induction k with
  | zero =>
    intro x4_ μ hf
    cases hf
  | succ k ih =>
    intro x4_ μ hf
    replace hf : gbX6_seeks_18 N   K (gX6_seeks_18 N   K k) x4_ μ = some r0 := hf
    unfold gbX6_seeks_18 at hf
    refine wr_iload 18 C dX6_seeks_18 1 rfl ?_
    refine wr_aload_n 20 C dX6_seeks_20 0 rfl rfl ?_
    refine gespM_0_34_X6 21 C dX6_seeks_21 ?_
    refine wr_icmp_ge 24 70 C dX6_seeks_24 (by decide) (fun c4 => ?_) (fun c4 => ?_)
    · replace hf := o_pos c4 hf
      refine wr_sub [(0, .ref (q 0))] [0] rfl ?_
      exact hK  μ hf
    · replace hf := o_neg c4 hf
      refine wr_aload_n 27 C dX6_seeks_27 0 rfl rfl ?_
      refine wr_aload_n 28 C dX6_seeks_28 0 rfl rfl ?_
      refine gespM_0_33_X6 29 C dX6_seeks_29 ?_
      refine wr_iload 32 C dX6_seeks_32 1 rfl ?_
      obtain ⟨g5, hf⟩ := o_g hf
      refine wr_iald 34 C dX6_seeks_34 spM_15 g5 ?_
      obtain ⟨μ7, h6, hf⟩ := o_bindV hf
      refine wr_Vv (kc1 := 0) (ks1 := 0) 35 [] C dX6_seeks_35 (tX6_begin l N   (μ.1 15 (Int32.toNatClampNeg x4_)) μ μ7 h6) okX6_begin q1698 (b := 0) spM_0 rfl ⟨rfl, rfl, Nat.le_of_ble_eq_true rfl, Nat.le_of_ble_eq_true rfl, Nat.zero_le _, Nat.zero_le _⟩ (Nat.le_of_ble_eq_true rfl) rfl ?_
      refine wr_aload_n 38 C dX6_seeks_38 0 rfl rfl ?_
      refine gespM_0_35_X6 39 C dX6_seeks_39 ?_
      refine wr_aload_n 42 C dX6_seeks_42 0 rfl rfl ?_
      refine gespM_0_33_X6 43 C dX6_seeks_43 ?_
      refine wr_iload 46 C dX6_seeks_46 1 rfl ?_
      obtain ⟨g8, hf⟩ := o_g hf
      refine wr_iald 48 C dX6_seeks_48 spM_15 g8 ?_
      refine wr_aload_n 49 C dX6_seeks_49 0 rfl rfl ?_
      obtain ⟨v11, μ10, h9, hf⟩ := o_bind hf
      refine wr_Vi (kc1 := 0) (ks1 := 0) 50 [.int (μ7.1 15 (Int32.toNatClampNeg x4_)), .ref (q 16)] C dX6_seeks_50 (tX6_isSought l N    μ7 (v11, μ10) h9) okX6_isSought q1853 (b := 0) spM_0 rfl ⟨rfl, rfl, Nat.le_of_ble_eq_true rfl, Nat.le_of_ble_eq_true rfl, Nat.zero_le _, Nat.zero_le _⟩ (Nat.le_of_ble_eq_true rfl) rfl ?_
      obtain ⟨Jseeks63, eJseeks63, hf⟩ := o_let hf
      have hJseeks63 : ∀ (v13 : Int32) (v14 : Int32) (μ12 : wMem), Jseeks63 v13 v14 μ12 = some r0 → wJ p l e ({ frames := 6, cells := 0, slots := 0, locals := 140 } : Room) s m args below meth c 6 D vwCl (spM ++ E) q ca A (wQv ({ frames := 6, cells := 0, slots := 0, locals := 140 } : Room) D vwCl (spM ++ E) q ca below args s A r0) 0 0 μ12 63 [(0, .ref (q 0)), (4, .int x4_)] [.int v13, .int v14, .ref (q 16)] := by
        intro v13 v14 μ12 hf
        rw [eJseeks63] at hf
        obtain ⟨g15, hf⟩ := o_g hf
        obtain ⟨μ16, eμ16, hf⟩ := o_let hf
        refine wr_iast 63 C dX6_seeks_63 spM_16 g15 eμ16 ?_
        obtain ⟨x17, ex17, hf⟩ := o_let hf
        refine wr_iinc 64 [(4, .int x17), (0, .ref (q 0))] C dX6_seeks_64 1 rfl (ex17.trans rfl) (Nat.le_of_ble_eq_true rfl) rfl ?_
        refine wr_goto 67 C dX6_seeks_67 (tgt := 18) (by decide) ?_
        refine wr_sub [(0, .ref (q 0)), (4, .int x17)] [1, 0] rfl ?_
        exact ih x17 μ16 hf
      refine wr_if_eq 53 60 C dX6_seeks_53 (by decide) (fun c18 => ?_) (fun c18 => ?_)
      · replace hf := o_pos c18 hf
        refine wr_ldcw 60 C dX6_seeks_60 q1857 ?_
        exact hJseeks63 2000000000 (μ7.1 15 (Int32.toNatClampNeg x4_)) μ10 hf
      · replace hf := o_neg c18 hf
        refine wr_iconst 56 C dX6_seeks_56 (v := 0) rfl ?_
        refine wr_goto 57 C dX6_seeks_57 (tgt := 63) (by decide) ?_
        exact hJseeks63 0 (μ7.1 15 (Int32.toNatClampNeg x4_)) μ10 hf
def gbX6_seeks_89 (N : Nat)   (K : (Int32 → wMem → Option wMem)) (rec : (Int32 → Int32 → wMem → Option wMem)) (x4_ : Int32) (x5_ : Int32) (μ : wMem) : Option wMem :=
  if x5_ < 0 then K x4_ μ else wG (ok_in x5_ 94080) (wG (ok_in (μ.1 15 (Int32.toNatClampNeg x5_)) 94080) (wLet (fun (x26 : Int32) (μ25 : wMem) => wLet (x5_ + (-1) : Int32) fun x27 => rec x26 x27 μ25) fun Jseeks125 => if (μ.1 16 (Int32.toNatClampNeg (μ.1 15 (Int32.toNatClampNeg x5_)))) = 0 then Jseeks125 x4_ μ else wG (ok_in x5_ 94080) (wBind (fX6_betters N  (μ.1 15 (Int32.toNatClampNeg x5_)) μ) fun v32 μ31 => wLet (x4_ ||| v32 : Int32) fun x33 => Jseeks125 x33 μ31)))
def gX6_seeks_89 (N : Nat)   (K : (Int32 → wMem → Option wMem)) : Nat → (Int32 → Int32 → wMem → Option wMem)
  | 0 => fun _ _ _ => none
  | k + 1 => gbX6_seeks_89 N   K (gX6_seeks_89 N   K k)
set_option maxHeartbeats 4000000 in
set_option maxRecDepth 100000 in
theorem tX6_seeks_89 {p : Program} {l : Launch} {e : Env} {s : State} {m : MethodId} {args : Array Value} {below : List Frame} {meth : Method} {c : Code} {D : va_G} {E : List wCell} {q : Nat → Nat} {ca : wCA} {A : Nat → Prop} (C : wC p ({ frames := 6, cells := 0, slots := 0, locals := 140 } : Room) s m args meth c cX6_seeks yX6_seeks.cls 6 none D vwCl (spM ++ E) q ca A) (N : Nat)    (K : (Int32 → wMem → Option wMem)) (r0 : wMem) (hK : ∀ (y4_ : Int32) (μ : wMem), K y4_ μ = some r0 → wJ p l e ({ frames := 6, cells := 0, slots := 0, locals := 140 } : Room) s m args below meth c 6 D vwCl (spM ++ E) q ca A (wQv ({ frames := 6, cells := 0, slots := 0, locals := 140 } : Room) D vwCl (spM ++ E) q ca below args s A r0) 0 0 μ 131 [(0, .ref (q 0)), (4, .int y4_)] []) : ∀ (k : Nat) (x4_ : Int32) (x5_ : Int32) (μ : wMem), gX6_seeks_89 N   K k x4_ x5_ μ = some r0 → wJ p l e ({ frames := 6, cells := 0, slots := 0, locals := 140 } : Room) s m args below meth c 6 D vwCl (spM ++ E) q ca A (wQv ({ frames := 6, cells := 0, slots := 0, locals := 140 } : Room) D vwCl (spM ++ E) q ca below args s A r0) 0 0 μ 89 [(0, .ref (q 0)), (4, .int x4_), (5, .int x5_)] [] := by
  intro k
  induction k with
  | zero =>
    intro x4_ x5_ μ hf
    cases hf
  | succ k ih =>
    intro x4_ x5_ μ hf
    replace hf : gbX6_seeks_89 N   K (gX6_seeks_89 N   K k) x4_ x5_ μ = some r0 := hf
    unfold gbX6_seeks_89 at hf
    refine wr_iload 89 C dX6_seeks_89 2 rfl ?_
    refine wr_if_lt 91 131 C dX6_seeks_91 (by decide) (fun c22 => ?_) (fun c22 => ?_)
    · replace hf := o_pos c22 hf
      refine wr_sub [(0, .ref (q 0)), (4, .int x4_)] [0, 1] rfl ?_
      exact hK x4_ μ hf
    · replace hf := o_neg c22 hf
      refine wr_aload_n 94 C dX6_seeks_94 0 rfl rfl ?_
      refine gespM_0_35_X6 95 C dX6_seeks_95 ?_
      refine wr_aload_n 98 C dX6_seeks_98 0 rfl rfl ?_
      refine gespM_0_33_X6 99 C dX6_seeks_99 ?_
      refine wr_iload 102 C dX6_seeks_102 2 rfl ?_
      obtain ⟨g23, hf⟩ := o_g hf
      refine wr_iald 104 C dX6_seeks_104 spM_15 g23 ?_
      obtain ⟨g24, hf⟩ := o_g hf
      refine wr_iald 105 C dX6_seeks_105 spM_16 g24 ?_
      obtain ⟨Jseeks125, eJseeks125, hf⟩ := o_let hf
      have hJseeks125 : ∀ (x26 : Int32) (μ25 : wMem), Jseeks125 x26 μ25 = some r0 → wJ p l e ({ frames := 6, cells := 0, slots := 0, locals := 140 } : Room) s m args below meth c 6 D vwCl (spM ++ E) q ca A (wQv ({ frames := 6, cells := 0, slots := 0, locals := 140 } : Room) D vwCl (spM ++ E) q ca below args s A r0) 0 0 μ25 125 [(0, .ref (q 0)), (4, .int x26), (5, .int x5_)] [] := by
        intro x26 μ25 hf
        rw [eJseeks125] at hf
        obtain ⟨x27, ex27, hf⟩ := o_let hf
        refine wr_iinc 125 [(5, .int x27), (0, .ref (q 0)), (4, .int x26)] C dX6_seeks_125 2 rfl (ex27.trans rfl) (Nat.le_of_ble_eq_true rfl) rfl ?_
        refine wr_goto 128 C dX6_seeks_128 (tgt := 89) (by decide) ?_
        refine wr_sub [(0, .ref (q 0)), (4, .int x26), (5, .int x27)] [1, 2, 0] rfl ?_
        exact ih x26 x27 μ25 hf
      refine wr_if_eq 106 125 C dX6_seeks_106 (by decide) (fun c28 => ?_) (fun c28 => ?_)
      · replace hf := o_pos c28 hf
        exact hJseeks125 x4_ μ hf
      · replace hf := o_neg c28 hf
        refine wr_iload 109 C dX6_seeks_109 1 rfl ?_
        refine wr_aload_n 111 C dX6_seeks_111 0 rfl rfl ?_
        refine wr_aload_n 112 C dX6_seeks_112 0 rfl rfl ?_
        refine gespM_0_33_X6 113 C dX6_seeks_113 ?_
        refine wr_iload 116 C dX6_seeks_116 2 rfl ?_
        obtain ⟨g29, hf⟩ := o_g hf
        refine wr_iald 118 C dX6_seeks_118 spM_15 g29 ?_
        obtain ⟨v32, μ31, h30, hf⟩ := o_bind hf
        refine wr_Vi (kc1 := 0) (ks1 := 0) 119 [.int x4_] C dX6_seeks_119 (tX6_betters l N   (μ.1 15 (Int32.toNatClampNeg x5_)) μ (v32, μ31) h30) okX6_betters q1858 (b := 0) spM_0 rfl ⟨rfl, rfl, Nat.le_of_ble_eq_true rfl, Nat.le_of_ble_eq_true rfl, Nat.zero_le _, Nat.zero_le _⟩ (Nat.le_of_ble_eq_true rfl) rfl ?_
        refine wr_ior 122 C dX6_seeks_122 ?_
        obtain ⟨x33, ex33, hf⟩ := o_let hf
        refine wr_istore 123 [(4, .int x33), (0, .ref (q 0)), (5, .int x5_)] C dX6_seeks_123 ex33 (Nat.le_of_ble_eq_true rfl) rfl ?_
        refine wr_sub [(0, .ref (q 0)), (4, .int x33), (5, .int x5_)] [1, 0, 2] rfl ?_
        exact hJseeks125 x33 μ31 hf
def gbX6_seeks_73 (N : Nat)   (K : (wMem → Option wMem)) (rec : (Int32 → wMem → Option wMem)) (x4_ : Int32) (μ : wMem) : Option wMem :=
  if x4_ = 0 then K  μ else wLet ((μ.1 0 34) - (1 : Int32) : Int32) fun x21 => gX6_seeks_89 N   (fun (x35 : Int32) (μ34 : wMem) => rec x35 μ34) N 0 x21 μ
def gX6_seeks_73 (N : Nat)   (K : (wMem → Option wMem)) : Nat → (Int32 → wMem → Option wMem)
  | 0 => fun _ _ => none
  | k + 1 => gbX6_seeks_73 N   K (gX6_seeks_73 N   K k)
set_option maxHeartbeats 4000000 in
set_option maxRecDepth 100000 in
theorem tX6_seeks_73 {p : Program} {l : Launch} {e : Env} {s : State} {m : MethodId} {args : Array Value} {below : List Frame} {meth : Method} {c : Code} {D : va_G} {E : List wCell} {q : Nat → Nat} {ca : wCA} {A : Nat → Prop} (C : wC p ({ frames := 6, cells := 0, slots := 0, locals := 140 } : Room) s m args meth c cX6_seeks yX6_seeks.cls 6 none D vwCl (spM ++ E) q ca A) (N : Nat)    (K : (wMem → Option wMem)) (r0 : wMem) (hK : ∀  (μ : wMem), K  μ = some r0 → wJ p l e ({ frames := 6, cells := 0, slots := 0, locals := 140 } : Room) s m args below meth c 6 D vwCl (spM ++ E) q ca A (wQv ({ frames := 6, cells := 0, slots := 0, locals := 140 } : Room) D vwCl (spM ++ E) q ca below args s A r0) 0 0 μ 134 [] []) : ∀ (k : Nat) (x4_ : Int32) (μ : wMem), gX6_seeks_73 N   K k x4_ μ = some r0 → wJ p l e ({ frames := 6, cells := 0, slots := 0, locals := 140 } : Room) s m args below meth c 6 D vwCl (spM ++ E) q ca A (wQv ({ frames := 6, cells := 0, slots := 0, locals := 140 } : Room) D vwCl (spM ++ E) q ca below args s A r0) 0 0 μ 73 [(0, .ref (q 0)), (4, .int x4_)] [] := by
  intro k
  induction k with
  | zero =>
    intro x4_ μ hf
    cases hf
  | succ k ih =>
    intro x4_ μ hf
    replace hf : gbX6_seeks_73 N   K (gX6_seeks_73 N   K k) x4_ μ = some r0 := hf
    unfold gbX6_seeks_73 at hf
    refine wr_iload 73 C dX6_seeks_73 1 rfl ?_
    refine wr_if_eq 75 134 C dX6_seeks_75 (by decide) (fun c20 => ?_) (fun c20 => ?_)
    · replace hf := o_pos c20 hf
      refine wr_sub [] [] rfl ?_
      exact hK  μ hf
    · replace hf := o_neg c20 hf
      refine wr_iconst 78 C dX6_seeks_78 (v := 0) rfl ?_
      refine wr_istore 79 [(4, .int 0), (0, .ref (q 0))] C dX6_seeks_79 rfl (Nat.le_of_ble_eq_true rfl) rfl ?_
      refine wr_aload_n 81 C dX6_seeks_81 1 rfl rfl ?_
      refine gespM_0_34_X6 82 C dX6_seeks_82 ?_
      refine wr_iconst 85 C dX6_seeks_85 (v := 1) rfl ?_
      refine wr_isub 86 C dX6_seeks_86 ?_
      obtain ⟨x21, ex21, hf⟩ := o_let hf
      refine wr_istore 87 [(5, .int x21), (4, .int 0), (0, .ref (q 0))] C dX6_seeks_87 ex21 (Nat.le_of_ble_eq_true rfl) rfl ?_
      refine wr_sub [(0, .ref (q 0)), (4, .int 0), (5, .int x21)] [2, 1, 0] rfl ?_
      refine tX6_seeks_89 C N    _ r0 (fun x35 μ34 hf => ?_) N 0 x21 μ hf
      · replace hf := hf
        refine wr_goto 131 C dX6_seeks_131 (tgt := 73) (by decide) ?_
        exact ih x35 μ34 hf
def fX6_seeks (N : Nat)  (a1 : Int32) (a2 : Int32) (a3 : Int32) (μ : wMem) : Option wMem :=
  wLet (wSI μ 0 36 a1) fun μ1 => wLet (wSI μ1 0 37 a2) fun μ2 => wLet (wSI μ2 0 38 a3) fun μ3 => gX6_seeks_18 N   (fun  (μ19 : wMem) => gX6_seeks_73 N   (fun  (μ36 : wMem) => some μ36) N 1 μ19) N 0 μ3
set_option maxHeartbeats 4000000 in
set_option maxRecDepth 100000 in
theorem tX6_seeks (l : Launch) {D : va_G} {E : List wCell} {q : Nat → Nat} {ca : wCA} (N : Nat)   (a1 : Int32) (a2 : Int32) (a3 : Int32) (μ : wMem) (r0 : wMem) (hf : fX6_seeks N  a1 a2 a3 μ = some r0) : wMv l yX6_seeks cX6_seeks 6 none ({ frames := 6, cells := 0, slots := 0, locals := 140 } : Room) D vwCl (spM ++ E) q ca [.ref (q 0), .int a1, .int a2, .int a3] μ r0 := by
  refine wMv_intro (by decide) (Nat.le_of_ble_eq_true rfl) ?_
  intro p e s m args below meth c A C
  unfold fX6_seeks at hf
  refine wr_sub [(0, .ref (q 0)), (1, .int a1), (2, .int a2), (3, .int a3)] [0, 1, 2, 3] rfl ?_
  refine wr_aload_n 0 C dX6_seeks_0 0 rfl rfl ?_
  refine wr_iload_n 1 C dX6_seeks_1 1 rfl rfl ?_
  obtain ⟨μ1, eμ1, hf⟩ := o_let hf
  refine puspM_0_36_X6 2 C dX6_seeks_2 eμ1 ?_
  refine wr_aload_n 5 C dX6_seeks_5 0 rfl rfl ?_
  refine wr_iload_n 6 C dX6_seeks_6 2 rfl rfl ?_
  obtain ⟨μ2, eμ2, hf⟩ := o_let hf
  refine puspM_0_37_X6 7 C dX6_seeks_7 eμ2 ?_
  refine wr_aload_n 10 C dX6_seeks_10 0 rfl rfl ?_
  refine wr_iload_n 11 C dX6_seeks_11 3 rfl rfl ?_
  obtain ⟨μ3, eμ3, hf⟩ := o_let hf
  refine puspM_0_38_X6 12 C dX6_seeks_12 eμ3 ?_
  refine wr_iconst 15 C dX6_seeks_15 (v := 0) rfl ?_
  refine wr_istore 16 [(4, .int 0), (0, .ref (q 0)), (1, .int a1), (2, .int a2), (3, .int a3)] C dX6_seeks_16 rfl (Nat.le_of_ble_eq_true rfl) rfl ?_
  refine wr_sub [(0, .ref (q 0)), (4, .int 0)] [1, 0] rfl ?_
  refine tX6_seeks_18 C N    _ r0 (fun  μ19 hf => ?_) N 0 μ3 hf
  · replace hf := hf
    refine wr_iconst 70 C dX6_seeks_70 (v := 1) rfl ?_
    refine wr_istore 71 [(4, .int 1), (0, .ref (q 0))] C dX6_seeks_71 rfl (Nat.le_of_ble_eq_true rfl) rfl ?_
    refine wr_sub [(0, .ref (q 0)), (4, .int 1)] [1, 0] rfl ?_
    refine tX6_seeks_73 C N    _ r0 (fun  μ36 hf => ?_) N 1 μ19 hf
    · replace hf := hf
      exact wr_vret 134 C dX6_seeks_134 ⟨Nat.zero_le _, Nat.zero_le _⟩ (Option.some.inj hf)
