set_option maxRecDepth 100000
abbrev cX6_isGood : ByteArray := prog_11_method_14_code
def yX6_isGood : MethodName := ⟨RX6, "isGood", "()Z"⟩
def dkwX6_isGood_0 : List UInt8 := [42, 180, 0, 140, 154, 0, 7, 4, 167, 0, 4, 3, 172]
abbrev dktX6_isGood_0 : List UInt8 := dkwX6_isGood_0 ++ []
theorem dksX6_isGood_0 : cX6_isGood.data.toList.drop 0 = dktX6_isGood_0 := by decide +kernel
theorem dX6_isGood_0 : decode cX6_isGood 0 = .ok (.aload_n 0, 1) := dk_42 (dk_at dksX6_isGood_0 0 rfl rfl)
theorem dX6_isGood_1 : decode cX6_isGood 1 = .ok (.getfield 140, 3) := dk_180 0 140 (dk_at dksX6_isGood_0 1 rfl rfl)
theorem dX6_isGood_4 : decode cX6_isGood 4 = .ok (.ifCond .ne 7, 3) := dk_154 0 7 (dk_at dksX6_isGood_0 4 rfl rfl)
theorem dX6_isGood_7 : decode cX6_isGood 7 = .ok (.iconst 1, 1) := dk_4 (dk_at dksX6_isGood_0 7 rfl rfl)
theorem dX6_isGood_8 : decode cX6_isGood 8 = .ok (.goto 4, 3) := dk_167 0 4 (dk_at dksX6_isGood_0 8 rfl rfl)
theorem dX6_isGood_11 : decode cX6_isGood 11 = .ok (.iconst 0, 1) := dk_3 (dk_at dksX6_isGood_0 11 rfl rfl)
theorem dX6_isGood_12 : decode cX6_isGood 12 = .ok (.ireturn, 1) := dk_172 (dk_at dksX6_isGood_0 12 rfl rfl)
theorem gespM_0_12_X6 {p : Program} {l : Launch} {e : Env} {R : Room} {s : State} {m : MethodId} {args : Array Value} {below : List Frame} {meth : Method} {c : Code} {cc : ByteArray} {nL : Nat} {ret : Option FieldType} {D : va_G} {E : List wCell} {q : Nat → Nat} {ca : wCA} {A : Nat → Prop} {Q : State → Prop} {kc ks : Nat} {μ : wMem} {lv : List (Nat × Value)} {st : List Value} (pc : Nat) (C : wC p R s m args meth c cc "OnePassportModel" nL ret D vwCl (spM ++ E) q ca A) (hd : decode cc pc = .ok (.getfield 140, 3)) (k : wJ p l e R s m args below meth c nL D vwCl (spM ++ E) q ca A Q kc ks μ (pc + 3) lv (.int (μ.1 0 12) :: st)) : wJ p l e R s m args below meth c nL D vwCl (spM ++ E) q ca A Q kc ks μ pc lv (.ref (q 0) :: st) := wr_getI pc 12 C hd spM_0 rfl in_X6 (by decide) rfl q1411 k
theorem okX6_isGood : wOkV yX6_isGood cX6_isGood 1 (some .boolean) 0 := ⟨q1613, qs74, q145, q1614, by decide, by decide, by decide +kernel⟩
def fX6_isGood (N : Nat)   (μ : wMem) : Option (Int32 × wMem) :=
  if (μ.1 0 12) = 0 then some (1, μ) else some (0, μ)
set_option maxHeartbeats 4000000 in
set_option maxRecDepth 100000 in
theorem tX6_isGood (l : Launch) {D : va_G} {E : List wCell} {q : Nat → Nat} {ca : wCA} (N : Nat)    (μ : wMem) (r0 : (Int32 × wMem)) (hf : fX6_isGood N   μ = some r0) : wMi l yX6_isGood cX6_isGood 1 (some .boolean) ({ frames := 0, cells := 0, slots := 0, locals := 0 } : Room) D vwCl (spM ++ E) q ca [.ref (q 0)] μ r0 := by
  refine wMi_intro (by decide) (Nat.le_of_ble_eq_true rfl) ?_
  intro p e s m args below meth c A C
  unfold fX6_isGood at hf
  refine wr_sub [(0, .ref (q 0))] [0] rfl ?_
  refine wr_aload_n 0 C dX6_isGood_0 0 rfl rfl ?_
  refine gespM_0_12_X6 1 C dX6_isGood_1 ?_
  refine wr_if_ne 4 11 C dX6_isGood_4 (by decide) (fun c1 => ?_) (fun c1 => ?_)
  · replace hf := o_neg c1 hf
    refine wr_iconst 11 C dX6_isGood_11 (v := 0) rfl ?_
    exact wr_zret 12 C dX6_isGood_12 rfl ⟨Nat.zero_le _, Nat.zero_le _⟩ (Option.some.inj hf)
  · replace hf := o_pos c1 hf
    refine wr_iconst 7 C dX6_isGood_7 (v := 1) rfl ?_
    refine wr_goto 8 C dX6_isGood_8 (tgt := 12) (by decide) ?_
    exact wr_zret 12 C dX6_isGood_12 rfl ⟨Nat.zero_le _, Nat.zero_le _⟩ (Option.some.inj hf)
abbrev cX6_is : ByteArray := prog_11_method_16_code
def yX6_is : MethodName := ⟨RX6, "is", "(J)Z"⟩
def dkwX6_is_1 : List UInt8 := [4, 167, 0, 4, 3, 172]
abbrev dktX6_is_1 : List UInt8 := dkwX6_is_1 ++ []
def dkwX6_is_0 : List UInt8 := [42, 180, 0, 140, 154, 0, 24, 42, 180, 0, 129, 4, 160, 0, 16, 42, 180, 0, 125, 31, 148, 154, 0, 7]
abbrev dktX6_is_0 : List UInt8 := dkwX6_is_0 ++ dktX6_is_1
theorem dksX6_is_0 : cX6_is.data.toList.drop 0 = dktX6_is_0 := by decide +kernel
theorem dksX6_is_1 : cX6_is.data.toList.drop 24 = dktX6_is_1 := dk_seg dksX6_is_0 24 rfl rfl
theorem dX6_is_0 : decode cX6_is 0 = .ok (.aload_n 0, 1) := dk_42 (dk_at dksX6_is_0 0 rfl rfl)
theorem dX6_is_1 : decode cX6_is 1 = .ok (.getfield 140, 3) := dk_180 0 140 (dk_at dksX6_is_0 1 rfl rfl)
theorem dX6_is_4 : decode cX6_is 4 = .ok (.ifCond .ne 24, 3) := dk_154 0 24 (dk_at dksX6_is_0 4 rfl rfl)
theorem dX6_is_7 : decode cX6_is 7 = .ok (.aload_n 0, 1) := dk_42 (dk_at dksX6_is_0 7 rfl rfl)
theorem dX6_is_8 : decode cX6_is 8 = .ok (.getfield 129, 3) := dk_180 0 129 (dk_at dksX6_is_0 8 rfl rfl)
theorem dX6_is_11 : decode cX6_is 11 = .ok (.iconst 1, 1) := dk_4 (dk_at dksX6_is_0 11 rfl rfl)
theorem dX6_is_12 : decode cX6_is 12 = .ok (.if_icmp .ne 16, 3) := dk_160 0 16 (dk_at dksX6_is_0 12 rfl rfl)
theorem dX6_is_15 : decode cX6_is 15 = .ok (.aload_n 0, 1) := dk_42 (dk_at dksX6_is_0 15 rfl rfl)
theorem dX6_is_16 : decode cX6_is 16 = .ok (.getfield 125, 3) := dk_180 0 125 (dk_at dksX6_is_0 16 rfl rfl)
theorem dX6_is_19 : decode cX6_is 19 = .ok (.lload_n 1, 1) := dk_31 (dk_at dksX6_is_0 19 rfl rfl)
theorem dX6_is_20 : decode cX6_is 20 = .ok (.lcmp, 1) := dk_148 (dk_at dksX6_is_0 20 rfl rfl)
theorem dX6_is_21 : decode cX6_is 21 = .ok (.ifCond .ne 7, 3) := dk_154 0 7 (dk_at dksX6_is_0 21 rfl rfl)
theorem dX6_is_24 : decode cX6_is 24 = .ok (.iconst 1, 1) := dk_4 (dk_at dksX6_is_1 0 rfl rfl)
theorem dX6_is_25 : decode cX6_is 25 = .ok (.goto 4, 3) := dk_167 0 4 (dk_at dksX6_is_1 1 rfl rfl)
theorem dX6_is_28 : decode cX6_is 28 = .ok (.iconst 0, 1) := dk_3 (dk_at dksX6_is_1 4 rfl rfl)
theorem dX6_is_29 : decode cX6_is 29 = .ok (.ireturn, 1) := dk_172 (dk_at dksX6_is_1 5 rfl rfl)
theorem gespM_0_8_X6 {p : Program} {l : Launch} {e : Env} {R : Room} {s : State} {m : MethodId} {args : Array Value} {below : List Frame} {meth : Method} {c : Code} {cc : ByteArray} {nL : Nat} {ret : Option FieldType} {D : va_G} {E : List wCell} {q : Nat → Nat} {ca : wCA} {A : Nat → Prop} {Q : State → Prop} {kc ks : Nat} {μ : wMem} {lv : List (Nat × Value)} {st : List Value} (pc : Nat) (C : wC p R s m args meth c cc "OnePassportModel" nL ret D vwCl (spM ++ E) q ca A) (hd : decode cc pc = .ok (.getfield 129, 3)) (k : wJ p l e R s m args below meth c nL D vwCl (spM ++ E) q ca A Q kc ks μ (pc + 3) lv (.int (μ.1 0 8) :: st)) : wJ p l e R s m args below meth c nL D vwCl (spM ++ E) q ca A Q kc ks μ pc lv (.ref (q 0) :: st) := wr_getI pc 8 C hd spM_0 rfl in_X6 (by decide) rfl q1407 k
theorem okX6_is : wOkV yX6_is cX6_is 3 (some .boolean) 1 := ⟨q1626, qs77, q145, q1627, by decide, by decide, by decide +kernel⟩
def fX6_is (N : Nat)  (a1 : Int64) (μ : wMem) : Option (Int32 × wMem) :=
  if (μ.1 0 12) = 0 then if (μ.1 0 8) = (1 : Int32) then if (μ.2 0 11) = a1 then some (1, μ) else some (0, μ) else some (0, μ) else some (0, μ)
set_option maxHeartbeats 4000000 in
set_option maxRecDepth 100000 in
theorem tX6_is (l : Launch) {D : va_G} {E : List wCell} {q : Nat → Nat} {ca : wCA} (N : Nat)   (a1 : Int64) (μ : wMem) (r0 : (Int32 × wMem)) (hf : fX6_is N  a1 μ = some r0) : wMi l yX6_is cX6_is 3 (some .boolean) ({ frames := 0, cells := 0, slots := 0, locals := 0 } : Room) D vwCl (spM ++ E) q ca [.ref (q 0), .long a1] μ r0 := by
  refine wMi_intro (by decide) (Nat.le_of_ble_eq_true rfl) ?_
  intro p e s m args below meth c A C
  unfold fX6_is at hf
  refine wr_sub [(0, .ref (q 0)), (1, .long a1)] [0, 1] rfl ?_
  refine wr_aload_n 0 C dX6_is_0 0 rfl rfl ?_
  refine gespM_0_12_X6 1 C dX6_is_1 ?_
  refine wr_if_ne 4 28 C dX6_is_4 (by decide) (fun c1 => ?_) (fun c1 => ?_)
  · replace hf := o_neg c1 hf
    refine wr_iconst 28 C dX6_is_28 (v := 0) rfl ?_
    exact wr_zret 29 C dX6_is_29 rfl ⟨Nat.zero_le _, Nat.zero_le _⟩ (Option.some.inj hf)
  · replace hf := o_pos c1 hf
    refine wr_aload_n 7 C dX6_is_7 0 rfl rfl ?_
    refine gespM_0_8_X6 8 C dX6_is_8 ?_
    refine wr_iconst 11 C dX6_is_11 (v := 1) rfl ?_
    refine wr_icmp_ne 12 28 C dX6_is_12 (by decide) (fun c2 => ?_) (fun c2 => ?_)
    · replace hf := o_neg c2 hf
      refine wr_iconst 28 C dX6_is_28 (v := 0) rfl ?_
      exact wr_zret 29 C dX6_is_29 rfl ⟨Nat.zero_le _, Nat.zero_le _⟩ (Option.some.inj hf)
    · replace hf := o_pos c2 hf
      refine wr_aload_n 15 C dX6_is_15 0 rfl rfl ?_
      refine gespM_0_11_X6 16 C dX6_is_16 ?_
      refine wr_lload_n 19 C dX6_is_19 1 rfl rfl ?_
      refine wr_lcmp_ne 20 28 C dX6_is_20 dX6_is_21 (by decide) (fun c3 => ?_) (fun c3 => ?_)
      · replace hf := o_neg c3 hf
        refine wr_iconst 28 C dX6_is_28 (v := 0) rfl ?_
        exact wr_zret 29 C dX6_is_29 rfl ⟨Nat.zero_le _, Nat.zero_le _⟩ (Option.some.inj hf)
      · replace hf := o_pos c3 hf
        refine wr_iconst 24 C dX6_is_24 (v := 1) rfl ?_
        refine wr_goto 25 C dX6_is_25 (tgt := 29) (by decide) ?_
        exact wr_zret 29 C dX6_is_29 rfl ⟨Nat.zero_le _, Nat.zero_le _⟩ (Option.some.inj hf)
abbrev cX6_takes : ByteArray := prog_11_method_17_code
def yX6_takes : MethodName := ⟨RX6, "takes", "(J)Z"⟩
def dkwX6_takes_0 : List UInt8 := [42, 31, 182, 0, 146, 154, 0, 5, 3, 172, 42, 182, 0, 150, 4, 172]
abbrev dktX6_takes_0 : List UInt8 := dkwX6_takes_0 ++ []
theorem dksX6_takes_0 : cX6_takes.data.toList.drop 0 = dktX6_takes_0 := by decide +kernel
theorem dX6_takes_0 : decode cX6_takes 0 = .ok (.aload_n 0, 1) := dk_42 (dk_at dksX6_takes_0 0 rfl rfl)
theorem dX6_takes_1 : decode cX6_takes 1 = .ok (.lload_n 1, 1) := dk_31 (dk_at dksX6_takes_0 1 rfl rfl)
theorem dX6_takes_2 : decode cX6_takes 2 = .ok (.invokevirtual 146, 3) := dk_182 0 146 (dk_at dksX6_takes_0 2 rfl rfl)
theorem dX6_takes_5 : decode cX6_takes 5 = .ok (.ifCond .ne 5, 3) := dk_154 0 5 (dk_at dksX6_takes_0 5 rfl rfl)
theorem dX6_takes_8 : decode cX6_takes 8 = .ok (.iconst 0, 1) := dk_3 (dk_at dksX6_takes_0 8 rfl rfl)
theorem dX6_takes_9 : decode cX6_takes 9 = .ok (.ireturn, 1) := dk_172 (dk_at dksX6_takes_0 9 rfl rfl)
theorem dX6_takes_10 : decode cX6_takes 10 = .ok (.aload_n 0, 1) := dk_42 (dk_at dksX6_takes_0 10 rfl rfl)
theorem dX6_takes_11 : decode cX6_takes 11 = .ok (.invokevirtual 150, 3) := dk_182 0 150 (dk_at dksX6_takes_0 11 rfl rfl)
theorem dX6_takes_14 : decode cX6_takes 14 = .ok (.iconst 1, 1) := dk_4 (dk_at dksX6_takes_0 14 rfl rfl)
theorem dX6_takes_15 : decode cX6_takes 15 = .ok (.ireturn, 1) := dk_172 (dk_at dksX6_takes_0 15 rfl rfl)

theorem okX6_takes : wOkV yX6_takes cX6_takes 3 (some .boolean) 1 := ⟨q1622, qs76, q145, q1623, by decide, by decide, by decide +kernel⟩
def fX6_takes (N : Nat)  (a1 : Int64) (μ : wMem) : Option (Int32 × wMem) :=
  wBind (fX6_is N  a1 μ) fun v3 μ2 => if v3 = 0 then some (0, μ2) else wBindV (fX6_next N   μ2) fun μ6 => some (1, μ6)
set_option maxHeartbeats 4000000 in
set_option maxRecDepth 100000 in
theorem tX6_takes (l : Launch) {D : va_G} {E : List wCell} {q : Nat → Nat} {ca : wCA} (N : Nat)   (a1 : Int64) (μ : wMem) (r0 : (Int32 × wMem)) (hf : fX6_takes N  a1 μ = some r0) : wMi l yX6_takes cX6_takes 3 (some .boolean) ({ frames := 2, cells := 0, slots := 0, locals := 44 } : Room) D vwCl (spM ++ E) q ca [.ref (q 0), .long a1] μ r0 := by
  refine wMi_intro (by decide) (Nat.le_of_ble_eq_true rfl) ?_
  intro p e s m args below meth c A C
  unfold fX6_takes at hf
  refine wr_sub [(0, .ref (q 0)), (1, .long a1)] [0, 1] rfl ?_
  refine wr_aload_n 0 C dX6_takes_0 0 rfl rfl ?_
  refine wr_lload_n 1 C dX6_takes_1 1 rfl rfl ?_
  obtain ⟨v3, μ2, h1, hf⟩ := o_bind hf
  refine wr_Vi (kc1 := 0) (ks1 := 0) 2 [] C dX6_takes_2 (tX6_is l N   a1 μ (v3, μ2) h1) okX6_is q1624 (b := 0) spM_0 rfl ⟨rfl, rfl, Nat.le_of_ble_eq_true rfl, Nat.le_of_ble_eq_true rfl, Nat.zero_le _, Nat.zero_le _⟩ (Nat.le_of_ble_eq_true rfl) rfl ?_
  refine wr_if_ne 5 10 C dX6_takes_5 (by decide) (fun c4 => ?_) (fun c4 => ?_)
  · replace hf := o_neg c4 hf
    refine wr_aload_n 10 C dX6_takes_10 0 rfl rfl ?_
    obtain ⟨μ6, h5, hf⟩ := o_bindV hf
    refine wr_Vv (kc1 := 0) (ks1 := 0) 11 [] C dX6_takes_11 (tX6_next l N    μ2 μ6 h5) okX6_next q1598 (b := 0) spM_0 rfl ⟨rfl, rfl, Nat.le_of_ble_eq_true rfl, Nat.le_of_ble_eq_true rfl, Nat.zero_le _, Nat.zero_le _⟩ (Nat.le_of_ble_eq_true rfl) rfl ?_
    refine wr_iconst 14 C dX6_takes_14 (v := 1) rfl ?_
    exact wr_zret 15 C dX6_takes_15 rfl ⟨Nat.zero_le _, Nat.zero_le _⟩ (Option.some.inj hf)
  · replace hf := o_pos c4 hf
    refine wr_iconst 8 C dX6_takes_8 (v := 0) rfl ?_
    exact wr_zret 9 C dX6_takes_9 rfl ⟨Nat.zero_le _, Nat.zero_le _⟩ (Option.some.inj hf)
abbrev cX6_fails : ByteArray := prog_11_method_15_code
def yX6_fails : MethodName := ⟨RX6, "fails", "(I)V"⟩
def dkwX6_fails_0 : List UInt8 := [42, 180, 0, 140, 153, 0, 4, 177, 42, 27, 181, 0, 140, 42, 42, 180, 0, 119, 181, 0, 143, 177]
abbrev dktX6_fails_0 : List UInt8 := dkwX6_fails_0 ++ []
theorem dksX6_fails_0 : cX6_fails.data.toList.drop 0 = dktX6_fails_0 := by decide +kernel
theorem dX6_fails_0 : decode cX6_fails 0 = .ok (.aload_n 0, 1) := dk_42 (dk_at dksX6_fails_0 0 rfl rfl)
theorem dX6_fails_1 : decode cX6_fails 1 = .ok (.getfield 140, 3) := dk_180 0 140 (dk_at dksX6_fails_0 1 rfl rfl)
theorem dX6_fails_4 : decode cX6_fails 4 = .ok (.ifCond .eq 4, 3) := dk_153 0 4 (dk_at dksX6_fails_0 4 rfl rfl)
theorem dX6_fails_7 : decode cX6_fails 7 = .ok (.return_, 1) := dk_177 (dk_at dksX6_fails_0 7 rfl rfl)
theorem dX6_fails_8 : decode cX6_fails 8 = .ok (.aload_n 0, 1) := dk_42 (dk_at dksX6_fails_0 8 rfl rfl)
theorem dX6_fails_9 : decode cX6_fails 9 = .ok (.iload_n 1, 1) := dk_27 (dk_at dksX6_fails_0 9 rfl rfl)
theorem dX6_fails_10 : decode cX6_fails 10 = .ok (.putfield 140, 3) := dk_181 0 140 (dk_at dksX6_fails_0 10 rfl rfl)
theorem dX6_fails_13 : decode cX6_fails 13 = .ok (.aload_n 0, 1) := dk_42 (dk_at dksX6_fails_0 13 rfl rfl)
theorem dX6_fails_14 : decode cX6_fails 14 = .ok (.aload_n 0, 1) := dk_42 (dk_at dksX6_fails_0 14 rfl rfl)
theorem dX6_fails_15 : decode cX6_fails 15 = .ok (.getfield 119, 3) := dk_180 0 119 (dk_at dksX6_fails_0 15 rfl rfl)
theorem dX6_fails_18 : decode cX6_fails 18 = .ok (.putfield 143, 3) := dk_181 0 143 (dk_at dksX6_fails_0 18 rfl rfl)
theorem dX6_fails_21 : decode cX6_fails 21 = .ok (.return_, 1) := dk_177 (dk_at dksX6_fails_0 21 rfl rfl)
theorem gespM_0_9_X6 {p : Program} {l : Launch} {e : Env} {R : Room} {s : State} {m : MethodId} {args : Array Value} {below : List Frame} {meth : Method} {c : Code} {cc : ByteArray} {nL : Nat} {ret : Option FieldType} {D : va_G} {E : List wCell} {q : Nat → Nat} {ca : wCA} {A : Nat → Prop} {Q : State → Prop} {kc ks : Nat} {μ : wMem} {lv : List (Nat × Value)} {st : List Value} (pc : Nat) (C : wC p R s m args meth c cc "OnePassportModel" nL ret D vwCl (spM ++ E) q ca A) (hd : decode cc pc = .ok (.getfield 119, 3)) (k : wJ p l e R s m args below meth c nL D vwCl (spM ++ E) q ca A Q kc ks μ (pc + 3) lv (.int (μ.1 0 9) :: st)) : wJ p l e R s m args below meth c nL D vwCl (spM ++ E) q ca A Q kc ks μ pc lv (.ref (q 0) :: st) := wr_getI pc 9 C hd spM_0 rfl in_X6 (by decide) rfl q1408 k
theorem okX6_fails : wOkV yX6_fails cX6_fails 2 none 1 := ⟨q1630, qs78, q145, q1631, by decide, by decide, by decide +kernel⟩
def fX6_fails (N : Nat)  (a1 : Int32) (μ : wMem) : Option wMem :=
  if (μ.1 0 12) = 0 then wLet (wSI μ 0 12 a1) fun μ2 => wLet (wSI μ2 0 13 (μ2.1 0 9)) fun μ3 => some μ3 else some μ
set_option maxHeartbeats 4000000 in
set_option maxRecDepth 100000 in
theorem tX6_fails (l : Launch) {D : va_G} {E : List wCell} {q : Nat → Nat} {ca : wCA} (N : Nat)   (a1 : Int32) (μ : wMem) (r0 : wMem) (hf : fX6_fails N  a1 μ = some r0) : wMv l yX6_fails cX6_fails 2 none ({ frames := 0, cells := 0, slots := 0, locals := 0 } : Room) D vwCl (spM ++ E) q ca [.ref (q 0), .int a1] μ r0 := by
  refine wMv_intro (by decide) (Nat.le_of_ble_eq_true rfl) ?_
  intro p e s m args below meth c A C
  unfold fX6_fails at hf
  refine wr_sub [(0, .ref (q 0)), (1, .int a1)] [0, 1] rfl ?_
  refine wr_aload_n 0 C dX6_fails_0 0 rfl rfl ?_
  refine gespM_0_12_X6 1 C dX6_fails_1 ?_
  refine wr_if_eq 4 8 C dX6_fails_4 (by decide) (fun c1 => ?_) (fun c1 => ?_)
  · replace hf := o_pos c1 hf
    refine wr_aload_n 8 C dX6_fails_8 0 rfl rfl ?_
    refine wr_iload_n 9 C dX6_fails_9 1 rfl rfl ?_
    obtain ⟨μ2, eμ2, hf⟩ := o_let hf
    refine puspM_0_12_X6 10 C dX6_fails_10 eμ2 ?_
    refine wr_aload_n 13 C dX6_fails_13 0 rfl rfl ?_
    refine wr_aload_n 14 C dX6_fails_14 0 rfl rfl ?_
    refine gespM_0_9_X6 15 C dX6_fails_15 ?_
    obtain ⟨μ3, eμ3, hf⟩ := o_let hf
    refine puspM_0_13_X6 18 C dX6_fails_18 eμ3 ?_
    exact wr_vret 21 C dX6_fails_21 ⟨Nat.zero_le _, Nat.zero_le _⟩ (Option.some.inj hf)
  · replace hf := o_neg c1 hf
    exact wr_vret 7 C dX6_fails_7 ⟨Nat.zero_le _, Nat.zero_le _⟩ (Option.some.inj hf)
abbrev cX6_asks : ByteArray := prog_11_method_18_code
def yX6_asks : MethodName := ⟨RX6, "asks", "(J)V"⟩
def dkwX6_asks_0 : List UInt8 := [42, 31, 182, 0, 153, 154, 0, 8, 42, 4, 182, 0, 156, 177]
abbrev dktX6_asks_0 : List UInt8 := dkwX6_asks_0 ++ []
theorem dksX6_asks_0 : cX6_asks.data.toList.drop 0 = dktX6_asks_0 := by decide +kernel
theorem dX6_asks_0 : decode cX6_asks 0 = .ok (.aload_n 0, 1) := dk_42 (dk_at dksX6_asks_0 0 rfl rfl)
theorem dX6_asks_1 : decode cX6_asks 1 = .ok (.lload_n 1, 1) := dk_31 (dk_at dksX6_asks_0 1 rfl rfl)
theorem dX6_asks_2 : decode cX6_asks 2 = .ok (.invokevirtual 153, 3) := dk_182 0 153 (dk_at dksX6_asks_0 2 rfl rfl)
theorem dX6_asks_5 : decode cX6_asks 5 = .ok (.ifCond .ne 8, 3) := dk_154 0 8 (dk_at dksX6_asks_0 5 rfl rfl)
theorem dX6_asks_8 : decode cX6_asks 8 = .ok (.aload_n 0, 1) := dk_42 (dk_at dksX6_asks_0 8 rfl rfl)
theorem dX6_asks_9 : decode cX6_asks 9 = .ok (.iconst 1, 1) := dk_4 (dk_at dksX6_asks_0 9 rfl rfl)
theorem dX6_asks_10 : decode cX6_asks 10 = .ok (.invokevirtual 156, 3) := dk_182 0 156 (dk_at dksX6_asks_0 10 rfl rfl)
theorem dX6_asks_13 : decode cX6_asks 13 = .ok (.return_, 1) := dk_177 (dk_at dksX6_asks_0 13 rfl rfl)

theorem okX6_asks : wOkV yX6_asks cX6_asks 3 none 1 := ⟨q1618, qs75, q145, q1619, by decide, by decide, by decide +kernel⟩
def fX6_asks (N : Nat)  (a1 : Int64) (μ : wMem) : Option wMem :=
  wBind (fX6_takes N  a1 μ) fun v3 μ2 => if v3 = 0 then wBindV (fX6_fails N  1 μ2) fun μ6 => some μ6 else some μ2
set_option maxHeartbeats 4000000 in
set_option maxRecDepth 100000 in
theorem tX6_asks (l : Launch) {D : va_G} {E : List wCell} {q : Nat → Nat} {ca : wCA} (N : Nat)   (a1 : Int64) (μ : wMem) (r0 : wMem) (hf : fX6_asks N  a1 μ = some r0) : wMv l yX6_asks cX6_asks 3 none ({ frames := 3, cells := 0, slots := 0, locals := 66 } : Room) D vwCl (spM ++ E) q ca [.ref (q 0), .long a1] μ r0 := by
  refine wMv_intro (by decide) (Nat.le_of_ble_eq_true rfl) ?_
  intro p e s m args below meth c A C
  unfold fX6_asks at hf
  refine wr_sub [(0, .ref (q 0)), (1, .long a1)] [0, 1] rfl ?_
  refine wr_aload_n 0 C dX6_asks_0 0 rfl rfl ?_
  refine wr_lload_n 1 C dX6_asks_1 1 rfl rfl ?_
  obtain ⟨v3, μ2, h1, hf⟩ := o_bind hf
  refine wr_Vi (kc1 := 0) (ks1 := 0) 2 [] C dX6_asks_2 (tX6_takes l N   a1 μ (v3, μ2) h1) okX6_takes q1620 (b := 0) spM_0 rfl ⟨rfl, rfl, Nat.le_of_ble_eq_true rfl, Nat.le_of_ble_eq_true rfl, Nat.zero_le _, Nat.zero_le _⟩ (Nat.le_of_ble_eq_true rfl) rfl ?_
  refine wr_if_ne 5 13 C dX6_asks_5 (by decide) (fun c4 => ?_) (fun c4 => ?_)
  · replace hf := o_neg c4 hf
    exact wr_vret 13 C dX6_asks_13 ⟨Nat.zero_le _, Nat.zero_le _⟩ (Option.some.inj hf)
  · replace hf := o_pos c4 hf
    refine wr_aload_n 8 C dX6_asks_8 0 rfl rfl ?_
    refine wr_iconst 9 C dX6_asks_9 (v := 1) rfl ?_
    obtain ⟨μ6, h5, hf⟩ := o_bindV hf
    refine wr_Vv (kc1 := 0) (ks1 := 0) 10 [] C dX6_asks_10 (tX6_fails l N   1 μ2 μ6 h5) okX6_fails q1628 (b := 0) spM_0 rfl ⟨rfl, rfl, Nat.le_of_ble_eq_true rfl, Nat.le_of_ble_eq_true rfl, Nat.zero_le _, Nat.zero_le _⟩ (Nat.le_of_ble_eq_true rfl) rfl ?_
    exact wr_vret 13 C dX6_asks_13 ⟨Nat.zero_le _, Nat.zero_le _⟩ (Option.some.inj hf)
abbrev cX6_number_2 : ByteArray := prog_11_method_19_code
def yX6_number_2 : MethodName := ⟨RX6, "number", "(II)I"⟩
def dkwX6_number_2_2 : List UInt8 := [180, 0, 122, 62, 42, 182, 0, 150, 29, 172]
abbrev dktX6_number_2_2 : List UInt8 := dkwX6_number_2_2 ++ []
def dkwX6_number_2_1 : List UInt8 := [42, 180, 0, 122, 133, 27, 133, 28, 133, 184, 0, 93, 154, 0, 10, 42, 5, 182, 0, 156, 27, 172, 42]
abbrev dktX6_number_2_1 : List UInt8 := dkwX6_number_2_1 ++ dktX6_number_2_2
def dkwX6_number_2_0 : List UInt8 := [42, 180, 0, 140, 153, 0, 5, 27, 172, 42, 180, 0, 129, 5, 159, 0, 10, 42, 4, 182, 0, 156, 27, 172]
abbrev dktX6_number_2_0 : List UInt8 := dkwX6_number_2_0 ++ dktX6_number_2_1
theorem dksX6_number_2_0 : cX6_number_2.data.toList.drop 0 = dktX6_number_2_0 := by decide +kernel
theorem dksX6_number_2_1 : cX6_number_2.data.toList.drop 24 = dktX6_number_2_1 := dk_seg dksX6_number_2_0 24 rfl rfl
theorem dksX6_number_2_2 : cX6_number_2.data.toList.drop 47 = dktX6_number_2_2 := dk_seg dksX6_number_2_1 23 rfl rfl
theorem dX6_number_2_0 : decode cX6_number_2 0 = .ok (.aload_n 0, 1) := dk_42 (dk_at dksX6_number_2_0 0 rfl rfl)
theorem dX6_number_2_1 : decode cX6_number_2 1 = .ok (.getfield 140, 3) := dk_180 0 140 (dk_at dksX6_number_2_0 1 rfl rfl)
theorem dX6_number_2_4 : decode cX6_number_2 4 = .ok (.ifCond .eq 5, 3) := dk_153 0 5 (dk_at dksX6_number_2_0 4 rfl rfl)
theorem dX6_number_2_7 : decode cX6_number_2 7 = .ok (.iload_n 1, 1) := dk_27 (dk_at dksX6_number_2_0 7 rfl rfl)
theorem dX6_number_2_8 : decode cX6_number_2 8 = .ok (.ireturn, 1) := dk_172 (dk_at dksX6_number_2_0 8 rfl rfl)
theorem dX6_number_2_9 : decode cX6_number_2 9 = .ok (.aload_n 0, 1) := dk_42 (dk_at dksX6_number_2_0 9 rfl rfl)
theorem dX6_number_2_10 : decode cX6_number_2 10 = .ok (.getfield 129, 3) := dk_180 0 129 (dk_at dksX6_number_2_0 10 rfl rfl)
theorem dX6_number_2_13 : decode cX6_number_2 13 = .ok (.iconst 2, 1) := dk_5 (dk_at dksX6_number_2_0 13 rfl rfl)
theorem dX6_number_2_14 : decode cX6_number_2 14 = .ok (.if_icmp .eq 10, 3) := dk_159 0 10 (dk_at dksX6_number_2_0 14 rfl rfl)
theorem dX6_number_2_17 : decode cX6_number_2 17 = .ok (.aload_n 0, 1) := dk_42 (dk_at dksX6_number_2_0 17 rfl rfl)
theorem dX6_number_2_18 : decode cX6_number_2 18 = .ok (.iconst 1, 1) := dk_4 (dk_at dksX6_number_2_0 18 rfl rfl)
theorem dX6_number_2_19 : decode cX6_number_2 19 = .ok (.invokevirtual 156, 3) := dk_182 0 156 (dk_at dksX6_number_2_0 19 rfl rfl)
theorem dX6_number_2_22 : decode cX6_number_2 22 = .ok (.iload_n 1, 1) := dk_27 (dk_at dksX6_number_2_0 22 rfl rfl)
theorem dX6_number_2_23 : decode cX6_number_2 23 = .ok (.ireturn, 1) := dk_172 (dk_at dksX6_number_2_0 23 rfl rfl)
theorem dX6_number_2_24 : decode cX6_number_2 24 = .ok (.aload_n 0, 1) := dk_42 (dk_at dksX6_number_2_1 0 rfl rfl)
theorem dX6_number_2_25 : decode cX6_number_2 25 = .ok (.getfield 122, 3) := dk_180 0 122 (dk_at dksX6_number_2_1 1 rfl rfl)
theorem dX6_number_2_28 : decode cX6_number_2 28 = .ok (.i2l, 1) := dk_133 (dk_at dksX6_number_2_1 4 rfl rfl)
theorem dX6_number_2_29 : decode cX6_number_2 29 = .ok (.iload_n 1, 1) := dk_27 (dk_at dksX6_number_2_1 5 rfl rfl)
theorem dX6_number_2_30 : decode cX6_number_2 30 = .ok (.i2l, 1) := dk_133 (dk_at dksX6_number_2_1 6 rfl rfl)
theorem dX6_number_2_31 : decode cX6_number_2 31 = .ok (.iload_n 2, 1) := dk_28 (dk_at dksX6_number_2_1 7 rfl rfl)
theorem dX6_number_2_32 : decode cX6_number_2 32 = .ok (.i2l, 1) := dk_133 (dk_at dksX6_number_2_1 8 rfl rfl)
theorem dX6_number_2_33 : decode cX6_number_2 33 = .ok (.invokestatic 93, 3) := dk_184 0 93 (dk_at dksX6_number_2_1 9 rfl rfl)
theorem dX6_number_2_36 : decode cX6_number_2 36 = .ok (.ifCond .ne 10, 3) := dk_154 0 10 (dk_at dksX6_number_2_1 12 rfl rfl)
theorem dX6_number_2_39 : decode cX6_number_2 39 = .ok (.aload_n 0, 1) := dk_42 (dk_at dksX6_number_2_1 15 rfl rfl)
theorem dX6_number_2_40 : decode cX6_number_2 40 = .ok (.iconst 2, 1) := dk_5 (dk_at dksX6_number_2_1 16 rfl rfl)
theorem dX6_number_2_41 : decode cX6_number_2 41 = .ok (.invokevirtual 156, 3) := dk_182 0 156 (dk_at dksX6_number_2_1 17 rfl rfl)
theorem dX6_number_2_44 : decode cX6_number_2 44 = .ok (.iload_n 1, 1) := dk_27 (dk_at dksX6_number_2_1 20 rfl rfl)
theorem dX6_number_2_45 : decode cX6_number_2 45 = .ok (.ireturn, 1) := dk_172 (dk_at dksX6_number_2_1 21 rfl rfl)
theorem dX6_number_2_46 : decode cX6_number_2 46 = .ok (.aload_n 0, 1) := dk_42 (dk_at dksX6_number_2_1 22 rfl rfl)
theorem dX6_number_2_47 : decode cX6_number_2 47 = .ok (.getfield 122, 3) := dk_180 0 122 (dk_at dksX6_number_2_2 0 rfl rfl)
theorem dX6_number_2_50 : decode cX6_number_2 50 = .ok (.istore_n 3, 1) := dk_62 (dk_at dksX6_number_2_2 3 rfl rfl)
theorem dX6_number_2_51 : decode cX6_number_2 51 = .ok (.aload_n 0, 1) := dk_42 (dk_at dksX6_number_2_2 4 rfl rfl)
theorem dX6_number_2_52 : decode cX6_number_2 52 = .ok (.invokevirtual 150, 3) := dk_182 0 150 (dk_at dksX6_number_2_2 5 rfl rfl)
theorem dX6_number_2_55 : decode cX6_number_2 55 = .ok (.iload_n 3, 1) := dk_29 (dk_at dksX6_number_2_2 8 rfl rfl)
theorem dX6_number_2_56 : decode cX6_number_2 56 = .ok (.ireturn, 1) := dk_172 (dk_at dksX6_number_2_2 9 rfl rfl)

theorem okX6_number_2 : wOkV yX6_number_2 cX6_number_2 4 (some .int) 2 := ⟨q1639, qs80, q145, q1640, by decide, by decide, by decide +kernel⟩
def fX6_number_2 (N : Nat)  (a1 : Int32) (a2 : Int32) (μ : wMem) : Option (Int32 × wMem) :=
  if (μ.1 0 12) = 0 then if (μ.1 0 8) = (2 : Int32) then wBind (fX6_in N  (Int32.toInt64 (μ.1 0 10)) (Int32.toInt64 a1) (Int32.toInt64 a2) μ) fun v5 μ4 => if v5 = 0 then wBindV (fX6_fails N  2 μ4) fun μ11 => some (a1, μ11) else wLet (μ4.1 0 10 : Int32) fun x7 => wBindV (fX6_next N   μ4) fun μ9 => some (x7, μ9) else wBindV (fX6_fails N  1 μ) fun μ13 => some (a1, μ13) else some (a1, μ)
set_option maxHeartbeats 4000000 in
set_option maxRecDepth 100000 in
theorem tX6_number_2 (l : Launch) {D : va_G} {E : List wCell} {q : Nat → Nat} {ca : wCA} (N : Nat)   (a1 : Int32) (a2 : Int32) (μ : wMem) (r0 : (Int32 × wMem)) (hf : fX6_number_2 N  a1 a2 μ = some r0) : wMi l yX6_number_2 cX6_number_2 4 (some .int) ({ frames := 2, cells := 0, slots := 0, locals := 44 } : Room) D vwCl (spM ++ E) q ca [.ref (q 0), .int a1, .int a2] μ r0 := by
  refine wMi_intro (by decide) (Nat.le_of_ble_eq_true rfl) ?_
  intro p e s m args below meth c A C
  unfold fX6_number_2 at hf
  refine wr_sub [(0, .ref (q 0)), (1, .int a1), (2, .int a2)] [0, 1, 2] rfl ?_
  refine wr_aload_n 0 C dX6_number_2_0 0 rfl rfl ?_
  refine gespM_0_12_X6 1 C dX6_number_2_1 ?_
  refine wr_if_eq 4 9 C dX6_number_2_4 (by decide) (fun c1 => ?_) (fun c1 => ?_)
  · replace hf := o_pos c1 hf
    refine wr_aload_n 9 C dX6_number_2_9 0 rfl rfl ?_
    refine gespM_0_8_X6 10 C dX6_number_2_10 ?_
    refine wr_iconst 13 C dX6_number_2_13 (v := 2) rfl ?_
    refine wr_icmp_eq 14 24 C dX6_number_2_14 (by decide) (fun c2 => ?_) (fun c2 => ?_)
    · replace hf := o_pos c2 hf
      refine wr_aload_n 24 C dX6_number_2_24 0 rfl rfl ?_
      refine gespM_0_10_X6 25 C dX6_number_2_25 ?_
      refine wr_i2l 28 C dX6_number_2_28 ?_
      refine wr_iload_n 29 C dX6_number_2_29 1 rfl rfl ?_
      refine wr_i2l 30 C dX6_number_2_30 ?_
      refine wr_iload_n 31 C dX6_number_2_31 2 rfl rfl ?_
      refine wr_i2l 32 C dX6_number_2_32 ?_
      obtain ⟨v5, μ4, h3, hf⟩ := o_bind hf
      refine wr_Si (kc1 := 0) (ks1 := 0) 33 [] C dX6_number_2_33 (tX6_in l N   (Int32.toInt64 (μ.1 0 10)) (Int32.toInt64 a1) (Int32.toInt64 a2) μ (v5, μ4) h3) okX6_in q1552 ⟨rfl, rfl, Nat.le_of_ble_eq_true rfl, Nat.le_of_ble_eq_true rfl, Nat.zero_le _, Nat.zero_le _⟩ (Nat.le_of_ble_eq_true rfl) rfl ?_
      refine wr_if_ne 36 46 C dX6_number_2_36 (by decide) (fun c6 => ?_) (fun c6 => ?_)
      · replace hf := o_neg c6 hf
        refine wr_aload_n 46 C dX6_number_2_46 0 rfl rfl ?_
        refine gespM_0_10_X6 47 C dX6_number_2_47 ?_
        obtain ⟨x7, ex7, hf⟩ := o_let hf
        refine wr_istore_n 50 [(3, .int x7), (0, .ref (q 0)), (1, .int a1), (2, .int a2)] C dX6_number_2_50 ex7 rfl (Nat.le_of_ble_eq_true rfl) rfl ?_
        refine wr_aload_n 51 C dX6_number_2_51 1 rfl rfl ?_
        obtain ⟨μ9, h8, hf⟩ := o_bindV hf
        refine wr_Vv (kc1 := 0) (ks1 := 0) 52 [] C dX6_number_2_52 (tX6_next l N    μ4 μ9 h8) okX6_next q1598 (b := 0) spM_0 rfl ⟨rfl, rfl, Nat.le_of_ble_eq_true rfl, Nat.le_of_ble_eq_true rfl, Nat.zero_le _, Nat.zero_le _⟩ (Nat.le_of_ble_eq_true rfl) rfl ?_
        refine wr_iload_n 55 C dX6_number_2_55 0 rfl rfl ?_
        exact wr_iret 56 C dX6_number_2_56 ⟨Nat.zero_le _, Nat.zero_le _⟩ (Option.some.inj hf)
      · replace hf := o_pos c6 hf
        refine wr_aload_n 39 C dX6_number_2_39 0 rfl rfl ?_
        refine wr_iconst 40 C dX6_number_2_40 (v := 2) rfl ?_
        obtain ⟨μ11, h10, hf⟩ := o_bindV hf
        refine wr_Vv (kc1 := 0) (ks1 := 0) 41 [] C dX6_number_2_41 (tX6_fails l N   2 μ4 μ11 h10) okX6_fails q1628 (b := 0) spM_0 rfl ⟨rfl, rfl, Nat.le_of_ble_eq_true rfl, Nat.le_of_ble_eq_true rfl, Nat.zero_le _, Nat.zero_le _⟩ (Nat.le_of_ble_eq_true rfl) rfl ?_
        refine wr_iload_n 44 C dX6_number_2_44 1 rfl rfl ?_
        exact wr_iret 45 C dX6_number_2_45 ⟨Nat.zero_le _, Nat.zero_le _⟩ (Option.some.inj hf)
    · replace hf := o_neg c2 hf
      refine wr_aload_n 17 C dX6_number_2_17 0 rfl rfl ?_
      refine wr_iconst 18 C dX6_number_2_18 (v := 1) rfl ?_
      obtain ⟨μ13, h12, hf⟩ := o_bindV hf
      refine wr_Vv (kc1 := 0) (ks1 := 0) 19 [] C dX6_number_2_19 (tX6_fails l N   1 μ μ13 h12) okX6_fails q1628 (b := 0) spM_0 rfl ⟨rfl, rfl, Nat.le_of_ble_eq_true rfl, Nat.le_of_ble_eq_true rfl, Nat.zero_le _, Nat.zero_le _⟩ (Nat.le_of_ble_eq_true rfl) rfl ?_
      refine wr_iload_n 22 C dX6_number_2_22 1 rfl rfl ?_
      exact wr_iret 23 C dX6_number_2_23 ⟨Nat.zero_le _, Nat.zero_le _⟩ (Option.some.inj hf)
  · replace hf := o_neg c1 hf
    refine wr_iload_n 7 C dX6_number_2_7 1 rfl rfl ?_
    exact wr_iret 8 C dX6_number_2_8 ⟨Nat.zero_le _, Nat.zero_le _⟩ (Option.some.inj hf)
abbrev cX6_number : ByteArray := prog_11_method_20_code
def yX6_number : MethodName := ⟨RX6, "number", "(JII)I"⟩
def dkwX6_number_0 : List UInt8 := [42, 31, 182, 0, 159, 42, 29, 21, 4, 182, 0, 163, 172]
abbrev dktX6_number_0 : List UInt8 := dkwX6_number_0 ++ []
theorem dksX6_number_0 : cX6_number.data.toList.drop 0 = dktX6_number_0 := by decide +kernel
theorem dX6_number_0 : decode cX6_number 0 = .ok (.aload_n 0, 1) := dk_42 (dk_at dksX6_number_0 0 rfl rfl)
theorem dX6_number_1 : decode cX6_number 1 = .ok (.lload_n 1, 1) := dk_31 (dk_at dksX6_number_0 1 rfl rfl)
theorem dX6_number_2 : decode cX6_number 2 = .ok (.invokevirtual 159, 3) := dk_182 0 159 (dk_at dksX6_number_0 2 rfl rfl)
theorem dX6_number_5 : decode cX6_number 5 = .ok (.aload_n 0, 1) := dk_42 (dk_at dksX6_number_0 5 rfl rfl)
theorem dX6_number_6 : decode cX6_number 6 = .ok (.iload_n 3, 1) := dk_29 (dk_at dksX6_number_0 6 rfl rfl)
theorem dX6_number_7 : decode cX6_number 7 = .ok (.iload 4, 2) := dk_21 4 (dk_at dksX6_number_0 7 rfl rfl)
theorem dX6_number_9 : decode cX6_number 9 = .ok (.invokevirtual 163, 3) := dk_182 0 163 (dk_at dksX6_number_0 9 rfl rfl)
theorem dX6_number_12 : decode cX6_number 12 = .ok (.ireturn, 1) := dk_172 (dk_at dksX6_number_0 12 rfl rfl)

theorem okX6_number : wOkV yX6_number cX6_number 5 (some .int) 3 := ⟨q1635, qs79, q145, q1636, by decide, by decide, by decide +kernel⟩
def fX6_number (N : Nat)  (a1 : Int64) (a3 : Int32) (a4 : Int32) (μ : wMem) : Option (Int32 × wMem) :=
  wBindV (fX6_asks N  a1 μ) fun μ2 => wBind (fX6_number_2 N  a3 a4 μ2) fun v5 μ4 => some (v5, μ4)
set_option maxHeartbeats 4000000 in
set_option maxRecDepth 100000 in
theorem tX6_number (l : Launch) {D : va_G} {E : List wCell} {q : Nat → Nat} {ca : wCA} (N : Nat)   (a1 : Int64) (a3 : Int32) (a4 : Int32) (μ : wMem) (r0 : (Int32 × wMem)) (hf : fX6_number N  a1 a3 a4 μ = some r0) : wMi l yX6_number cX6_number 5 (some .int) ({ frames := 4, cells := 0, slots := 0, locals := 88 } : Room) D vwCl (spM ++ E) q ca [.ref (q 0), .long a1, .int a3, .int a4] μ r0 := by
  refine wMi_intro (by decide) (Nat.le_of_ble_eq_true rfl) ?_
  intro p e s m args below meth c A C
  unfold fX6_number at hf
  refine wr_sub [(0, .ref (q 0)), (1, .long a1), (3, .int a3), (4, .int a4)] [0, 1, 2, 3] rfl ?_
  refine wr_aload_n 0 C dX6_number_0 0 rfl rfl ?_
  refine wr_lload_n 1 C dX6_number_1 1 rfl rfl ?_
  obtain ⟨μ2, h1, hf⟩ := o_bindV hf
  refine wr_Vv (kc1 := 0) (ks1 := 0) 2 [] C dX6_number_2 (tX6_asks l N   a1 μ μ2 h1) okX6_asks q1616 (b := 0) spM_0 rfl ⟨rfl, rfl, Nat.le_of_ble_eq_true rfl, Nat.le_of_ble_eq_true rfl, Nat.zero_le _, Nat.zero_le _⟩ (Nat.le_of_ble_eq_true rfl) rfl ?_
  refine wr_aload_n 5 C dX6_number_5 0 rfl rfl ?_
  refine wr_iload_n 6 C dX6_number_6 2 rfl rfl ?_
  refine wr_iload 7 C dX6_number_7 3 rfl ?_
  obtain ⟨v5, μ4, h3, hf⟩ := o_bind hf
  refine wr_Vi (kc1 := 0) (ks1 := 0) 9 [] C dX6_number_9 (tX6_number_2 l N   a3 a4 μ2 (v5, μ4) h3) okX6_number_2 q1637 (b := 0) spM_0 rfl ⟨rfl, rfl, Nat.le_of_ble_eq_true rfl, Nat.le_of_ble_eq_true rfl, Nat.zero_le _, Nat.zero_le _⟩ (Nat.le_of_ble_eq_true rfl) rfl ?_
  exact wr_iret 12 C dX6_number_12 ⟨Nat.zero_le _, Nat.zero_le _⟩ (Option.some.inj hf)
abbrev cX6_hasRead : ByteArray := prog_11_method_25_code
def yX6_hasRead : MethodName := ⟨RX6, "hasRead", "(I)I"⟩
def dkwX6_hasRead_0 : List UInt8 := [42, 180, 0, 34, 16, 28, 27, 96, 46, 172]
abbrev dktX6_hasRead_0 : List UInt8 := dkwX6_hasRead_0 ++ []
theorem dksX6_hasRead_0 : cX6_hasRead.data.toList.drop 0 = dktX6_hasRead_0 := by decide +kernel
theorem dX6_hasRead_0 : decode cX6_hasRead 0 = .ok (.aload_n 0, 1) := dk_42 (dk_at dksX6_hasRead_0 0 rfl rfl)
theorem dX6_hasRead_1 : decode cX6_hasRead 1 = .ok (.getfield 34, 3) := dk_180 0 34 (dk_at dksX6_hasRead_0 1 rfl rfl)
theorem dX6_hasRead_4 : decode cX6_hasRead 4 = .ok (.bipush 28, 2) := dk_16 28 (dk_at dksX6_hasRead_0 4 rfl rfl)
theorem dX6_hasRead_6 : decode cX6_hasRead 6 = .ok (.iload_n 1, 1) := dk_27 (dk_at dksX6_hasRead_0 6 rfl rfl)
theorem dX6_hasRead_7 : decode cX6_hasRead 7 = .ok (.iadd, 1) := dk_96 (dk_at dksX6_hasRead_0 7 rfl rfl)
theorem dX6_hasRead_8 : decode cX6_hasRead 8 = .ok (.iaload, 1) := dk_46 (dk_at dksX6_hasRead_0 8 rfl rfl)
theorem dX6_hasRead_9 : decode cX6_hasRead 9 = .ok (.ireturn, 1) := dk_172 (dk_at dksX6_hasRead_0 9 rfl rfl)

theorem okX6_hasRead : wOkV yX6_hasRead cX6_hasRead 2 (some .int) 1 := ⟨q1650, qs82, q145, q1651, by decide, by decide, by decide +kernel⟩
def fX6_hasRead (N : Nat)  (a1 : Int32) (μ : wMem) : Option (Int32 × wMem) :=
  wG (ok_in ((28 : Int32) + a1) 35) (some (μ.1 7 (Int32.toNatClampNeg ((28 : Int32) + a1)), μ))
set_option maxHeartbeats 4000000 in
set_option maxRecDepth 100000 in
theorem tX6_hasRead (l : Launch) {D : va_G} {E : List wCell} {q : Nat → Nat} {ca : wCA} (N : Nat)   (a1 : Int32) (μ : wMem) (r0 : (Int32 × wMem)) (hf : fX6_hasRead N  a1 μ = some r0) : wMi l yX6_hasRead cX6_hasRead 2 (some .int) ({ frames := 0, cells := 0, slots := 0, locals := 0 } : Room) D vwCl (spM ++ E) q ca [.ref (q 0), .int a1] μ r0 := by
  refine wMi_intro (by decide) (Nat.le_of_ble_eq_true rfl) ?_
  intro p e s m args below meth c A C
  unfold fX6_hasRead at hf
  refine wr_sub [(0, .ref (q 0)), (1, .int a1)] [0, 1] rfl ?_
  refine wr_aload_n 0 C dX6_hasRead_0 0 rfl rfl ?_
  refine gespM_0_17_X6 1 C dX6_hasRead_1 ?_
  refine wr_bipush 4 C dX6_hasRead_4 (v := 28) rfl ?_
  refine wr_iload_n 6 C dX6_hasRead_6 1 rfl rfl ?_
  refine wr_iadd 7 C dX6_hasRead_7 ?_
  obtain ⟨g1, hf⟩ := o_g hf
  refine wr_iald 8 C dX6_hasRead_8 spM_7 g1 ?_
  exact wr_iret 9 C dX6_hasRead_9 ⟨Nat.zero_le _, Nat.zero_le _⟩ (Option.some.inj hf)
abbrev cX6_isBit : ByteArray := prog_11_method_36_code
def yX6_isBit : MethodName := ⟨RX6, "isBit", "(II)Z"⟩
def dkwX6_isBit_0 : List UInt8 := [26, 27, 122, 4, 126, 4, 160, 0, 7, 4, 167, 0, 4, 3, 172]
abbrev dktX6_isBit_0 : List UInt8 := dkwX6_isBit_0 ++ []
theorem dksX6_isBit_0 : cX6_isBit.data.toList.drop 0 = dktX6_isBit_0 := by decide +kernel
theorem dX6_isBit_0 : decode cX6_isBit 0 = .ok (.iload_n 0, 1) := dk_26 (dk_at dksX6_isBit_0 0 rfl rfl)
theorem dX6_isBit_1 : decode cX6_isBit 1 = .ok (.iload_n 1, 1) := dk_27 (dk_at dksX6_isBit_0 1 rfl rfl)
theorem dX6_isBit_2 : decode cX6_isBit 2 = .ok (.ishr, 1) := dk_122 (dk_at dksX6_isBit_0 2 rfl rfl)
theorem dX6_isBit_3 : decode cX6_isBit 3 = .ok (.iconst 1, 1) := dk_4 (dk_at dksX6_isBit_0 3 rfl rfl)
theorem dX6_isBit_4 : decode cX6_isBit 4 = .ok (.iand, 1) := dk_126 (dk_at dksX6_isBit_0 4 rfl rfl)
theorem dX6_isBit_5 : decode cX6_isBit 5 = .ok (.iconst 1, 1) := dk_4 (dk_at dksX6_isBit_0 5 rfl rfl)
theorem dX6_isBit_6 : decode cX6_isBit 6 = .ok (.if_icmp .ne 7, 3) := dk_160 0 7 (dk_at dksX6_isBit_0 6 rfl rfl)
theorem dX6_isBit_9 : decode cX6_isBit 9 = .ok (.iconst 1, 1) := dk_4 (dk_at dksX6_isBit_0 9 rfl rfl)
theorem dX6_isBit_10 : decode cX6_isBit 10 = .ok (.goto 4, 3) := dk_167 0 4 (dk_at dksX6_isBit_0 10 rfl rfl)
theorem dX6_isBit_13 : decode cX6_isBit 13 = .ok (.iconst 0, 1) := dk_3 (dk_at dksX6_isBit_0 13 rfl rfl)
theorem dX6_isBit_14 : decode cX6_isBit 14 = .ok (.ireturn, 1) := dk_172 (dk_at dksX6_isBit_0 14 rfl rfl)

theorem okX6_isBit : wOkS yX6_isBit cX6_isBit 2 (some .boolean) 2 := ⟨q1661, q145, q1662, by decide, by decide, by decide +kernel⟩
def fX6_isBit (N : Nat)  (a0 : Int32) (a1 : Int32) (μ : wMem) : Option (Int32 × wMem) :=
  if ((a0 >>> (a1 &&& 31)) &&& (1 : Int32)) = (1 : Int32) then some (1, μ) else some (0, μ)
set_option maxHeartbeats 4000000 in
set_option maxRecDepth 100000 in
theorem tX6_isBit (l : Launch) {D : va_G} {E : List wCell} {q : Nat → Nat} {ca : wCA} (N : Nat)   (a0 : Int32) (a1 : Int32) (μ : wMem) (r0 : (Int32 × wMem)) (hf : fX6_isBit N  a0 a1 μ = some r0) : wMi l yX6_isBit cX6_isBit 2 (some .boolean) ({ frames := 0, cells := 0, slots := 0, locals := 0 } : Room) D vwCl (spM ++ E) q ca [.int a0, .int a1] μ r0 := by
  refine wMi_intro (by decide) (Nat.le_of_ble_eq_true rfl) ?_
  intro p e s m args below meth c A C
  unfold fX6_isBit at hf
  refine wr_sub [(0, .int a0), (1, .int a1)] [0, 1] rfl ?_
  refine wr_iload_n 0 C dX6_isBit_0 0 rfl rfl ?_
  refine wr_iload_n 1 C dX6_isBit_1 1 rfl rfl ?_
  refine wr_ishr 2 C dX6_isBit_2 ?_
  refine wr_iconst 3 C dX6_isBit_3 (v := 1) rfl ?_
  refine wr_iand 4 C dX6_isBit_4 ?_
  refine wr_iconst 5 C dX6_isBit_5 (v := 1) rfl ?_
  refine wr_icmp_ne 6 13 C dX6_isBit_6 (by decide) (fun c1 => ?_) (fun c1 => ?_)
  · replace hf := o_neg c1 hf
    refine wr_iconst 13 C dX6_isBit_13 (v := 0) rfl ?_
    exact wr_zret 14 C dX6_isBit_14 rfl ⟨Nat.zero_le _, Nat.zero_le _⟩ (Option.some.inj hf)
  · replace hf := o_pos c1 hf
    refine wr_iconst 9 C dX6_isBit_9 (v := 1) rfl ?_
    refine wr_goto 10 C dX6_isBit_10 (tgt := 14) (by decide) ?_
    exact wr_zret 14 C dX6_isBit_14 rfl ⟨Nat.zero_le _, Nat.zero_le _⟩ (Option.some.inj hf)
abbrev cX6_personLine : ByteArray := prog_11_method_27_code
def yX6_personLine : MethodName := ⟨RX6, "personLine", "()V"⟩
def dkwX6_personLine_6 : List UInt8 := [182, 0, 193, 177]
abbrev dktX6_personLine_6 : List UInt8 := dkwX6_personLine_6 ++ []
def dkwX6_personLine_5 : List UInt8 := [42, 29, 42, 29, 182, 0, 170, 4, 27, 120, 128, 182, 0, 193, 167, 255, 166, 42, 5, 27, 4, 96]
abbrev dktX6_personLine_5 : List UInt8 := dkwX6_personLine_5 ++ dktX6_personLine_6
def dkwX6_personLine_4 : List UInt8 := [27, 184, 0, 189, 153, 0, 8, 42, 4, 182, 0, 156, 42, 180, 0, 140, 153, 0, 4, 177, 42, 182, 0, 150]
abbrev dktX6_personLine_4 : List UInt8 := dkwX6_personLine_4 ++ dktX6_personLine_5
def dkwX6_personLine_3 : List UInt8 := [167, 0, 4, 8, 62, 28, 154, 0, 13, 42, 20, 0, 187, 182, 0, 146, 153, 0, 15, 42, 29, 182, 0, 170]
abbrev dktX6_personLine_3 : List UInt8 := dkwX6_personLine_3 ++ dktX6_personLine_4
def dkwX6_personLine_2 : List UInt8 := [153, 0, 89, 42, 180, 0, 129, 4, 160, 0, 81, 42, 20, 0, 185, 182, 0, 146, 61, 28, 153, 0, 7, 7]
abbrev dktX6_personLine_2 : List UInt8 := dkwX6_personLine_2 ++ dktX6_personLine_3
def dkwX6_personLine_1 : List UInt8 := [79, 42, 180, 0, 40, 16, 24, 27, 96, 42, 20, 0, 179, 3, 16, 9, 182, 0, 176, 79, 42, 182, 0, 181]
abbrev dktX6_personLine_1 : List UInt8 := dkwX6_personLine_1 ++ dktX6_personLine_2
def dkwX6_personLine_0 : List UInt8 := [42, 5, 182, 0, 170, 60, 42, 180, 0, 37, 16, 24, 27, 96, 42, 20, 0, 174, 3, 16, 100, 182, 0, 176]
abbrev dktX6_personLine_0 : List UInt8 := dkwX6_personLine_0 ++ dktX6_personLine_1
theorem dksX6_personLine_0 : cX6_personLine.data.toList.drop 0 = dktX6_personLine_0 := by decide +kernel
theorem dksX6_personLine_1 : cX6_personLine.data.toList.drop 24 = dktX6_personLine_1 := dk_seg dksX6_personLine_0 24 rfl rfl
theorem dksX6_personLine_2 : cX6_personLine.data.toList.drop 48 = dktX6_personLine_2 := dk_seg dksX6_personLine_1 24 rfl rfl
theorem dksX6_personLine_3 : cX6_personLine.data.toList.drop 72 = dktX6_personLine_3 := dk_seg dksX6_personLine_2 24 rfl rfl
theorem dksX6_personLine_4 : cX6_personLine.data.toList.drop 96 = dktX6_personLine_4 := dk_seg dksX6_personLine_3 24 rfl rfl
theorem dksX6_personLine_5 : cX6_personLine.data.toList.drop 120 = dktX6_personLine_5 := dk_seg dksX6_personLine_4 24 rfl rfl
theorem dksX6_personLine_6 : cX6_personLine.data.toList.drop 142 = dktX6_personLine_6 := dk_seg dksX6_personLine_5 22 rfl rfl
theorem dX6_personLine_0 : decode cX6_personLine 0 = .ok (.aload_n 0, 1) := dk_42 (dk_at dksX6_personLine_0 0 rfl rfl)
theorem dX6_personLine_1 : decode cX6_personLine 1 = .ok (.iconst 2, 1) := dk_5 (dk_at dksX6_personLine_0 1 rfl rfl)
theorem dX6_personLine_2 : decode cX6_personLine 2 = .ok (.invokevirtual 170, 3) := dk_182 0 170 (dk_at dksX6_personLine_0 2 rfl rfl)
theorem dX6_personLine_5 : decode cX6_personLine 5 = .ok (.istore_n 1, 1) := dk_60 (dk_at dksX6_personLine_0 5 rfl rfl)
theorem dX6_personLine_6 : decode cX6_personLine 6 = .ok (.aload_n 0, 1) := dk_42 (dk_at dksX6_personLine_0 6 rfl rfl)
theorem dX6_personLine_7 : decode cX6_personLine 7 = .ok (.getfield 37, 3) := dk_180 0 37 (dk_at dksX6_personLine_0 7 rfl rfl)
theorem dX6_personLine_10 : decode cX6_personLine 10 = .ok (.bipush 24, 2) := dk_16 24 (dk_at dksX6_personLine_0 10 rfl rfl)
theorem dX6_personLine_12 : decode cX6_personLine 12 = .ok (.iload_n 1, 1) := dk_27 (dk_at dksX6_personLine_0 12 rfl rfl)
theorem dX6_personLine_13 : decode cX6_personLine 13 = .ok (.iadd, 1) := dk_96 (dk_at dksX6_personLine_0 13 rfl rfl)
theorem dX6_personLine_14 : decode cX6_personLine 14 = .ok (.aload_n 0, 1) := dk_42 (dk_at dksX6_personLine_0 14 rfl rfl)
theorem dX6_personLine_15 : decode cX6_personLine 15 = .ok (.ldc2_w 174, 3) := dk_20 0 174 (dk_at dksX6_personLine_0 15 rfl rfl)
theorem dX6_personLine_18 : decode cX6_personLine 18 = .ok (.iconst 0, 1) := dk_3 (dk_at dksX6_personLine_0 18 rfl rfl)
theorem dX6_personLine_19 : decode cX6_personLine 19 = .ok (.bipush 100, 2) := dk_16 100 (dk_at dksX6_personLine_0 19 rfl rfl)
theorem dX6_personLine_21 : decode cX6_personLine 21 = .ok (.invokevirtual 176, 3) := dk_182 0 176 (dk_at dksX6_personLine_0 21 rfl rfl)
theorem dX6_personLine_24 : decode cX6_personLine 24 = .ok (.iastore, 1) := dk_79 (dk_at dksX6_personLine_1 0 rfl rfl)
theorem dX6_personLine_25 : decode cX6_personLine 25 = .ok (.aload_n 0, 1) := dk_42 (dk_at dksX6_personLine_1 1 rfl rfl)
theorem dX6_personLine_26 : decode cX6_personLine 26 = .ok (.getfield 40, 3) := dk_180 0 40 (dk_at dksX6_personLine_1 2 rfl rfl)
theorem dX6_personLine_29 : decode cX6_personLine 29 = .ok (.bipush 24, 2) := dk_16 24 (dk_at dksX6_personLine_1 5 rfl rfl)
theorem dX6_personLine_31 : decode cX6_personLine 31 = .ok (.iload_n 1, 1) := dk_27 (dk_at dksX6_personLine_1 7 rfl rfl)
theorem dX6_personLine_32 : decode cX6_personLine 32 = .ok (.iadd, 1) := dk_96 (dk_at dksX6_personLine_1 8 rfl rfl)
theorem dX6_personLine_33 : decode cX6_personLine 33 = .ok (.aload_n 0, 1) := dk_42 (dk_at dksX6_personLine_1 9 rfl rfl)
theorem dX6_personLine_34 : decode cX6_personLine 34 = .ok (.ldc2_w 179, 3) := dk_20 0 179 (dk_at dksX6_personLine_1 10 rfl rfl)
theorem dX6_personLine_37 : decode cX6_personLine 37 = .ok (.iconst 0, 1) := dk_3 (dk_at dksX6_personLine_1 13 rfl rfl)
theorem dX6_personLine_38 : decode cX6_personLine 38 = .ok (.bipush 9, 2) := dk_16 9 (dk_at dksX6_personLine_1 14 rfl rfl)
theorem dX6_personLine_40 : decode cX6_personLine 40 = .ok (.invokevirtual 176, 3) := dk_182 0 176 (dk_at dksX6_personLine_1 16 rfl rfl)
theorem dX6_personLine_43 : decode cX6_personLine 43 = .ok (.iastore, 1) := dk_79 (dk_at dksX6_personLine_1 19 rfl rfl)
theorem dX6_personLine_44 : decode cX6_personLine 44 = .ok (.aload_n 0, 1) := dk_42 (dk_at dksX6_personLine_1 20 rfl rfl)
theorem dX6_personLine_45 : decode cX6_personLine 45 = .ok (.invokevirtual 181, 3) := dk_182 0 181 (dk_at dksX6_personLine_1 21 rfl rfl)
theorem dX6_personLine_48 : decode cX6_personLine 48 = .ok (.ifCond .eq 89, 3) := dk_153 0 89 (dk_at dksX6_personLine_2 0 rfl rfl)
theorem dX6_personLine_51 : decode cX6_personLine 51 = .ok (.aload_n 0, 1) := dk_42 (dk_at dksX6_personLine_2 3 rfl rfl)
theorem dX6_personLine_52 : decode cX6_personLine 52 = .ok (.getfield 129, 3) := dk_180 0 129 (dk_at dksX6_personLine_2 4 rfl rfl)
theorem dX6_personLine_55 : decode cX6_personLine 55 = .ok (.iconst 1, 1) := dk_4 (dk_at dksX6_personLine_2 7 rfl rfl)
theorem dX6_personLine_56 : decode cX6_personLine 56 = .ok (.if_icmp .ne 81, 3) := dk_160 0 81 (dk_at dksX6_personLine_2 8 rfl rfl)
theorem dX6_personLine_59 : decode cX6_personLine 59 = .ok (.aload_n 0, 1) := dk_42 (dk_at dksX6_personLine_2 11 rfl rfl)
theorem dX6_personLine_60 : decode cX6_personLine 60 = .ok (.ldc2_w 185, 3) := dk_20 0 185 (dk_at dksX6_personLine_2 12 rfl rfl)
theorem dX6_personLine_63 : decode cX6_personLine 63 = .ok (.invokevirtual 146, 3) := dk_182 0 146 (dk_at dksX6_personLine_2 15 rfl rfl)
theorem dX6_personLine_66 : decode cX6_personLine 66 = .ok (.istore_n 2, 1) := dk_61 (dk_at dksX6_personLine_2 18 rfl rfl)
theorem dX6_personLine_67 : decode cX6_personLine 67 = .ok (.iload_n 2, 1) := dk_28 (dk_at dksX6_personLine_2 19 rfl rfl)
theorem dX6_personLine_68 : decode cX6_personLine 68 = .ok (.ifCond .eq 7, 3) := dk_153 0 7 (dk_at dksX6_personLine_2 20 rfl rfl)
theorem dX6_personLine_71 : decode cX6_personLine 71 = .ok (.iconst 4, 1) := dk_7 (dk_at dksX6_personLine_2 23 rfl rfl)
theorem dX6_personLine_72 : decode cX6_personLine 72 = .ok (.goto 4, 3) := dk_167 0 4 (dk_at dksX6_personLine_3 0 rfl rfl)
theorem dX6_personLine_75 : decode cX6_personLine 75 = .ok (.iconst 5, 1) := dk_8 (dk_at dksX6_personLine_3 3 rfl rfl)
theorem dX6_personLine_76 : decode cX6_personLine 76 = .ok (.istore_n 3, 1) := dk_62 (dk_at dksX6_personLine_3 4 rfl rfl)
theorem dX6_personLine_77 : decode cX6_personLine 77 = .ok (.iload_n 2, 1) := dk_28 (dk_at dksX6_personLine_3 5 rfl rfl)
theorem dX6_personLine_78 : decode cX6_personLine 78 = .ok (.ifCond .ne 13, 3) := dk_154 0 13 (dk_at dksX6_personLine_3 6 rfl rfl)
theorem dX6_personLine_81 : decode cX6_personLine 81 = .ok (.aload_n 0, 1) := dk_42 (dk_at dksX6_personLine_3 9 rfl rfl)
theorem dX6_personLine_82 : decode cX6_personLine 82 = .ok (.ldc2_w 187, 3) := dk_20 0 187 (dk_at dksX6_personLine_3 10 rfl rfl)
theorem dX6_personLine_85 : decode cX6_personLine 85 = .ok (.invokevirtual 146, 3) := dk_182 0 146 (dk_at dksX6_personLine_3 13 rfl rfl)
theorem dX6_personLine_88 : decode cX6_personLine 88 = .ok (.ifCond .eq 15, 3) := dk_153 0 15 (dk_at dksX6_personLine_3 16 rfl rfl)
theorem dX6_personLine_91 : decode cX6_personLine 91 = .ok (.aload_n 0, 1) := dk_42 (dk_at dksX6_personLine_3 19 rfl rfl)
theorem dX6_personLine_92 : decode cX6_personLine 92 = .ok (.iload_n 3, 1) := dk_29 (dk_at dksX6_personLine_3 20 rfl rfl)
theorem dX6_personLine_93 : decode cX6_personLine 93 = .ok (.invokevirtual 170, 3) := dk_182 0 170 (dk_at dksX6_personLine_3 21 rfl rfl)
theorem dX6_personLine_96 : decode cX6_personLine 96 = .ok (.iload_n 1, 1) := dk_27 (dk_at dksX6_personLine_4 0 rfl rfl)
theorem dX6_personLine_97 : decode cX6_personLine 97 = .ok (.invokestatic 189, 3) := dk_184 0 189 (dk_at dksX6_personLine_4 1 rfl rfl)
theorem dX6_personLine_100 : decode cX6_personLine 100 = .ok (.ifCond .eq 8, 3) := dk_153 0 8 (dk_at dksX6_personLine_4 4 rfl rfl)
theorem dX6_personLine_103 : decode cX6_personLine 103 = .ok (.aload_n 0, 1) := dk_42 (dk_at dksX6_personLine_4 7 rfl rfl)
theorem dX6_personLine_104 : decode cX6_personLine 104 = .ok (.iconst 1, 1) := dk_4 (dk_at dksX6_personLine_4 8 rfl rfl)
theorem dX6_personLine_105 : decode cX6_personLine 105 = .ok (.invokevirtual 156, 3) := dk_182 0 156 (dk_at dksX6_personLine_4 9 rfl rfl)
theorem dX6_personLine_108 : decode cX6_personLine 108 = .ok (.aload_n 0, 1) := dk_42 (dk_at dksX6_personLine_4 12 rfl rfl)
theorem dX6_personLine_109 : decode cX6_personLine 109 = .ok (.getfield 140, 3) := dk_180 0 140 (dk_at dksX6_personLine_4 13 rfl rfl)
theorem dX6_personLine_112 : decode cX6_personLine 112 = .ok (.ifCond .eq 4, 3) := dk_153 0 4 (dk_at dksX6_personLine_4 16 rfl rfl)
theorem dX6_personLine_115 : decode cX6_personLine 115 = .ok (.return_, 1) := dk_177 (dk_at dksX6_personLine_4 19 rfl rfl)
theorem dX6_personLine_116 : decode cX6_personLine 116 = .ok (.aload_n 0, 1) := dk_42 (dk_at dksX6_personLine_4 20 rfl rfl)
theorem dX6_personLine_117 : decode cX6_personLine 117 = .ok (.invokevirtual 150, 3) := dk_182 0 150 (dk_at dksX6_personLine_4 21 rfl rfl)
theorem dX6_personLine_120 : decode cX6_personLine 120 = .ok (.aload_n 0, 1) := dk_42 (dk_at dksX6_personLine_5 0 rfl rfl)
theorem dX6_personLine_121 : decode cX6_personLine 121 = .ok (.iload_n 3, 1) := dk_29 (dk_at dksX6_personLine_5 1 rfl rfl)
theorem dX6_personLine_122 : decode cX6_personLine 122 = .ok (.aload_n 0, 1) := dk_42 (dk_at dksX6_personLine_5 2 rfl rfl)
theorem dX6_personLine_123 : decode cX6_personLine 123 = .ok (.iload_n 3, 1) := dk_29 (dk_at dksX6_personLine_5 3 rfl rfl)
theorem dX6_personLine_124 : decode cX6_personLine 124 = .ok (.invokevirtual 170, 3) := dk_182 0 170 (dk_at dksX6_personLine_5 4 rfl rfl)
theorem dX6_personLine_127 : decode cX6_personLine 127 = .ok (.iconst 1, 1) := dk_4 (dk_at dksX6_personLine_5 7 rfl rfl)
theorem dX6_personLine_128 : decode cX6_personLine 128 = .ok (.iload_n 1, 1) := dk_27 (dk_at dksX6_personLine_5 8 rfl rfl)
theorem dX6_personLine_129 : decode cX6_personLine 129 = .ok (.ishl, 1) := dk_120 (dk_at dksX6_personLine_5 9 rfl rfl)
theorem dX6_personLine_130 : decode cX6_personLine 130 = .ok (.ior, 1) := dk_128 (dk_at dksX6_personLine_5 10 rfl rfl)
theorem dX6_personLine_131 : decode cX6_personLine 131 = .ok (.invokevirtual 193, 3) := dk_182 0 193 (dk_at dksX6_personLine_5 11 rfl rfl)
theorem dX6_personLine_134 : decode cX6_personLine 134 = .ok (.goto (-90), 3) := dk_167 255 166 (dk_at dksX6_personLine_5 14 rfl rfl)
theorem dX6_personLine_137 : decode cX6_personLine 137 = .ok (.aload_n 0, 1) := dk_42 (dk_at dksX6_personLine_5 17 rfl rfl)
theorem dX6_personLine_138 : decode cX6_personLine 138 = .ok (.iconst 2, 1) := dk_5 (dk_at dksX6_personLine_5 18 rfl rfl)
theorem dX6_personLine_139 : decode cX6_personLine 139 = .ok (.iload_n 1, 1) := dk_27 (dk_at dksX6_personLine_5 19 rfl rfl)
theorem dX6_personLine_140 : decode cX6_personLine 140 = .ok (.iconst 1, 1) := dk_4 (dk_at dksX6_personLine_5 20 rfl rfl)
theorem dX6_personLine_141 : decode cX6_personLine 141 = .ok (.iadd, 1) := dk_96 (dk_at dksX6_personLine_5 21 rfl rfl)
theorem dX6_personLine_142 : decode cX6_personLine 142 = .ok (.invokevirtual 193, 3) := dk_182 0 193 (dk_at dksX6_personLine_6 0 rfl rfl)
theorem dX6_personLine_145 : decode cX6_personLine 145 = .ok (.return_, 1) := dk_177 (dk_at dksX6_personLine_6 3 rfl rfl)
theorem gespM_0_18_X6 {p : Program} {l : Launch} {e : Env} {R : Room} {s : State} {m : MethodId} {args : Array Value} {below : List Frame} {meth : Method} {c : Code} {cc : ByteArray} {nL : Nat} {ret : Option FieldType} {D : va_G} {E : List wCell} {q : Nat → Nat} {ca : wCA} {A : Nat → Prop} {Q : State → Prop} {kc ks : Nat} {μ : wMem} {lv : List (Nat × Value)} {st : List Value} (pc : Nat) (C : wC p R s m args meth c cc "OnePassportModel" nL ret D vwCl (spM ++ E) q ca A) (hd : decode cc pc = .ok (.getfield 37, 3)) (k : wJ p l e R s m args below meth c nL D vwCl (spM ++ E) q ca A Q kc ks μ (pc + 3) lv (.ref (q 8) :: st)) : wJ p l e R s m args below meth c nL D vwCl (spM ++ E) q ca A Q kc ks μ pc lv (.ref (q 0) :: st) := wr_getR pc 18 C hd spM_0 rfl in_X6 (by decide) rfl q1417 k
theorem gespM_0_19_X6 {p : Program} {l : Launch} {e : Env} {R : Room} {s : State} {m : MethodId} {args : Array Value} {below : List Frame} {meth : Method} {c : Code} {cc : ByteArray} {nL : Nat} {ret : Option FieldType} {D : va_G} {E : List wCell} {q : Nat → Nat} {ca : wCA} {A : Nat → Prop} {Q : State → Prop} {kc ks : Nat} {μ : wMem} {lv : List (Nat × Value)} {st : List Value} (pc : Nat) (C : wC p R s m args meth c cc "OnePassportModel" nL ret D vwCl (spM ++ E) q ca A) (hd : decode cc pc = .ok (.getfield 40, 3)) (k : wJ p l e R s m args below meth c nL D vwCl (spM ++ E) q ca A Q kc ks μ (pc + 3) lv (.ref (q 9) :: st)) : wJ p l e R s m args below meth c nL D vwCl (spM ++ E) q ca A Q kc ks μ pc lv (.ref (q 0) :: st) := wr_getR pc 19 C hd spM_0 rfl in_X6 (by decide) rfl q1418 k
theorem okX6_personLine : wOkV yX6_personLine cX6_personLine 4 none 0 := ⟨q1654, qs83, q145, q1655, by decide, by decide, by decide +kernel⟩
def gbX6_personLine_44 (N : Nat)  (x1_ : Int32) (K : (wMem → Option wMem)) (rec : (wMem → Option wMem))  (μ : wMem) : Option wMem :=
  wBind (fX6_isGood N   μ) fun v16 μ15 => if v16 = 0 then K  μ15 else if (μ15.1 0 8) = (1 : Int32) then wBind (fX6_is N  1758676 μ15) fun v21 μ20 => wLet (fun (v23 : Int32) (μ22 : wMem) => wLet (fun  (μ24 : wMem) => if (μ24.1 0 12) = 0 then wBindV (fX6_next N   μ24) fun μ27 => wBind (fX6_hasRead N  v23 μ27) fun v30 μ29 => wBindV (fX6_tells N  v23 (v30 ||| ((1 : Int32) <<< (x1_ &&& 31))) μ29) fun μ32 => rec  μ32 else some μ24) fun JpersonLine108 => wLet (fun  (μ33 : wMem) => wBindV (fX6_fails N  1 μ33) fun μ35 => JpersonLine108  μ35) fun JpersonLine103 => wLet (fun  (μ36 : wMem) => wBind (fX6_hasRead N  v23 μ36) fun v39 μ38 => wBind (fX6_isBit N  v39 x1_ μ38) fun v42 μ41 => if v42 = 0 then JpersonLine108  μ41 else JpersonLine103  μ41) fun JpersonLine91 => if v21 = 0 then wBind (fX6_is N  10492462 μ22) fun v47 μ46 => if v47 = 0 then JpersonLine103  μ46 else JpersonLine91  μ46 else JpersonLine91  μ22) fun JpersonLine76 => if v21 = 0 then JpersonLine76 5 μ20 else JpersonLine76 4 μ20 else K  μ15
def gX6_personLine_44 (N : Nat)  (x1_ : Int32) (K : (wMem → Option wMem)) : Nat → (wMem → Option wMem)
  | 0 => fun  _ => none
  | k + 1 => gbX6_personLine_44 N  x1_ K (gX6_personLine_44 N  x1_ K k)
set_option maxHeartbeats 4000000 in
set_option maxRecDepth 100000 in
theorem tX6_personLine_44 {p : Program} {l : Launch} {e : Env} {s : State} {m : MethodId} {args : Array Value} {below : List Frame} {meth : Method} {c : Code} {D : va_G} {E : List wCell} {q : Nat → Nat} {ca : wCA} {A : Nat → Prop} (C : wC p ({ frames := 5, cells := 0, slots := 0, locals := 112 } : Room) s m args meth c cX6_personLine yX6_personLine.cls 4 none D vwCl (spM ++ E) q ca A) (N : Nat)   (x1_ : Int32) (K : (wMem → Option wMem)) (r0 : wMem) (hK : ∀  (μ : wMem), K  μ = some r0 → wJ p l e ({ frames := 5, cells := 0, slots := 0, locals := 112 } : Room) s m args below meth c 4 D vwCl (spM ++ E) q ca A (wQv ({ frames := 5, cells := 0, slots := 0, locals := 112 } : Room) D vwCl (spM ++ E) q ca below args s A r0) 0 0 μ 137 [(0, .ref (q 0)), (1, .int x1_)] []) : ∀ (k : Nat)  (μ : wMem), gX6_personLine_44 N  x1_ K k  μ = some r0 → wJ p l e ({ frames := 5, cells := 0, slots := 0, locals := 112 } : Room) s m args below meth c 4 D vwCl (spM ++ E) q ca A (wQv ({ frames := 5, cells := 0, slots := 0, locals := 112 } : Room) D vwCl (spM ++ E) q ca below args s A r0) 0 0 μ 44 [(0, .ref (q 0)), (1, .int x1_)] [] := by
  intro k
  induction k with
  | zero =>
    intro  μ hf
    cases hf
  | succ k ih =>
    intro  μ hf
    replace hf : gbX6_personLine_44 N  x1_ K (gX6_personLine_44 N  x1_ K k)  μ = some r0 := hf
    unfold gbX6_personLine_44 at hf
    refine wr_aload_n 44 C dX6_personLine_44 0 rfl rfl ?_
    obtain ⟨v16, μ15, h14, hf⟩ := o_bind hf
    refine wr_Vi (kc1 := 0) (ks1 := 0) 45 [] C dX6_personLine_45 (tX6_isGood l N    μ (v16, μ15) h14) okX6_isGood q1611 (b := 0) spM_0 rfl ⟨rfl, rfl, Nat.le_of_ble_eq_true rfl, Nat.le_of_ble_eq_true rfl, Nat.zero_le _, Nat.zero_le _⟩ (Nat.le_of_ble_eq_true rfl) rfl ?_
    refine wr_if_eq 48 137 C dX6_personLine_48 (by decide) (fun c17 => ?_) (fun c17 => ?_)
    · replace hf := o_pos c17 hf
      exact hK  μ15 hf
    · replace hf := o_neg c17 hf
      refine wr_aload_n 51 C dX6_personLine_51 0 rfl rfl ?_
      refine gespM_0_8_X6 52 C dX6_personLine_52 ?_
      refine wr_iconst 55 C dX6_personLine_55 (v := 1) rfl ?_
      refine wr_icmp_ne 56 137 C dX6_personLine_56 (by decide) (fun c18 => ?_) (fun c18 => ?_)
      · replace hf := o_neg c18 hf
        exact hK  μ15 hf
      · replace hf := o_pos c18 hf
        refine wr_aload_n 59 C dX6_personLine_59 0 rfl rfl ?_
        refine wr_ldc2 60 C dX6_personLine_60 q1658 ?_
        obtain ⟨v21, μ20, h19, hf⟩ := o_bind hf
        refine wr_Vi (kc1 := 0) (ks1 := 0) 63 [] C dX6_personLine_63 (tX6_is l N   1758676 μ15 (v21, μ20) h19) okX6_is q1624 (b := 0) spM_0 rfl ⟨rfl, rfl, Nat.le_of_ble_eq_true rfl, Nat.le_of_ble_eq_true rfl, Nat.zero_le _, Nat.zero_le _⟩ (Nat.le_of_ble_eq_true rfl) rfl ?_
        refine wr_istore_n 66 [(2, .int v21), (0, .ref (q 0)), (1, .int x1_)] C dX6_personLine_66 rfl rfl (Nat.le_of_ble_eq_true rfl) rfl ?_
        refine wr_iload_n 67 C dX6_personLine_67 0 rfl rfl ?_
        obtain ⟨JpersonLine76, eJpersonLine76, hf⟩ := o_let hf
        have hJpersonLine76 : ∀ (v23 : Int32) (μ22 : wMem), JpersonLine76 v23 μ22 = some r0 → wJ p l e ({ frames := 5, cells := 0, slots := 0, locals := 112 } : Room) s m args below meth c 4 D vwCl (spM ++ E) q ca A (wQv ({ frames := 5, cells := 0, slots := 0, locals := 112 } : Room) D vwCl (spM ++ E) q ca below args s A r0) 0 0 μ22 76 [(0, .ref (q 0)), (1, .int x1_), (2, .int v21)] [.int v23] := by
          intro v23 μ22 hf
          rw [eJpersonLine76] at hf
          refine wr_istore_n 76 [(3, .int v23), (0, .ref (q 0)), (1, .int x1_), (2, .int v21)] C dX6_personLine_76 rfl rfl (Nat.le_of_ble_eq_true rfl) rfl ?_
          refine wr_iload_n 77 C dX6_personLine_77 3 rfl rfl ?_
          obtain ⟨JpersonLine108, eJpersonLine108, hf⟩ := o_let hf
          have hJpersonLine108 : ∀  (μ24 : wMem), JpersonLine108  μ24 = some r0 → wJ p l e ({ frames := 5, cells := 0, slots := 0, locals := 112 } : Room) s m args below meth c 4 D vwCl (spM ++ E) q ca A (wQv ({ frames := 5, cells := 0, slots := 0, locals := 112 } : Room) D vwCl (spM ++ E) q ca below args s A r0) 0 0 μ24 108 [(0, .ref (q 0)), (1, .int x1_), (3, .int v23)] [] := by
            intro  μ24 hf
            rw [eJpersonLine108] at hf
            refine wr_aload_n 108 C dX6_personLine_108 0 rfl rfl ?_
            refine gespM_0_12_X6 109 C dX6_personLine_109 ?_
            refine wr_if_eq 112 116 C dX6_personLine_112 (by decide) (fun c25 => ?_) (fun c25 => ?_)
            · replace hf := o_pos c25 hf
              refine wr_aload_n 116 C dX6_personLine_116 0 rfl rfl ?_
              obtain ⟨μ27, h26, hf⟩ := o_bindV hf
              refine wr_Vv (kc1 := 0) (ks1 := 0) 117 [] C dX6_personLine_117 (tX6_next l N    μ24 μ27 h26) okX6_next q1598 (b := 0) spM_0 rfl ⟨rfl, rfl, Nat.le_of_ble_eq_true rfl, Nat.le_of_ble_eq_true rfl, Nat.zero_le _, Nat.zero_le _⟩ (Nat.le_of_ble_eq_true rfl) rfl ?_
              refine wr_aload_n 120 C dX6_personLine_120 0 rfl rfl ?_
              refine wr_iload_n 121 C dX6_personLine_121 2 rfl rfl ?_
              refine wr_aload_n 122 C dX6_personLine_122 0 rfl rfl ?_
              refine wr_iload_n 123 C dX6_personLine_123 2 rfl rfl ?_
              obtain ⟨v30, μ29, h28, hf⟩ := o_bind hf
              refine wr_Vi (kc1 := 0) (ks1 := 0) 124 [.int v23, .ref (q 0)] C dX6_personLine_124 (tX6_hasRead l N   v23 μ27 (v30, μ29) h28) okX6_hasRead q1648 (b := 0) spM_0 rfl ⟨rfl, rfl, Nat.le_of_ble_eq_true rfl, Nat.le_of_ble_eq_true rfl, Nat.zero_le _, Nat.zero_le _⟩ (Nat.le_of_ble_eq_true rfl) rfl ?_
              refine wr_iconst 127 C dX6_personLine_127 (v := 1) rfl ?_
              refine wr_iload_n 128 C dX6_personLine_128 1 rfl rfl ?_
              refine wr_ishl 129 C dX6_personLine_129 ?_
              refine wr_ior 130 C dX6_personLine_130 ?_
              obtain ⟨μ32, h31, hf⟩ := o_bindV hf
              refine wr_Vv (kc1 := 0) (ks1 := 0) 131 [] C dX6_personLine_131 (tX6_tells l N   v23 (v30 ||| ((1 : Int32) <<< (x1_ &&& 31))) μ29 μ32 h31) okX6_tells q1590 (b := 0) spM_0 rfl ⟨rfl, rfl, Nat.le_of_ble_eq_true rfl, Nat.le_of_ble_eq_true rfl, Nat.zero_le _, Nat.zero_le _⟩ (Nat.le_of_ble_eq_true rfl) rfl ?_
              refine wr_goto 134 C dX6_personLine_134 (tgt := 44) (by decide) ?_
              refine wr_sub [(0, .ref (q 0)), (1, .int x1_)] [0, 1] rfl ?_
              exact ih  μ32 hf
            · replace hf := o_neg c25 hf
              exact wr_vret 115 C dX6_personLine_115 ⟨Nat.zero_le _, Nat.zero_le _⟩ (Option.some.inj hf)
          obtain ⟨JpersonLine103, eJpersonLine103, hf⟩ := o_let hf
          have hJpersonLine103 : ∀  (μ33 : wMem), JpersonLine103  μ33 = some r0 → wJ p l e ({ frames := 5, cells := 0, slots := 0, locals := 112 } : Room) s m args below meth c 4 D vwCl (spM ++ E) q ca A (wQv ({ frames := 5, cells := 0, slots := 0, locals := 112 } : Room) D vwCl (spM ++ E) q ca below args s A r0) 0 0 μ33 103 [(0, .ref (q 0)), (1, .int x1_), (3, .int v23)] [] := by
            intro  μ33 hf
            rw [eJpersonLine103] at hf
            refine wr_aload_n 103 C dX6_personLine_103 0 rfl rfl ?_
            refine wr_iconst 104 C dX6_personLine_104 (v := 1) rfl ?_
            obtain ⟨μ35, h34, hf⟩ := o_bindV hf
            refine wr_Vv (kc1 := 0) (ks1 := 0) 105 [] C dX6_personLine_105 (tX6_fails l N   1 μ33 μ35 h34) okX6_fails q1628 (b := 0) spM_0 rfl ⟨rfl, rfl, Nat.le_of_ble_eq_true rfl, Nat.le_of_ble_eq_true rfl, Nat.zero_le _, Nat.zero_le _⟩ (Nat.le_of_ble_eq_true rfl) rfl ?_
            exact hJpersonLine108  μ35 hf
          obtain ⟨JpersonLine91, eJpersonLine91, hf⟩ := o_let hf
          have hJpersonLine91 : ∀  (μ36 : wMem), JpersonLine91  μ36 = some r0 → wJ p l e ({ frames := 5, cells := 0, slots := 0, locals := 112 } : Room) s m args below meth c 4 D vwCl (spM ++ E) q ca A (wQv ({ frames := 5, cells := 0, slots := 0, locals := 112 } : Room) D vwCl (spM ++ E) q ca below args s A r0) 0 0 μ36 91 [(0, .ref (q 0)), (1, .int x1_), (3, .int v23)] [] := by
            intro  μ36 hf
            rw [eJpersonLine91] at hf
            refine wr_aload_n 91 C dX6_personLine_91 0 rfl rfl ?_
            refine wr_iload_n 92 C dX6_personLine_92 2 rfl rfl ?_
            obtain ⟨v39, μ38, h37, hf⟩ := o_bind hf
            refine wr_Vi (kc1 := 0) (ks1 := 0) 93 [] C dX6_personLine_93 (tX6_hasRead l N   v23 μ36 (v39, μ38) h37) okX6_hasRead q1648 (b := 0) spM_0 rfl ⟨rfl, rfl, Nat.le_of_ble_eq_true rfl, Nat.le_of_ble_eq_true rfl, Nat.zero_le _, Nat.zero_le _⟩ (Nat.le_of_ble_eq_true rfl) rfl ?_
            refine wr_iload_n 96 C dX6_personLine_96 1 rfl rfl ?_
            obtain ⟨v42, μ41, h40, hf⟩ := o_bind hf
            refine wr_Si (kc1 := 0) (ks1 := 0) 97 [] C dX6_personLine_97 (tX6_isBit l N   v39 x1_ μ38 (v42, μ41) h40) okX6_isBit q1660 ⟨rfl, rfl, Nat.le_of_ble_eq_true rfl, Nat.le_of_ble_eq_true rfl, Nat.zero_le _, Nat.zero_le _⟩ (Nat.le_of_ble_eq_true rfl) rfl ?_
            refine wr_if_eq 100 108 C dX6_personLine_100 (by decide) (fun c43 => ?_) (fun c43 => ?_)
            · replace hf := o_pos c43 hf
              exact hJpersonLine108  μ41 hf
            · replace hf := o_neg c43 hf
              exact hJpersonLine103  μ41 hf
          refine wr_if_ne 78 91 C dX6_personLine_78 (by decide) (fun c44 => ?_) (fun c44 => ?_)
          · replace hf := o_neg c44 hf
            refine wr_sub [(0, .ref (q 0)), (1, .int x1_), (3, .int v23)] [1, 2, 0] rfl ?_
            exact hJpersonLine91  μ22 hf
          · replace hf := o_pos c44 hf
            refine wr_aload_n 81 C dX6_personLine_81 1 rfl rfl ?_
            refine wr_ldc2 82 C dX6_personLine_82 q1659 ?_
            obtain ⟨v47, μ46, h45, hf⟩ := o_bind hf
            refine wr_Vi (kc1 := 0) (ks1 := 0) 85 [] C dX6_personLine_85 (tX6_is l N   10492462 μ22 (v47, μ46) h45) okX6_is q1624 (b := 0) spM_0 rfl ⟨rfl, rfl, Nat.le_of_ble_eq_true rfl, Nat.le_of_ble_eq_true rfl, Nat.zero_le _, Nat.zero_le _⟩ (Nat.le_of_ble_eq_true rfl) rfl ?_
            refine wr_if_eq 88 103 C dX6_personLine_88 (by decide) (fun c48 => ?_) (fun c48 => ?_)
            · replace hf := o_pos c48 hf
              refine wr_sub [(0, .ref (q 0)), (1, .int x1_), (3, .int v23)] [1, 2, 0] rfl ?_
              exact hJpersonLine103  μ46 hf
            · replace hf := o_neg c48 hf
              refine wr_sub [(0, .ref (q 0)), (1, .int x1_), (3, .int v23)] [1, 2, 0] rfl ?_
              exact hJpersonLine91  μ46 hf
        refine wr_if_eq 68 75 C dX6_personLine_68 (by decide) (fun c49 => ?_) (fun c49 => ?_)
        · replace hf := o_pos c49 hf
          refine wr_iconst 75 C dX6_personLine_75 (v := 5) rfl ?_
          refine wr_sub [(0, .ref (q 0)), (1, .int x1_), (2, .int v21)] [1, 2, 0] rfl ?_
          exact hJpersonLine76 5 μ20 hf
        · replace hf := o_neg c49 hf
          refine wr_iconst 71 C dX6_personLine_71 (v := 4) rfl ?_
          refine wr_goto 72 C dX6_personLine_72 (tgt := 76) (by decide) ?_
          refine wr_sub [(0, .ref (q 0)), (1, .int x1_), (2, .int v21)] [1, 2, 0] rfl ?_
          exact hJpersonLine76 4 μ20 hf
def fX6_personLine (N : Nat)   (μ : wMem) : Option wMem :=
  wBind (fX6_hasRead N  2 μ) fun v3 μ2 => wBind (fX6_number N  243059 0 100 μ2) fun v6 μ5 => wG (ok_in ((24 : Int32) + v3) 30) (wLet (wSI μ5 8 (Int32.toNatClampNeg ((24 : Int32) + v3)) v6) fun μ8 => wBind (fX6_number N  287015 0 9 μ8) fun v11 μ10 => wG (ok_in ((24 : Int32) + v3) 30) (wLet (wSI μ10 9 (Int32.toNatClampNeg ((24 : Int32) + v3)) v11) fun μ13 => gX6_personLine_44 N  v3 (fun  (μ50 : wMem) => wBindV (fX6_tells N  2 (v3 + (1 : Int32)) μ50) fun μ52 => some μ52) N  μ13))
set_option maxHeartbeats 4000000 in
set_option maxRecDepth 100000 in
theorem tX6_personLine (l : Launch) {D : va_G} {E : List wCell} {q : Nat → Nat} {ca : wCA} (N : Nat)    (μ : wMem) (r0 : wMem) (hf : fX6_personLine N   μ = some r0) : wMv l yX6_personLine cX6_personLine 4 none ({ frames := 5, cells := 0, slots := 0, locals := 112 } : Room) D vwCl (spM ++ E) q ca [.ref (q 0)] μ r0 := by
  refine wMv_intro (by decide) (Nat.le_of_ble_eq_true rfl) ?_
  intro p e s m args below meth c A C
  unfold fX6_personLine at hf
  refine wr_sub [(0, .ref (q 0))] [0] rfl ?_
  refine wr_aload_n 0 C dX6_personLine_0 0 rfl rfl ?_
  refine wr_iconst 1 C dX6_personLine_1 (v := 2) rfl ?_
  obtain ⟨v3, μ2, h1, hf⟩ := o_bind hf
  refine wr_Vi (kc1 := 0) (ks1 := 0) 2 [] C dX6_personLine_2 (tX6_hasRead l N   2 μ (v3, μ2) h1) okX6_hasRead q1648 (b := 0) spM_0 rfl ⟨rfl, rfl, Nat.le_of_ble_eq_true rfl, Nat.le_of_ble_eq_true rfl, Nat.zero_le _, Nat.zero_le _⟩ (Nat.le_of_ble_eq_true rfl) rfl ?_
  refine wr_istore_n 5 [(1, .int v3), (0, .ref (q 0))] C dX6_personLine_5 rfl rfl (Nat.le_of_ble_eq_true rfl) rfl ?_
  refine wr_aload_n 6 C dX6_personLine_6 1 rfl rfl ?_
  refine gespM_0_18_X6 7 C dX6_personLine_7 ?_
  refine wr_bipush 10 C dX6_personLine_10 (v := 24) rfl ?_
  refine wr_iload_n 12 C dX6_personLine_12 0 rfl rfl ?_
  refine wr_iadd 13 C dX6_personLine_13 ?_
  refine wr_aload_n 14 C dX6_personLine_14 1 rfl rfl ?_
  refine wr_ldc2 15 C dX6_personLine_15 q1656 ?_
  refine wr_iconst 18 C dX6_personLine_18 (v := 0) rfl ?_
  refine wr_bipush 19 C dX6_personLine_19 (v := 100) rfl ?_
  obtain ⟨v6, μ5, h4, hf⟩ := o_bind hf
  refine wr_Vi (kc1 := 0) (ks1 := 0) 21 [.int ((24 : Int32) + v3), .ref (q 8)] C dX6_personLine_21 (tX6_number l N   243059 0 100 μ2 (v6, μ5) h4) okX6_number q1633 (b := 0) spM_0 rfl ⟨rfl, rfl, Nat.le_of_ble_eq_true rfl, Nat.le_of_ble_eq_true rfl, Nat.zero_le _, Nat.zero_le _⟩ (Nat.le_of_ble_eq_true rfl) rfl ?_
  obtain ⟨g7, hf⟩ := o_g hf
  obtain ⟨μ8, eμ8, hf⟩ := o_let hf
  refine wr_iast 24 C dX6_personLine_24 spM_8 g7 eμ8 ?_
  refine wr_aload_n 25 C dX6_personLine_25 1 rfl rfl ?_
  refine gespM_0_19_X6 26 C dX6_personLine_26 ?_
  refine wr_bipush 29 C dX6_personLine_29 (v := 24) rfl ?_
  refine wr_iload_n 31 C dX6_personLine_31 0 rfl rfl ?_
  refine wr_iadd 32 C dX6_personLine_32 ?_
  refine wr_aload_n 33 C dX6_personLine_33 1 rfl rfl ?_
  refine wr_ldc2 34 C dX6_personLine_34 q1657 ?_
  refine wr_iconst 37 C dX6_personLine_37 (v := 0) rfl ?_
  refine wr_bipush 38 C dX6_personLine_38 (v := 9) rfl ?_
  obtain ⟨v11, μ10, h9, hf⟩ := o_bind hf
  refine wr_Vi (kc1 := 0) (ks1 := 0) 40 [.int ((24 : Int32) + v3), .ref (q 9)] C dX6_personLine_40 (tX6_number l N   287015 0 9 μ8 (v11, μ10) h9) okX6_number q1633 (b := 0) spM_0 rfl ⟨rfl, rfl, Nat.le_of_ble_eq_true rfl, Nat.le_of_ble_eq_true rfl, Nat.zero_le _, Nat.zero_le _⟩ (Nat.le_of_ble_eq_true rfl) rfl ?_
  obtain ⟨g12, hf⟩ := o_g hf
  obtain ⟨μ13, eμ13, hf⟩ := o_let hf
  refine wr_iast 43 C dX6_personLine_43 spM_9 g12 eμ13 ?_
  refine wr_sub [(0, .ref (q 0)), (1, .int v3)] [1, 0] rfl ?_
  refine tX6_personLine_44 C N   v3 _ r0 (fun  μ50 hf => ?_) N  μ13 hf
  · replace hf := hf
    refine wr_aload_n 137 C dX6_personLine_137 0 rfl rfl ?_
    refine wr_iconst 138 C dX6_personLine_138 (v := 2) rfl ?_
    refine wr_iload_n 139 C dX6_personLine_139 1 rfl rfl ?_
    refine wr_iconst 140 C dX6_personLine_140 (v := 1) rfl ?_
    refine wr_iadd 141 C dX6_personLine_141 ?_
    obtain ⟨μ52, h51, hf⟩ := o_bindV hf
    refine wr_Vv (kc1 := 0) (ks1 := 0) 142 [] C dX6_personLine_142 (tX6_tells l N   2 (v3 + (1 : Int32)) μ50 μ52 h51) okX6_tells q1590 (b := 0) spM_0 rfl ⟨rfl, rfl, Nat.le_of_ble_eq_true rfl, Nat.le_of_ble_eq_true rfl, Nat.zero_le _, Nat.zero_le _⟩ (Nat.le_of_ble_eq_true rfl) rfl ?_
    exact wr_vret 145 C dX6_personLine_145 ⟨Nat.zero_le _, Nat.zero_le _⟩ (Option.some.inj hf)
abbrev cX6_line : ByteArray := prog_11_method_28_code
def yX6_line : MethodName := ⟨RX6, "line", "()V"⟩
def dkwX6_line_6 : List UInt8 := [182, 0, 176, 79, 42, 6, 42, 6, 182, 0, 170, 4, 96, 182, 0, 193, 177]
abbrev dktX6_line_6 : List UInt8 := dkwX6_line_6 ++ []
def dkwX6_line_5 : List UInt8 := [20, 0, 206, 3, 16, 9, 182, 0, 176, 79, 42, 180, 0, 43, 29, 5, 96, 42, 20, 0, 208, 3, 6]
abbrev dktX6_line_5 : List UInt8 := dkwX6_line_5 ++ dktX6_line_6
def dkwX6_line_4 : List UInt8 := [180, 0, 43, 29, 42, 20, 0, 204, 3, 16, 100, 182, 0, 176, 79, 42, 180, 0, 43, 29, 4, 96, 42]
abbrev dktX6_line_4 : List UInt8 := dkwX6_line_4 ++ dktX6_line_5
def dkwX6_line_3 : List UInt8 := [182, 0, 150, 27, 153, 0, 8, 42, 182, 0, 201, 177, 6, 16, 8, 42, 6, 182, 0, 170, 96, 104, 62, 42]
abbrev dktX6_line_3 : List UInt8 := dkwX6_line_3 ++ dktX6_line_4
def dkwX6_line_2 : List UInt8 := [6, 182, 0, 170, 5, 160, 0, 8, 42, 6, 182, 0, 156, 42, 180, 0, 140, 153, 0, 4, 177, 42]
abbrev dktX6_line_2 : List UInt8 := dkwX6_line_2 ++ dktX6_line_3
def dkwX6_line_1 : List UInt8 := [42, 4, 182, 0, 156, 27, 153, 0, 13, 42, 5, 182, 0, 170, 16, 6, 159, 0, 16, 28, 153, 0, 17, 42]
abbrev dktX6_line_1 : List UInt8 := dkwX6_line_1 ++ dktX6_line_2
def dkwX6_line_0 : List UInt8 := [42, 20, 0, 197, 182, 0, 146, 60, 42, 20, 0, 199, 182, 0, 146, 61, 27, 154, 0, 12, 28, 154, 0, 8]
abbrev dktX6_line_0 : List UInt8 := dkwX6_line_0 ++ dktX6_line_1
theorem dksX6_line_0 : cX6_line.data.toList.drop 0 = dktX6_line_0 := by decide +kernel
theorem dksX6_line_1 : cX6_line.data.toList.drop 24 = dktX6_line_1 := dk_seg dksX6_line_0 24 rfl rfl
theorem dksX6_line_2 : cX6_line.data.toList.drop 48 = dktX6_line_2 := dk_seg dksX6_line_1 24 rfl rfl
theorem dksX6_line_3 : cX6_line.data.toList.drop 70 = dktX6_line_3 := dk_seg dksX6_line_2 22 rfl rfl
theorem dksX6_line_4 : cX6_line.data.toList.drop 94 = dktX6_line_4 := dk_seg dksX6_line_3 24 rfl rfl
theorem dksX6_line_5 : cX6_line.data.toList.drop 117 = dktX6_line_5 := dk_seg dksX6_line_4 23 rfl rfl
theorem dksX6_line_6 : cX6_line.data.toList.drop 140 = dktX6_line_6 := dk_seg dksX6_line_5 23 rfl rfl
theorem dX6_line_0 : decode cX6_line 0 = .ok (.aload_n 0, 1) := dk_42 (dk_at dksX6_line_0 0 rfl rfl)
theorem dX6_line_1 : decode cX6_line 1 = .ok (.ldc2_w 197, 3) := dk_20 0 197 (dk_at dksX6_line_0 1 rfl rfl)
theorem dX6_line_4 : decode cX6_line 4 = .ok (.invokevirtual 146, 3) := dk_182 0 146 (dk_at dksX6_line_0 4 rfl rfl)
theorem dX6_line_7 : decode cX6_line 7 = .ok (.istore_n 1, 1) := dk_60 (dk_at dksX6_line_0 7 rfl rfl)
theorem dX6_line_8 : decode cX6_line 8 = .ok (.aload_n 0, 1) := dk_42 (dk_at dksX6_line_0 8 rfl rfl)
theorem dX6_line_9 : decode cX6_line 9 = .ok (.ldc2_w 199, 3) := dk_20 0 199 (dk_at dksX6_line_0 9 rfl rfl)
theorem dX6_line_12 : decode cX6_line 12 = .ok (.invokevirtual 146, 3) := dk_182 0 146 (dk_at dksX6_line_0 12 rfl rfl)
theorem dX6_line_15 : decode cX6_line 15 = .ok (.istore_n 2, 1) := dk_61 (dk_at dksX6_line_0 15 rfl rfl)
theorem dX6_line_16 : decode cX6_line 16 = .ok (.iload_n 1, 1) := dk_27 (dk_at dksX6_line_0 16 rfl rfl)
theorem dX6_line_17 : decode cX6_line 17 = .ok (.ifCond .ne 12, 3) := dk_154 0 12 (dk_at dksX6_line_0 17 rfl rfl)
theorem dX6_line_20 : decode cX6_line 20 = .ok (.iload_n 2, 1) := dk_28 (dk_at dksX6_line_0 20 rfl rfl)
theorem dX6_line_21 : decode cX6_line 21 = .ok (.ifCond .ne 8, 3) := dk_154 0 8 (dk_at dksX6_line_0 21 rfl rfl)
theorem dX6_line_24 : decode cX6_line 24 = .ok (.aload_n 0, 1) := dk_42 (dk_at dksX6_line_1 0 rfl rfl)
theorem dX6_line_25 : decode cX6_line 25 = .ok (.iconst 1, 1) := dk_4 (dk_at dksX6_line_1 1 rfl rfl)
theorem dX6_line_26 : decode cX6_line 26 = .ok (.invokevirtual 156, 3) := dk_182 0 156 (dk_at dksX6_line_1 2 rfl rfl)
theorem dX6_line_29 : decode cX6_line 29 = .ok (.iload_n 1, 1) := dk_27 (dk_at dksX6_line_1 5 rfl rfl)
theorem dX6_line_30 : decode cX6_line 30 = .ok (.ifCond .eq 13, 3) := dk_153 0 13 (dk_at dksX6_line_1 6 rfl rfl)
theorem dX6_line_33 : decode cX6_line 33 = .ok (.aload_n 0, 1) := dk_42 (dk_at dksX6_line_1 9 rfl rfl)
theorem dX6_line_34 : decode cX6_line 34 = .ok (.iconst 2, 1) := dk_5 (dk_at dksX6_line_1 10 rfl rfl)
theorem dX6_line_35 : decode cX6_line 35 = .ok (.invokevirtual 170, 3) := dk_182 0 170 (dk_at dksX6_line_1 11 rfl rfl)
theorem dX6_line_38 : decode cX6_line 38 = .ok (.bipush 6, 2) := dk_16 6 (dk_at dksX6_line_1 14 rfl rfl)
theorem dX6_line_40 : decode cX6_line 40 = .ok (.if_icmp .eq 16, 3) := dk_159 0 16 (dk_at dksX6_line_1 16 rfl rfl)
theorem dX6_line_43 : decode cX6_line 43 = .ok (.iload_n 2, 1) := dk_28 (dk_at dksX6_line_1 19 rfl rfl)
theorem dX6_line_44 : decode cX6_line 44 = .ok (.ifCond .eq 17, 3) := dk_153 0 17 (dk_at dksX6_line_1 20 rfl rfl)
theorem dX6_line_47 : decode cX6_line 47 = .ok (.aload_n 0, 1) := dk_42 (dk_at dksX6_line_1 23 rfl rfl)
theorem dX6_line_48 : decode cX6_line 48 = .ok (.iconst 3, 1) := dk_6 (dk_at dksX6_line_2 0 rfl rfl)
theorem dX6_line_49 : decode cX6_line 49 = .ok (.invokevirtual 170, 3) := dk_182 0 170 (dk_at dksX6_line_2 1 rfl rfl)
theorem dX6_line_52 : decode cX6_line 52 = .ok (.iconst 2, 1) := dk_5 (dk_at dksX6_line_2 4 rfl rfl)
theorem dX6_line_53 : decode cX6_line 53 = .ok (.if_icmp .ne 8, 3) := dk_160 0 8 (dk_at dksX6_line_2 5 rfl rfl)
theorem dX6_line_56 : decode cX6_line 56 = .ok (.aload_n 0, 1) := dk_42 (dk_at dksX6_line_2 8 rfl rfl)
theorem dX6_line_57 : decode cX6_line 57 = .ok (.iconst 3, 1) := dk_6 (dk_at dksX6_line_2 9 rfl rfl)
theorem dX6_line_58 : decode cX6_line 58 = .ok (.invokevirtual 156, 3) := dk_182 0 156 (dk_at dksX6_line_2 10 rfl rfl)
theorem dX6_line_61 : decode cX6_line 61 = .ok (.aload_n 0, 1) := dk_42 (dk_at dksX6_line_2 13 rfl rfl)
theorem dX6_line_62 : decode cX6_line 62 = .ok (.getfield 140, 3) := dk_180 0 140 (dk_at dksX6_line_2 14 rfl rfl)
theorem dX6_line_65 : decode cX6_line 65 = .ok (.ifCond .eq 4, 3) := dk_153 0 4 (dk_at dksX6_line_2 17 rfl rfl)
theorem dX6_line_68 : decode cX6_line 68 = .ok (.return_, 1) := dk_177 (dk_at dksX6_line_2 20 rfl rfl)
theorem dX6_line_69 : decode cX6_line 69 = .ok (.aload_n 0, 1) := dk_42 (dk_at dksX6_line_2 21 rfl rfl)
theorem dX6_line_70 : decode cX6_line 70 = .ok (.invokevirtual 150, 3) := dk_182 0 150 (dk_at dksX6_line_3 0 rfl rfl)
theorem dX6_line_73 : decode cX6_line 73 = .ok (.iload_n 1, 1) := dk_27 (dk_at dksX6_line_3 3 rfl rfl)
theorem dX6_line_74 : decode cX6_line 74 = .ok (.ifCond .eq 8, 3) := dk_153 0 8 (dk_at dksX6_line_3 4 rfl rfl)
theorem dX6_line_77 : decode cX6_line 77 = .ok (.aload_n 0, 1) := dk_42 (dk_at dksX6_line_3 7 rfl rfl)
theorem dX6_line_78 : decode cX6_line 78 = .ok (.invokevirtual 201, 3) := dk_182 0 201 (dk_at dksX6_line_3 8 rfl rfl)
theorem dX6_line_81 : decode cX6_line 81 = .ok (.return_, 1) := dk_177 (dk_at dksX6_line_3 11 rfl rfl)
theorem dX6_line_82 : decode cX6_line 82 = .ok (.iconst 3, 1) := dk_6 (dk_at dksX6_line_3 12 rfl rfl)
theorem dX6_line_83 : decode cX6_line 83 = .ok (.bipush 8, 2) := dk_16 8 (dk_at dksX6_line_3 13 rfl rfl)
theorem dX6_line_85 : decode cX6_line 85 = .ok (.aload_n 0, 1) := dk_42 (dk_at dksX6_line_3 15 rfl rfl)
theorem dX6_line_86 : decode cX6_line 86 = .ok (.iconst 3, 1) := dk_6 (dk_at dksX6_line_3 16 rfl rfl)
theorem dX6_line_87 : decode cX6_line 87 = .ok (.invokevirtual 170, 3) := dk_182 0 170 (dk_at dksX6_line_3 17 rfl rfl)
theorem dX6_line_90 : decode cX6_line 90 = .ok (.iadd, 1) := dk_96 (dk_at dksX6_line_3 20 rfl rfl)
theorem dX6_line_91 : decode cX6_line 91 = .ok (.imul, 1) := dk_104 (dk_at dksX6_line_3 21 rfl rfl)
theorem dX6_line_92 : decode cX6_line 92 = .ok (.istore_n 3, 1) := dk_62 (dk_at dksX6_line_3 22 rfl rfl)
theorem dX6_line_93 : decode cX6_line 93 = .ok (.aload_n 0, 1) := dk_42 (dk_at dksX6_line_3 23 rfl rfl)
theorem dX6_line_94 : decode cX6_line 94 = .ok (.getfield 43, 3) := dk_180 0 43 (dk_at dksX6_line_4 0 rfl rfl)
theorem dX6_line_97 : decode cX6_line 97 = .ok (.iload_n 3, 1) := dk_29 (dk_at dksX6_line_4 3 rfl rfl)
theorem dX6_line_98 : decode cX6_line 98 = .ok (.aload_n 0, 1) := dk_42 (dk_at dksX6_line_4 4 rfl rfl)
theorem dX6_line_99 : decode cX6_line 99 = .ok (.ldc2_w 204, 3) := dk_20 0 204 (dk_at dksX6_line_4 5 rfl rfl)
theorem dX6_line_102 : decode cX6_line 102 = .ok (.iconst 0, 1) := dk_3 (dk_at dksX6_line_4 8 rfl rfl)
theorem dX6_line_103 : decode cX6_line 103 = .ok (.bipush 100, 2) := dk_16 100 (dk_at dksX6_line_4 9 rfl rfl)
theorem dX6_line_105 : decode cX6_line 105 = .ok (.invokevirtual 176, 3) := dk_182 0 176 (dk_at dksX6_line_4 11 rfl rfl)
theorem dX6_line_108 : decode cX6_line 108 = .ok (.iastore, 1) := dk_79 (dk_at dksX6_line_4 14 rfl rfl)
theorem dX6_line_109 : decode cX6_line 109 = .ok (.aload_n 0, 1) := dk_42 (dk_at dksX6_line_4 15 rfl rfl)
theorem dX6_line_110 : decode cX6_line 110 = .ok (.getfield 43, 3) := dk_180 0 43 (dk_at dksX6_line_4 16 rfl rfl)
theorem dX6_line_113 : decode cX6_line 113 = .ok (.iload_n 3, 1) := dk_29 (dk_at dksX6_line_4 19 rfl rfl)
theorem dX6_line_114 : decode cX6_line 114 = .ok (.iconst 1, 1) := dk_4 (dk_at dksX6_line_4 20 rfl rfl)
theorem dX6_line_115 : decode cX6_line 115 = .ok (.iadd, 1) := dk_96 (dk_at dksX6_line_4 21 rfl rfl)
theorem dX6_line_116 : decode cX6_line 116 = .ok (.aload_n 0, 1) := dk_42 (dk_at dksX6_line_4 22 rfl rfl)
theorem dX6_line_117 : decode cX6_line 117 = .ok (.ldc2_w 206, 3) := dk_20 0 206 (dk_at dksX6_line_5 0 rfl rfl)
theorem dX6_line_120 : decode cX6_line 120 = .ok (.iconst 0, 1) := dk_3 (dk_at dksX6_line_5 3 rfl rfl)
theorem dX6_line_121 : decode cX6_line 121 = .ok (.bipush 9, 2) := dk_16 9 (dk_at dksX6_line_5 4 rfl rfl)
theorem dX6_line_123 : decode cX6_line 123 = .ok (.invokevirtual 176, 3) := dk_182 0 176 (dk_at dksX6_line_5 6 rfl rfl)
theorem dX6_line_126 : decode cX6_line 126 = .ok (.iastore, 1) := dk_79 (dk_at dksX6_line_5 9 rfl rfl)
theorem dX6_line_127 : decode cX6_line 127 = .ok (.aload_n 0, 1) := dk_42 (dk_at dksX6_line_5 10 rfl rfl)
theorem dX6_line_128 : decode cX6_line 128 = .ok (.getfield 43, 3) := dk_180 0 43 (dk_at dksX6_line_5 11 rfl rfl)
theorem dX6_line_131 : decode cX6_line 131 = .ok (.iload_n 3, 1) := dk_29 (dk_at dksX6_line_5 14 rfl rfl)
theorem dX6_line_132 : decode cX6_line 132 = .ok (.iconst 2, 1) := dk_5 (dk_at dksX6_line_5 15 rfl rfl)
theorem dX6_line_133 : decode cX6_line 133 = .ok (.iadd, 1) := dk_96 (dk_at dksX6_line_5 16 rfl rfl)
theorem dX6_line_134 : decode cX6_line 134 = .ok (.aload_n 0, 1) := dk_42 (dk_at dksX6_line_5 17 rfl rfl)
theorem dX6_line_135 : decode cX6_line 135 = .ok (.ldc2_w 208, 3) := dk_20 0 208 (dk_at dksX6_line_5 18 rfl rfl)
theorem dX6_line_138 : decode cX6_line 138 = .ok (.iconst 0, 1) := dk_3 (dk_at dksX6_line_5 21 rfl rfl)
theorem dX6_line_139 : decode cX6_line 139 = .ok (.iconst 3, 1) := dk_6 (dk_at dksX6_line_5 22 rfl rfl)
theorem dX6_line_140 : decode cX6_line 140 = .ok (.invokevirtual 176, 3) := dk_182 0 176 (dk_at dksX6_line_6 0 rfl rfl)
theorem dX6_line_143 : decode cX6_line 143 = .ok (.iastore, 1) := dk_79 (dk_at dksX6_line_6 3 rfl rfl)
theorem dX6_line_144 : decode cX6_line 144 = .ok (.aload_n 0, 1) := dk_42 (dk_at dksX6_line_6 4 rfl rfl)
theorem dX6_line_145 : decode cX6_line 145 = .ok (.iconst 3, 1) := dk_6 (dk_at dksX6_line_6 5 rfl rfl)
theorem dX6_line_146 : decode cX6_line 146 = .ok (.aload_n 0, 1) := dk_42 (dk_at dksX6_line_6 6 rfl rfl)
theorem dX6_line_147 : decode cX6_line 147 = .ok (.iconst 3, 1) := dk_6 (dk_at dksX6_line_6 7 rfl rfl)
theorem dX6_line_148 : decode cX6_line 148 = .ok (.invokevirtual 170, 3) := dk_182 0 170 (dk_at dksX6_line_6 8 rfl rfl)
theorem dX6_line_151 : decode cX6_line 151 = .ok (.iconst 1, 1) := dk_4 (dk_at dksX6_line_6 11 rfl rfl)
theorem dX6_line_152 : decode cX6_line 152 = .ok (.iadd, 1) := dk_96 (dk_at dksX6_line_6 12 rfl rfl)
theorem dX6_line_153 : decode cX6_line 153 = .ok (.invokevirtual 193, 3) := dk_182 0 193 (dk_at dksX6_line_6 13 rfl rfl)
theorem dX6_line_156 : decode cX6_line 156 = .ok (.return_, 1) := dk_177 (dk_at dksX6_line_6 16 rfl rfl)
theorem gespM_0_20_X6 {p : Program} {l : Launch} {e : Env} {R : Room} {s : State} {m : MethodId} {args : Array Value} {below : List Frame} {meth : Method} {c : Code} {cc : ByteArray} {nL : Nat} {ret : Option FieldType} {D : va_G} {E : List wCell} {q : Nat → Nat} {ca : wCA} {A : Nat → Prop} {Q : State → Prop} {kc ks : Nat} {μ : wMem} {lv : List (Nat × Value)} {st : List Value} (pc : Nat) (C : wC p R s m args meth c cc "OnePassportModel" nL ret D vwCl (spM ++ E) q ca A) (hd : decode cc pc = .ok (.getfield 43, 3)) (k : wJ p l e R s m args below meth c nL D vwCl (spM ++ E) q ca A Q kc ks μ (pc + 3) lv (.ref (q 10) :: st)) : wJ p l e R s m args below meth c nL D vwCl (spM ++ E) q ca A Q kc ks μ pc lv (.ref (q 0) :: st) := wr_getR pc 20 C hd spM_0 rfl in_X6 (by decide) rfl q1419 k
theorem okX6_line : wOkV yX6_line cX6_line 4 none 0 := ⟨q1644, qs81, q145, q1645, by decide, by decide, by decide +kernel⟩
def fX6_line (N : Nat)   (μ : wMem) : Option wMem :=
  wBind (fX6_is N  232608281 μ) fun v3 μ2 => wBind (fX6_is N  326396 μ2) fun v6 μ5 => wLet (fun  (μ7 : wMem) => wLet (fun  (μ8 : wMem) => if (μ8.1 0 12) = 0 then wBindV (fX6_next N   μ8) fun μ11 => if v3 = 0 then wBind (fX6_hasRead N  3 μ11) fun v15 μ14 => wLet ((3 : Int32) * ((8 : Int32) + v15) : Int32) fun x16 => wBind (fX6_number N  283619009 0 100 μ14) fun v19 μ18 => wG (ok_in x16 30) (wLet (wSI μ18 10 (Int32.toNatClampNeg x16) v19) fun μ21 => wBind (fX6_number N  220307 0 9 μ21) fun v24 μ23 => wG (ok_in (x16 + (1 : Int32)) 30) (wLet (wSI μ23 10 (Int32.toNatClampNeg (x16 + (1 : Int32))) v24) fun μ26 => wBind (fX6_number N  6683788 0 3 μ26) fun v29 μ28 => wG (ok_in (x16 + (2 : Int32)) 30) (wLet (wSI μ28 10 (Int32.toNatClampNeg (x16 + (2 : Int32))) v29) fun μ31 => wBind (fX6_hasRead N  3 μ31) fun v34 μ33 => wBindV (fX6_tells N  3 (v34 + (1 : Int32)) μ33) fun μ36 => some μ36))) else wBindV (fX6_personLine N   μ11) fun μ38 => some μ38 else some μ8) fun Jline61 => wLet (fun  (μ39 : wMem) => wBindV (fX6_fails N  3 μ39) fun μ41 => Jline61  μ41) fun Jline56 => wLet (fun  (μ42 : wMem) => if v6 = 0 then Jline61  μ42 else wBind (fX6_hasRead N  3 μ42) fun v46 μ45 => if v46 = (2 : Int32) then Jline56  μ45 else Jline61  μ45) fun Jline43 => if v3 = 0 then Jline43  μ7 else wBind (fX6_hasRead N  2 μ7) fun v51 μ50 => if v51 = (6 : Int32) then Jline56  μ50 else Jline43  μ50) fun Jline29 => if v3 = 0 then if v6 = 0 then wBindV (fX6_fails N  1 μ5) fun μ56 => Jline29  μ56 else Jline29  μ5 else Jline29  μ5
set_option maxHeartbeats 4000000 in
set_option maxRecDepth 100000 in
theorem tX6_line (l : Launch) {D : va_G} {E : List wCell} {q : Nat → Nat} {ca : wCA} (N : Nat)    (μ : wMem) (r0 : wMem) (hf : fX6_line N   μ = some r0) : wMv l yX6_line cX6_line 4 none ({ frames := 6, cells := 0, slots := 0, locals := 135 } : Room) D vwCl (spM ++ E) q ca [.ref (q 0)] μ r0 := by
  refine wMv_intro (by decide) (Nat.le_of_ble_eq_true rfl) ?_
  intro p e s m args below meth c A C
  unfold fX6_line at hf
  refine wr_sub [(0, .ref (q 0))] [0] rfl ?_
  refine wr_aload_n 0 C dX6_line_0 0 rfl rfl ?_
  refine wr_ldc2 1 C dX6_line_1 q1646 ?_
  obtain ⟨v3, μ2, h1, hf⟩ := o_bind hf
  refine wr_Vi (kc1 := 0) (ks1 := 0) 4 [] C dX6_line_4 (tX6_is l N   232608281 μ (v3, μ2) h1) okX6_is q1624 (b := 0) spM_0 rfl ⟨rfl, rfl, Nat.le_of_ble_eq_true rfl, Nat.le_of_ble_eq_true rfl, Nat.zero_le _, Nat.zero_le _⟩ (Nat.le_of_ble_eq_true rfl) rfl ?_
  refine wr_istore_n 7 [(1, .int v3), (0, .ref (q 0))] C dX6_line_7 rfl rfl (Nat.le_of_ble_eq_true rfl) rfl ?_
  refine wr_aload_n 8 C dX6_line_8 1 rfl rfl ?_
  refine wr_ldc2 9 C dX6_line_9 q1647 ?_
  obtain ⟨v6, μ5, h4, hf⟩ := o_bind hf
  refine wr_Vi (kc1 := 0) (ks1 := 0) 12 [] C dX6_line_12 (tX6_is l N   326396 μ2 (v6, μ5) h4) okX6_is q1624 (b := 0) spM_0 rfl ⟨rfl, rfl, Nat.le_of_ble_eq_true rfl, Nat.le_of_ble_eq_true rfl, Nat.zero_le _, Nat.zero_le _⟩ (Nat.le_of_ble_eq_true rfl) rfl ?_
  refine wr_istore_n 15 [(2, .int v6), (1, .int v3), (0, .ref (q 0))] C dX6_line_15 rfl rfl (Nat.le_of_ble_eq_true rfl) rfl ?_
  refine wr_iload_n 16 C dX6_line_16 1 rfl rfl ?_
  obtain ⟨Jline29, eJline29, hf⟩ := o_let hf
  have hJline29 : ∀  (μ7 : wMem), Jline29  μ7 = some r0 → wJ p l e ({ frames := 6, cells := 0, slots := 0, locals := 135 } : Room) s m args below meth c 4 D vwCl (spM ++ E) q ca A (wQv ({ frames := 6, cells := 0, slots := 0, locals := 135 } : Room) D vwCl (spM ++ E) q ca below args s A r0) 0 0 μ7 29 [(0, .ref (q 0)), (1, .int v3), (2, .int v6)] [] := by
    intro  μ7 hf
    rw [eJline29] at hf
    refine wr_iload_n 29 C dX6_line_29 1 rfl rfl ?_
    obtain ⟨Jline61, eJline61, hf⟩ := o_let hf
    have hJline61 : ∀  (μ8 : wMem), Jline61  μ8 = some r0 → wJ p l e ({ frames := 6, cells := 0, slots := 0, locals := 135 } : Room) s m args below meth c 4 D vwCl (spM ++ E) q ca A (wQv ({ frames := 6, cells := 0, slots := 0, locals := 135 } : Room) D vwCl (spM ++ E) q ca below args s A r0) 0 0 μ8 61 [(0, .ref (q 0)), (1, .int v3)] [] := by
      intro  μ8 hf
      rw [eJline61] at hf
      refine wr_aload_n 61 C dX6_line_61 0 rfl rfl ?_
      refine gespM_0_12_X6 62 C dX6_line_62 ?_
      refine wr_if_eq 65 69 C dX6_line_65 (by decide) (fun c9 => ?_) (fun c9 => ?_)
      · replace hf := o_pos c9 hf
        refine wr_aload_n 69 C dX6_line_69 0 rfl rfl ?_
        obtain ⟨μ11, h10, hf⟩ := o_bindV hf
        refine wr_Vv (kc1 := 0) (ks1 := 0) 70 [] C dX6_line_70 (tX6_next l N    μ8 μ11 h10) okX6_next q1598 (b := 0) spM_0 rfl ⟨rfl, rfl, Nat.le_of_ble_eq_true rfl, Nat.le_of_ble_eq_true rfl, Nat.zero_le _, Nat.zero_le _⟩ (Nat.le_of_ble_eq_true rfl) rfl ?_
        refine wr_iload_n 73 C dX6_line_73 1 rfl rfl ?_
        refine wr_if_eq 74 82 C dX6_line_74 (by decide) (fun c12 => ?_) (fun c12 => ?_)
        · replace hf := o_pos c12 hf
          refine wr_iconst 82 C dX6_line_82 (v := 3) rfl ?_
          refine wr_bipush 83 C dX6_line_83 (v := 8) rfl ?_
          refine wr_aload_n 85 C dX6_line_85 0 rfl rfl ?_
          refine wr_iconst 86 C dX6_line_86 (v := 3) rfl ?_
          obtain ⟨v15, μ14, h13, hf⟩ := o_bind hf
          refine wr_Vi (kc1 := 0) (ks1 := 0) 87 [.int 8, .int 3] C dX6_line_87 (tX6_hasRead l N   3 μ11 (v15, μ14) h13) okX6_hasRead q1648 (b := 0) spM_0 rfl ⟨rfl, rfl, Nat.le_of_ble_eq_true rfl, Nat.le_of_ble_eq_true rfl, Nat.zero_le _, Nat.zero_le _⟩ (Nat.le_of_ble_eq_true rfl) rfl ?_
          refine wr_iadd 90 C dX6_line_90 ?_
          refine wr_imul 91 C dX6_line_91 ?_
          obtain ⟨x16, ex16, hf⟩ := o_let hf
          refine wr_istore_n 92 [(3, .int x16), (0, .ref (q 0)), (1, .int v3)] C dX6_line_92 ex16 rfl (Nat.le_of_ble_eq_true rfl) rfl ?_
          refine wr_aload_n 93 C dX6_line_93 1 rfl rfl ?_
          refine gespM_0_20_X6 94 C dX6_line_94 ?_
          refine wr_iload_n 97 C dX6_line_97 0 rfl rfl ?_
          refine wr_aload_n 98 C dX6_line_98 1 rfl rfl ?_
          refine wr_ldc2 99 C dX6_line_99 q1663 ?_
          refine wr_iconst 102 C dX6_line_102 (v := 0) rfl ?_
          refine wr_bipush 103 C dX6_line_103 (v := 100) rfl ?_
          obtain ⟨v19, μ18, h17, hf⟩ := o_bind hf
          refine wr_Vi (kc1 := 0) (ks1 := 0) 105 [.int x16, .ref (q 10)] C dX6_line_105 (tX6_number l N   283619009 0 100 μ14 (v19, μ18) h17) okX6_number q1633 (b := 0) spM_0 rfl ⟨rfl, rfl, Nat.le_of_ble_eq_true rfl, Nat.le_of_ble_eq_true rfl, Nat.zero_le _, Nat.zero_le _⟩ (Nat.le_of_ble_eq_true rfl) rfl ?_
          obtain ⟨g20, hf⟩ := o_g hf
          obtain ⟨μ21, eμ21, hf⟩ := o_let hf
          refine wr_iast 108 C dX6_line_108 spM_10 g20 eμ21 ?_
          refine wr_aload_n 109 C dX6_line_109 1 rfl rfl ?_
          refine gespM_0_20_X6 110 C dX6_line_110 ?_
          refine wr_iload_n 113 C dX6_line_113 0 rfl rfl ?_
          refine wr_iconst 114 C dX6_line_114 (v := 1) rfl ?_
          refine wr_iadd 115 C dX6_line_115 ?_
          refine wr_aload_n 116 C dX6_line_116 1 rfl rfl ?_
          refine wr_ldc2 117 C dX6_line_117 q1664 ?_
          refine wr_iconst 120 C dX6_line_120 (v := 0) rfl ?_
          refine wr_bipush 121 C dX6_line_121 (v := 9) rfl ?_
          obtain ⟨v24, μ23, h22, hf⟩ := o_bind hf
          refine wr_Vi (kc1 := 0) (ks1 := 0) 123 [.int (x16 + (1 : Int32)), .ref (q 10)] C dX6_line_123 (tX6_number l N   220307 0 9 μ21 (v24, μ23) h22) okX6_number q1633 (b := 0) spM_0 rfl ⟨rfl, rfl, Nat.le_of_ble_eq_true rfl, Nat.le_of_ble_eq_true rfl, Nat.zero_le _, Nat.zero_le _⟩ (Nat.le_of_ble_eq_true rfl) rfl ?_
          obtain ⟨g25, hf⟩ := o_g hf
          obtain ⟨μ26, eμ26, hf⟩ := o_let hf
          refine wr_iast 126 C dX6_line_126 spM_10 g25 eμ26 ?_
          refine wr_aload_n 127 C dX6_line_127 1 rfl rfl ?_
          refine gespM_0_20_X6 128 C dX6_line_128 ?_
          refine wr_iload_n 131 C dX6_line_131 0 rfl rfl ?_
          refine wr_iconst 132 C dX6_line_132 (v := 2) rfl ?_
          refine wr_iadd 133 C dX6_line_133 ?_
          refine wr_aload_n 134 C dX6_line_134 1 rfl rfl ?_
          refine wr_ldc2 135 C dX6_line_135 q1665 ?_
          refine wr_iconst 138 C dX6_line_138 (v := 0) rfl ?_
          refine wr_iconst 139 C dX6_line_139 (v := 3) rfl ?_
          obtain ⟨v29, μ28, h27, hf⟩ := o_bind hf
          refine wr_Vi (kc1 := 0) (ks1 := 0) 140 [.int (x16 + (2 : Int32)), .ref (q 10)] C dX6_line_140 (tX6_number l N   6683788 0 3 μ26 (v29, μ28) h27) okX6_number q1633 (b := 0) spM_0 rfl ⟨rfl, rfl, Nat.le_of_ble_eq_true rfl, Nat.le_of_ble_eq_true rfl, Nat.zero_le _, Nat.zero_le _⟩ (Nat.le_of_ble_eq_true rfl) rfl ?_
          obtain ⟨g30, hf⟩ := o_g hf
          obtain ⟨μ31, eμ31, hf⟩ := o_let hf
          refine wr_iast 143 C dX6_line_143 spM_10 g30 eμ31 ?_
          refine wr_aload_n 144 C dX6_line_144 1 rfl rfl ?_
          refine wr_iconst 145 C dX6_line_145 (v := 3) rfl ?_
          refine wr_aload_n 146 C dX6_line_146 1 rfl rfl ?_
          refine wr_iconst 147 C dX6_line_147 (v := 3) rfl ?_
          obtain ⟨v34, μ33, h32, hf⟩ := o_bind hf
          refine wr_Vi (kc1 := 0) (ks1 := 0) 148 [.int 3, .ref (q 0)] C dX6_line_148 (tX6_hasRead l N   3 μ31 (v34, μ33) h32) okX6_hasRead q1648 (b := 0) spM_0 rfl ⟨rfl, rfl, Nat.le_of_ble_eq_true rfl, Nat.le_of_ble_eq_true rfl, Nat.zero_le _, Nat.zero_le _⟩ (Nat.le_of_ble_eq_true rfl) rfl ?_
          refine wr_iconst 151 C dX6_line_151 (v := 1) rfl ?_
          refine wr_iadd 152 C dX6_line_152 ?_
          obtain ⟨μ36, h35, hf⟩ := o_bindV hf
          refine wr_Vv (kc1 := 0) (ks1 := 0) 153 [] C dX6_line_153 (tX6_tells l N   3 (v34 + (1 : Int32)) μ33 μ36 h35) okX6_tells q1590 (b := 0) spM_0 rfl ⟨rfl, rfl, Nat.le_of_ble_eq_true rfl, Nat.le_of_ble_eq_true rfl, Nat.zero_le _, Nat.zero_le _⟩ (Nat.le_of_ble_eq_true rfl) rfl ?_
          exact wr_vret 156 C dX6_line_156 ⟨Nat.zero_le _, Nat.zero_le _⟩ (Option.some.inj hf)
        · replace hf := o_neg c12 hf
          refine wr_aload_n 77 C dX6_line_77 0 rfl rfl ?_
          obtain ⟨μ38, h37, hf⟩ := o_bindV hf
          refine wr_Vv (kc1 := 0) (ks1 := 0) 78 [] C dX6_line_78 (tX6_personLine l N    μ11 μ38 h37) okX6_personLine q1652 (b := 0) spM_0 rfl ⟨rfl, rfl, Nat.le_of_ble_eq_true rfl, Nat.le_of_ble_eq_true rfl, Nat.zero_le _, Nat.zero_le _⟩ (Nat.le_of_ble_eq_true rfl) rfl ?_
          exact wr_vret 81 C dX6_line_81 ⟨Nat.zero_le _, Nat.zero_le _⟩ (Option.some.inj hf)
      · replace hf := o_neg c9 hf
        exact wr_vret 68 C dX6_line_68 ⟨Nat.zero_le _, Nat.zero_le _⟩ (Option.some.inj hf)
    obtain ⟨Jline56, eJline56, hf⟩ := o_let hf
    have hJline56 : ∀  (μ39 : wMem), Jline56  μ39 = some r0 → wJ p l e ({ frames := 6, cells := 0, slots := 0, locals := 135 } : Room) s m args below meth c 4 D vwCl (spM ++ E) q ca A (wQv ({ frames := 6, cells := 0, slots := 0, locals := 135 } : Room) D vwCl (spM ++ E) q ca below args s A r0) 0 0 μ39 56 [(0, .ref (q 0)), (1, .int v3)] [] := by
      intro  μ39 hf
      rw [eJline56] at hf
      refine wr_aload_n 56 C dX6_line_56 0 rfl rfl ?_
      refine wr_iconst 57 C dX6_line_57 (v := 3) rfl ?_
      obtain ⟨μ41, h40, hf⟩ := o_bindV hf
      refine wr_Vv (kc1 := 0) (ks1 := 0) 58 [] C dX6_line_58 (tX6_fails l N   3 μ39 μ41 h40) okX6_fails q1628 (b := 0) spM_0 rfl ⟨rfl, rfl, Nat.le_of_ble_eq_true rfl, Nat.le_of_ble_eq_true rfl, Nat.zero_le _, Nat.zero_le _⟩ (Nat.le_of_ble_eq_true rfl) rfl ?_
      exact hJline61  μ41 hf
    obtain ⟨Jline43, eJline43, hf⟩ := o_let hf
    have hJline43 : ∀  (μ42 : wMem), Jline43  μ42 = some r0 → wJ p l e ({ frames := 6, cells := 0, slots := 0, locals := 135 } : Room) s m args below meth c 4 D vwCl (spM ++ E) q ca A (wQv ({ frames := 6, cells := 0, slots := 0, locals := 135 } : Room) D vwCl (spM ++ E) q ca below args s A r0) 0 0 μ42 43 [(0, .ref (q 0)), (1, .int v3), (2, .int v6)] [] := by
      intro  μ42 hf
      rw [eJline43] at hf
      refine wr_iload_n 43 C dX6_line_43 2 rfl rfl ?_
      refine wr_if_eq 44 61 C dX6_line_44 (by decide) (fun c43 => ?_) (fun c43 => ?_)
      · replace hf := o_pos c43 hf
        refine wr_sub [(0, .ref (q 0)), (1, .int v3)] [0, 1] rfl ?_
        exact hJline61  μ42 hf
      · replace hf := o_neg c43 hf
        refine wr_aload_n 47 C dX6_line_47 0 rfl rfl ?_
        refine wr_iconst 48 C dX6_line_48 (v := 3) rfl ?_
        obtain ⟨v46, μ45, h44, hf⟩ := o_bind hf
        refine wr_Vi (kc1 := 0) (ks1 := 0) 49 [] C dX6_line_49 (tX6_hasRead l N   3 μ42 (v46, μ45) h44) okX6_hasRead q1648 (b := 0) spM_0 rfl ⟨rfl, rfl, Nat.le_of_ble_eq_true rfl, Nat.le_of_ble_eq_true rfl, Nat.zero_le _, Nat.zero_le _⟩ (Nat.le_of_ble_eq_true rfl) rfl ?_
        refine wr_iconst 52 C dX6_line_52 (v := 2) rfl ?_
        refine wr_icmp_ne 53 61 C dX6_line_53 (by decide) (fun c47 => ?_) (fun c47 => ?_)
        · replace hf := o_neg c47 hf
          refine wr_sub [(0, .ref (q 0)), (1, .int v3)] [0, 1] rfl ?_
          exact hJline61  μ45 hf
        · replace hf := o_pos c47 hf
          refine wr_sub [(0, .ref (q 0)), (1, .int v3)] [0, 1] rfl ?_
          exact hJline56  μ45 hf
    refine wr_if_eq 30 43 C dX6_line_30 (by decide) (fun c48 => ?_) (fun c48 => ?_)
    · replace hf := o_pos c48 hf
      exact hJline43  μ7 hf
    · replace hf := o_neg c48 hf
      refine wr_aload_n 33 C dX6_line_33 0 rfl rfl ?_
      refine wr_iconst 34 C dX6_line_34 (v := 2) rfl ?_
      obtain ⟨v51, μ50, h49, hf⟩ := o_bind hf
      refine wr_Vi (kc1 := 0) (ks1 := 0) 35 [] C dX6_line_35 (tX6_hasRead l N   2 μ7 (v51, μ50) h49) okX6_hasRead q1648 (b := 0) spM_0 rfl ⟨rfl, rfl, Nat.le_of_ble_eq_true rfl, Nat.le_of_ble_eq_true rfl, Nat.zero_le _, Nat.zero_le _⟩ (Nat.le_of_ble_eq_true rfl) rfl ?_
      refine wr_bipush 38 C dX6_line_38 (v := 6) rfl ?_
      refine wr_icmp_eq 40 56 C dX6_line_40 (by decide) (fun c52 => ?_) (fun c52 => ?_)
      · replace hf := o_pos c52 hf
        refine wr_sub [(0, .ref (q 0)), (1, .int v3)] [0, 1] rfl ?_
        exact hJline56  μ50 hf
      · replace hf := o_neg c52 hf
        exact hJline43  μ50 hf
  refine wr_if_ne 17 29 C dX6_line_17 (by decide) (fun c53 => ?_) (fun c53 => ?_)
  · replace hf := o_neg c53 hf
    refine wr_sub [(0, .ref (q 0)), (1, .int v3), (2, .int v6)] [2, 1, 0] rfl ?_
    exact hJline29  μ5 hf
  · replace hf := o_pos c53 hf
    refine wr_iload_n 20 C dX6_line_20 0 rfl rfl ?_
    refine wr_if_ne 21 29 C dX6_line_21 (by decide) (fun c54 => ?_) (fun c54 => ?_)
    · replace hf := o_neg c54 hf
      refine wr_sub [(0, .ref (q 0)), (1, .int v3), (2, .int v6)] [2, 1, 0] rfl ?_
      exact hJline29  μ5 hf
    · replace hf := o_pos c54 hf
      refine wr_aload_n 24 C dX6_line_24 2 rfl rfl ?_
      refine wr_iconst 25 C dX6_line_25 (v := 1) rfl ?_
      obtain ⟨μ56, h55, hf⟩ := o_bindV hf
      refine wr_Vv (kc1 := 0) (ks1 := 0) 26 [] C dX6_line_26 (tX6_fails l N   1 μ5 μ56 h55) okX6_fails q1628 (b := 0) spM_0 rfl ⟨rfl, rfl, Nat.le_of_ble_eq_true rfl, Nat.le_of_ble_eq_true rfl, Nat.zero_le _, Nat.zero_le _⟩ (Nat.le_of_ble_eq_true rfl) rfl ?_
      refine wr_sub [(0, .ref (q 0)), (1, .int v3), (2, .int v6)] [2, 1, 0] rfl ?_
      exact hJline29  μ56 hf
abbrev cX6_ends : ByteArray := prog_11_method_21_code
def yX6_ends : MethodName := ⟨RX6, "ends", "()V"⟩
def dkwX6_ends_1 : List UInt8 := [177]
abbrev dktX6_ends_1 : List UInt8 := dkwX6_ends_1 ++ []
def dkwX6_ends_0 : List UInt8 := [42, 180, 0, 129, 6, 159, 0, 8, 42, 4, 182, 0, 156, 42, 180, 0, 140, 154, 0, 7, 42, 182, 0, 150]
abbrev dktX6_ends_0 : List UInt8 := dkwX6_ends_0 ++ dktX6_ends_1
theorem dksX6_ends_0 : cX6_ends.data.toList.drop 0 = dktX6_ends_0 := by decide +kernel
theorem dksX6_ends_1 : cX6_ends.data.toList.drop 24 = dktX6_ends_1 := dk_seg dksX6_ends_0 24 rfl rfl
theorem dX6_ends_0 : decode cX6_ends 0 = .ok (.aload_n 0, 1) := dk_42 (dk_at dksX6_ends_0 0 rfl rfl)
theorem dX6_ends_1 : decode cX6_ends 1 = .ok (.getfield 129, 3) := dk_180 0 129 (dk_at dksX6_ends_0 1 rfl rfl)
theorem dX6_ends_4 : decode cX6_ends 4 = .ok (.iconst 3, 1) := dk_6 (dk_at dksX6_ends_0 4 rfl rfl)
theorem dX6_ends_5 : decode cX6_ends 5 = .ok (.if_icmp .eq 8, 3) := dk_159 0 8 (dk_at dksX6_ends_0 5 rfl rfl)
theorem dX6_ends_8 : decode cX6_ends 8 = .ok (.aload_n 0, 1) := dk_42 (dk_at dksX6_ends_0 8 rfl rfl)
theorem dX6_ends_9 : decode cX6_ends 9 = .ok (.iconst 1, 1) := dk_4 (dk_at dksX6_ends_0 9 rfl rfl)
theorem dX6_ends_10 : decode cX6_ends 10 = .ok (.invokevirtual 156, 3) := dk_182 0 156 (dk_at dksX6_ends_0 10 rfl rfl)
theorem dX6_ends_13 : decode cX6_ends 13 = .ok (.aload_n 0, 1) := dk_42 (dk_at dksX6_ends_0 13 rfl rfl)
theorem dX6_ends_14 : decode cX6_ends 14 = .ok (.getfield 140, 3) := dk_180 0 140 (dk_at dksX6_ends_0 14 rfl rfl)
theorem dX6_ends_17 : decode cX6_ends 17 = .ok (.ifCond .ne 7, 3) := dk_154 0 7 (dk_at dksX6_ends_0 17 rfl rfl)
theorem dX6_ends_20 : decode cX6_ends 20 = .ok (.aload_n 0, 1) := dk_42 (dk_at dksX6_ends_0 20 rfl rfl)
theorem dX6_ends_21 : decode cX6_ends 21 = .ok (.invokevirtual 150, 3) := dk_182 0 150 (dk_at dksX6_ends_0 21 rfl rfl)
theorem dX6_ends_24 : decode cX6_ends 24 = .ok (.return_, 1) := dk_177 (dk_at dksX6_ends_1 0 rfl rfl)

theorem okX6_ends : wOkV yX6_ends cX6_ends 1 none 0 := ⟨q1668, qs84, q145, q1669, by decide, by decide, by decide +kernel⟩
def fX6_ends (N : Nat)   (μ : wMem) : Option wMem :=
  wLet (fun  (μ1 : wMem) => if (μ1.1 0 12) = 0 then wBindV (fX6_next N   μ1) fun μ4 => some μ4 else some μ1) fun Jends13 => if (μ.1 0 8) = (3 : Int32) then Jends13  μ else wBindV (fX6_fails N  1 μ) fun μ7 => Jends13  μ7
set_option maxHeartbeats 4000000 in
set_option maxRecDepth 100000 in
theorem tX6_ends (l : Launch) {D : va_G} {E : List wCell} {q : Nat → Nat} {ca : wCA} (N : Nat)    (μ : wMem) (r0 : wMem) (hf : fX6_ends N   μ = some r0) : wMv l yX6_ends cX6_ends 1 none ({ frames := 2, cells := 0, slots := 0, locals := 44 } : Room) D vwCl (spM ++ E) q ca [.ref (q 0)] μ r0 := by
  refine wMv_intro (by decide) (Nat.le_of_ble_eq_true rfl) ?_
  intro p e s m args below meth c A C
  unfold fX6_ends at hf
  refine wr_sub [(0, .ref (q 0))] [0] rfl ?_
  refine wr_aload_n 0 C dX6_ends_0 0 rfl rfl ?_
  refine gespM_0_8_X6 1 C dX6_ends_1 ?_
  refine wr_iconst 4 C dX6_ends_4 (v := 3) rfl ?_
  obtain ⟨Jends13, eJends13, hf⟩ := o_let hf
  have hJends13 : ∀  (μ1 : wMem), Jends13  μ1 = some r0 → wJ p l e ({ frames := 2, cells := 0, slots := 0, locals := 44 } : Room) s m args below meth c 1 D vwCl (spM ++ E) q ca A (wQv ({ frames := 2, cells := 0, slots := 0, locals := 44 } : Room) D vwCl (spM ++ E) q ca below args s A r0) 0 0 μ1 13 [(0, .ref (q 0))] [] := by
    intro  μ1 hf
    rw [eJends13] at hf
    refine wr_aload_n 13 C dX6_ends_13 0 rfl rfl ?_
    refine gespM_0_12_X6 14 C dX6_ends_14 ?_
    refine wr_if_ne 17 24 C dX6_ends_17 (by decide) (fun c2 => ?_) (fun c2 => ?_)
    · replace hf := o_neg c2 hf
      exact wr_vret 24 C dX6_ends_24 ⟨Nat.zero_le _, Nat.zero_le _⟩ (Option.some.inj hf)
    · replace hf := o_pos c2 hf
      refine wr_aload_n 20 C dX6_ends_20 0 rfl rfl ?_
      obtain ⟨μ4, h3, hf⟩ := o_bindV hf
      refine wr_Vv (kc1 := 0) (ks1 := 0) 21 [] C dX6_ends_21 (tX6_next l N    μ1 μ4 h3) okX6_next q1598 (b := 0) spM_0 rfl ⟨rfl, rfl, Nat.le_of_ble_eq_true rfl, Nat.le_of_ble_eq_true rfl, Nat.zero_le _, Nat.zero_le _⟩ (Nat.le_of_ble_eq_true rfl) rfl ?_
      exact wr_vret 24 C dX6_ends_24 ⟨Nat.zero_le _, Nat.zero_le _⟩ (Option.some.inj hf)
  refine wr_icmp_eq 5 13 C dX6_ends_5 (by decide) (fun c5 => ?_) (fun c5 => ?_)
  · replace hf := o_pos c5 hf
    exact hJends13  μ hf
  · replace hf := o_neg c5 hf
    refine wr_aload_n 8 C dX6_ends_8 0 rfl rfl ?_
    refine wr_iconst 9 C dX6_ends_9 (v := 1) rfl ?_
    obtain ⟨μ7, h6, hf⟩ := o_bindV hf
    refine wr_Vv (kc1 := 0) (ks1 := 0) 10 [] C dX6_ends_10 (tX6_fails l N   1 μ μ7 h6) okX6_fails q1628 (b := 0) spM_0 rfl ⟨rfl, rfl, Nat.le_of_ble_eq_true rfl, Nat.le_of_ble_eq_true rfl, Nat.zero_le _, Nat.zero_le _⟩ (Nat.le_of_ble_eq_true rfl) rfl ?_
    exact hJends13  μ7 hf
abbrev cX6_isOver : ByteArray := prog_11_method_23_code
def yX6_isOver : MethodName := ⟨RX6, "isOver", "()V"⟩
def dkwX6_isOver_1 : List UInt8 := [167, 0, 7, 42, 180, 0, 143, 181, 0, 27, 177]
abbrev dktX6_isOver_1 : List UInt8 := dkwX6_isOver_1 ++ []
def dkwX6_isOver_0 : List UInt8 := [42, 3, 181, 0, 105, 42, 42, 180, 0, 140, 181, 0, 167, 42, 42, 180, 0, 140, 154, 0, 7, 2]
abbrev dktX6_isOver_0 : List UInt8 := dkwX6_isOver_0 ++ dktX6_isOver_1
theorem dksX6_isOver_0 : cX6_isOver.data.toList.drop 0 = dktX6_isOver_0 := by decide +kernel
theorem dksX6_isOver_1 : cX6_isOver.data.toList.drop 22 = dktX6_isOver_1 := dk_seg dksX6_isOver_0 22 rfl rfl
theorem dX6_isOver_0 : decode cX6_isOver 0 = .ok (.aload_n 0, 1) := dk_42 (dk_at dksX6_isOver_0 0 rfl rfl)
theorem dX6_isOver_1 : decode cX6_isOver 1 = .ok (.iconst 0, 1) := dk_3 (dk_at dksX6_isOver_0 1 rfl rfl)
theorem dX6_isOver_2 : decode cX6_isOver 2 = .ok (.putfield 105, 3) := dk_181 0 105 (dk_at dksX6_isOver_0 2 rfl rfl)
theorem dX6_isOver_5 : decode cX6_isOver 5 = .ok (.aload_n 0, 1) := dk_42 (dk_at dksX6_isOver_0 5 rfl rfl)
theorem dX6_isOver_6 : decode cX6_isOver 6 = .ok (.aload_n 0, 1) := dk_42 (dk_at dksX6_isOver_0 6 rfl rfl)
theorem dX6_isOver_7 : decode cX6_isOver 7 = .ok (.getfield 140, 3) := dk_180 0 140 (dk_at dksX6_isOver_0 7 rfl rfl)
theorem dX6_isOver_10 : decode cX6_isOver 10 = .ok (.putfield 167, 3) := dk_181 0 167 (dk_at dksX6_isOver_0 10 rfl rfl)
theorem dX6_isOver_13 : decode cX6_isOver 13 = .ok (.aload_n 0, 1) := dk_42 (dk_at dksX6_isOver_0 13 rfl rfl)
theorem dX6_isOver_14 : decode cX6_isOver 14 = .ok (.aload_n 0, 1) := dk_42 (dk_at dksX6_isOver_0 14 rfl rfl)
theorem dX6_isOver_15 : decode cX6_isOver 15 = .ok (.getfield 140, 3) := dk_180 0 140 (dk_at dksX6_isOver_0 15 rfl rfl)
theorem dX6_isOver_18 : decode cX6_isOver 18 = .ok (.ifCond .ne 7, 3) := dk_154 0 7 (dk_at dksX6_isOver_0 18 rfl rfl)
theorem dX6_isOver_21 : decode cX6_isOver 21 = .ok (.iconst (-1), 1) := dk_2 (dk_at dksX6_isOver_0 21 rfl rfl)
theorem dX6_isOver_22 : decode cX6_isOver 22 = .ok (.goto 7, 3) := dk_167 0 7 (dk_at dksX6_isOver_1 0 rfl rfl)
theorem dX6_isOver_25 : decode cX6_isOver 25 = .ok (.aload_n 0, 1) := dk_42 (dk_at dksX6_isOver_1 3 rfl rfl)
theorem dX6_isOver_26 : decode cX6_isOver 26 = .ok (.getfield 143, 3) := dk_180 0 143 (dk_at dksX6_isOver_1 4 rfl rfl)
theorem dX6_isOver_29 : decode cX6_isOver 29 = .ok (.putfield 27, 3) := dk_181 0 27 (dk_at dksX6_isOver_1 7 rfl rfl)
theorem dX6_isOver_32 : decode cX6_isOver 32 = .ok (.return_, 1) := dk_177 (dk_at dksX6_isOver_1 10 rfl rfl)
theorem gespM_0_13_X6 {p : Program} {l : Launch} {e : Env} {R : Room} {s : State} {m : MethodId} {args : Array Value} {below : List Frame} {meth : Method} {c : Code} {cc : ByteArray} {nL : Nat} {ret : Option FieldType} {D : va_G} {E : List wCell} {q : Nat → Nat} {ca : wCA} {A : Nat → Prop} {Q : State → Prop} {kc ks : Nat} {μ : wMem} {lv : List (Nat × Value)} {st : List Value} (pc : Nat) (C : wC p R s m args meth c cc "OnePassportModel" nL ret D vwCl (spM ++ E) q ca A) (hd : decode cc pc = .ok (.getfield 143, 3)) (k : wJ p l e R s m args below meth c nL D vwCl (spM ++ E) q ca A Q kc ks μ (pc + 3) lv (.int (μ.1 0 13) :: st)) : wJ p l e R s m args below meth c nL D vwCl (spM ++ E) q ca A Q kc ks μ pc lv (.ref (q 0) :: st) := wr_getI pc 13 C hd spM_0 rfl in_X6 (by decide) rfl q1412 k
theorem puspM_0_14_X6 {p : Program} {l : Launch} {e : Env} {R : Room} {s : State} {m : MethodId} {args : Array Value} {below : List Frame} {meth : Method} {c : Code} {cc : ByteArray} {nL : Nat} {ret : Option FieldType} {D : va_G} {E : List wCell} {q : Nat → Nat} {ca : wCA} {A : Nat → Prop} {Q : State → Prop} {kc ks : Nat} {μ : wMem} {lv : List (Nat × Value)} {st : List Value} {v : Int32} {μ1 : wMem} (pc : Nat) (C : wC p R s m args meth c cc "OnePassportModel" nL ret D vwCl (spM ++ E) q ca A) (hd : decode cc pc = .ok (.putfield 167, 3)) (hμ : μ1 = wSI μ 0 14 v) (k : wJ p l e R s m args below meth c nL D vwCl (spM ++ E) q ca A Q kc ks μ1 (pc + 3) lv st) : wJ p l e R s m args below meth c nL D vwCl (spM ++ E) q ca A Q kc ks μ pc lv (.int v :: .ref (q 0) :: st) := wr_putI pc 14 C hd spM_0 rfl in_X6 tyX6 tyX6_ok nmX6 (by decide) rfl q1413 rfl rfl hμ k
theorem puspM_0_15_X6 {p : Program} {l : Launch} {e : Env} {R : Room} {s : State} {m : MethodId} {args : Array Value} {below : List Frame} {meth : Method} {c : Code} {cc : ByteArray} {nL : Nat} {ret : Option FieldType} {D : va_G} {E : List wCell} {q : Nat → Nat} {ca : wCA} {A : Nat → Prop} {Q : State → Prop} {kc ks : Nat} {μ : wMem} {lv : List (Nat × Value)} {st : List Value} {v : Int32} {μ1 : wMem} (pc : Nat) (C : wC p R s m args meth c cc "OnePassportModel" nL ret D vwCl (spM ++ E) q ca A) (hd : decode cc pc = .ok (.putfield 27, 3)) (hμ : μ1 = wSI μ 0 15 v) (k : wJ p l e R s m args below meth c nL D vwCl (spM ++ E) q ca A Q kc ks μ1 (pc + 3) lv st) : wJ p l e R s m args below meth c nL D vwCl (spM ++ E) q ca A Q kc ks μ pc lv (.int v :: .ref (q 0) :: st) := wr_putI pc 15 C hd spM_0 rfl in_X6 tyX6 tyX6_ok nmX6 (by decide) rfl q1414 rfl rfl hμ k
theorem okX6_isOver : wOkV yX6_isOver cX6_isOver 1 none 0 := ⟨q1672, qs85, q145, q1673, by decide, by decide, by decide +kernel⟩
def fX6_isOver (N : Nat)   (μ : wMem) : Option wMem :=
  wLet (wSI μ 0 6 (0 : Int32)) fun μ1 => wLet (wSI μ1 0 14 (μ1.1 0 12)) fun μ2 => wLet (fun (v4 : Int32) (μ3 : wMem) => wLet (wSI μ3 0 15 v4) fun μ5 => some μ5) fun JisOver29 => if (μ2.1 0 12) = 0 then JisOver29 (-1) μ2 else JisOver29 (μ2.1 0 13) μ2
set_option maxHeartbeats 4000000 in
set_option maxRecDepth 100000 in
theorem tX6_isOver (l : Launch) {D : va_G} {E : List wCell} {q : Nat → Nat} {ca : wCA} (N : Nat)    (μ : wMem) (r0 : wMem) (hf : fX6_isOver N   μ = some r0) : wMv l yX6_isOver cX6_isOver 1 none ({ frames := 0, cells := 0, slots := 0, locals := 0 } : Room) D vwCl (spM ++ E) q ca [.ref (q 0)] μ r0 := by
  refine wMv_intro (by decide) (Nat.le_of_ble_eq_true rfl) ?_
  intro p e s m args below meth c A C
  unfold fX6_isOver at hf
  refine wr_sub [(0, .ref (q 0))] [0] rfl ?_
  refine wr_aload_n 0 C dX6_isOver_0 0 rfl rfl ?_
  refine wr_iconst 1 C dX6_isOver_1 (v := 0) rfl ?_
  obtain ⟨μ1, eμ1, hf⟩ := o_let hf
  refine puspM_0_6_X6 2 C dX6_isOver_2 eμ1 ?_
  refine wr_aload_n 5 C dX6_isOver_5 0 rfl rfl ?_
  refine wr_aload_n 6 C dX6_isOver_6 0 rfl rfl ?_
  refine gespM_0_12_X6 7 C dX6_isOver_7 ?_
  obtain ⟨μ2, eμ2, hf⟩ := o_let hf
  refine puspM_0_14_X6 10 C dX6_isOver_10 eμ2 ?_
  refine wr_aload_n 13 C dX6_isOver_13 0 rfl rfl ?_
  refine wr_aload_n 14 C dX6_isOver_14 0 rfl rfl ?_
  refine gespM_0_12_X6 15 C dX6_isOver_15 ?_
  obtain ⟨JisOver29, eJisOver29, hf⟩ := o_let hf
  have hJisOver29 : ∀ (v4 : Int32) (μ3 : wMem), JisOver29 v4 μ3 = some r0 → wJ p l e ({ frames := 0, cells := 0, slots := 0, locals := 0 } : Room) s m args below meth c 1 D vwCl (spM ++ E) q ca A (wQv ({ frames := 0, cells := 0, slots := 0, locals := 0 } : Room) D vwCl (spM ++ E) q ca below args s A r0) 0 0 μ3 29 [] [.int v4, .ref (q 0)] := by
    intro v4 μ3 hf
    rw [eJisOver29] at hf
    obtain ⟨μ5, eμ5, hf⟩ := o_let hf
    refine puspM_0_15_X6 29 C dX6_isOver_29 eμ5 ?_
    exact wr_vret 32 C dX6_isOver_32 ⟨Nat.zero_le _, Nat.zero_le _⟩ (Option.some.inj hf)
  refine wr_if_ne 18 25 C dX6_isOver_18 (by decide) (fun c6 => ?_) (fun c6 => ?_)
  · replace hf := o_neg c6 hf
    refine wr_aload_n 25 C dX6_isOver_25 0 rfl rfl ?_
    refine gespM_0_13_X6 26 C dX6_isOver_26 ?_
    refine wr_sub [] [] rfl ?_
    exact hJisOver29 (μ2.1 0 13) μ2 hf
  · replace hf := o_pos c6 hf
    refine wr_iconst 21 C dX6_isOver_21 (v := (-1)) rfl ?_
    refine wr_goto 22 C dX6_isOver_22 (tgt := 29) (by decide) ?_
    refine wr_sub [] [] rfl ?_
    exact hJisOver29 (-1) μ2 hf
abbrev cX6_copyRow : ByteArray := prog_11_method_31_code
def yX6_copyRow : MethodName := ⟨RX6, "copyRow", "([IIII)V"⟩
def dkwX6_copyRow_1 : List UInt8 := [79, 132, 4, 1, 167, 255, 231, 177]
abbrev dktX6_copyRow_1 : List UInt8 := dkwX6_copyRow_1 ++ []
def dkwX6_copyRow_0 : List UInt8 := [3, 54, 4, 21, 4, 27, 162, 0, 25, 42, 27, 29, 104, 21, 4, 96, 42, 27, 28, 104, 21, 4, 96, 46]
abbrev dktX6_copyRow_0 : List UInt8 := dkwX6_copyRow_0 ++ dktX6_copyRow_1
theorem dksX6_copyRow_0 : cX6_copyRow.data.toList.drop 0 = dktX6_copyRow_0 := by decide +kernel
theorem dksX6_copyRow_1 : cX6_copyRow.data.toList.drop 24 = dktX6_copyRow_1 := dk_seg dksX6_copyRow_0 24 rfl rfl
theorem dX6_copyRow_0 : decode cX6_copyRow 0 = .ok (.iconst 0, 1) := dk_3 (dk_at dksX6_copyRow_0 0 rfl rfl)
theorem dX6_copyRow_1 : decode cX6_copyRow 1 = .ok (.istore 4, 2) := dk_54 4 (dk_at dksX6_copyRow_0 1 rfl rfl)
theorem dX6_copyRow_3 : decode cX6_copyRow 3 = .ok (.iload 4, 2) := dk_21 4 (dk_at dksX6_copyRow_0 3 rfl rfl)
theorem dX6_copyRow_5 : decode cX6_copyRow 5 = .ok (.iload_n 1, 1) := dk_27 (dk_at dksX6_copyRow_0 5 rfl rfl)
theorem dX6_copyRow_6 : decode cX6_copyRow 6 = .ok (.if_icmp .ge 25, 3) := dk_162 0 25 (dk_at dksX6_copyRow_0 6 rfl rfl)
theorem dX6_copyRow_9 : decode cX6_copyRow 9 = .ok (.aload_n 0, 1) := dk_42 (dk_at dksX6_copyRow_0 9 rfl rfl)
theorem dX6_copyRow_10 : decode cX6_copyRow 10 = .ok (.iload_n 1, 1) := dk_27 (dk_at dksX6_copyRow_0 10 rfl rfl)
theorem dX6_copyRow_11 : decode cX6_copyRow 11 = .ok (.iload_n 3, 1) := dk_29 (dk_at dksX6_copyRow_0 11 rfl rfl)
theorem dX6_copyRow_12 : decode cX6_copyRow 12 = .ok (.imul, 1) := dk_104 (dk_at dksX6_copyRow_0 12 rfl rfl)
theorem dX6_copyRow_13 : decode cX6_copyRow 13 = .ok (.iload 4, 2) := dk_21 4 (dk_at dksX6_copyRow_0 13 rfl rfl)
theorem dX6_copyRow_15 : decode cX6_copyRow 15 = .ok (.iadd, 1) := dk_96 (dk_at dksX6_copyRow_0 15 rfl rfl)
theorem dX6_copyRow_16 : decode cX6_copyRow 16 = .ok (.aload_n 0, 1) := dk_42 (dk_at dksX6_copyRow_0 16 rfl rfl)
theorem dX6_copyRow_17 : decode cX6_copyRow 17 = .ok (.iload_n 1, 1) := dk_27 (dk_at dksX6_copyRow_0 17 rfl rfl)
theorem dX6_copyRow_18 : decode cX6_copyRow 18 = .ok (.iload_n 2, 1) := dk_28 (dk_at dksX6_copyRow_0 18 rfl rfl)
theorem dX6_copyRow_19 : decode cX6_copyRow 19 = .ok (.imul, 1) := dk_104 (dk_at dksX6_copyRow_0 19 rfl rfl)
theorem dX6_copyRow_20 : decode cX6_copyRow 20 = .ok (.iload 4, 2) := dk_21 4 (dk_at dksX6_copyRow_0 20 rfl rfl)
theorem dX6_copyRow_22 : decode cX6_copyRow 22 = .ok (.iadd, 1) := dk_96 (dk_at dksX6_copyRow_0 22 rfl rfl)
theorem dX6_copyRow_23 : decode cX6_copyRow 23 = .ok (.iaload, 1) := dk_46 (dk_at dksX6_copyRow_0 23 rfl rfl)
theorem dX6_copyRow_24 : decode cX6_copyRow 24 = .ok (.iastore, 1) := dk_79 (dk_at dksX6_copyRow_1 0 rfl rfl)
theorem dX6_copyRow_25 : decode cX6_copyRow 25 = .ok (.iinc 4 1, 3) := dk_132 4 1 (dk_at dksX6_copyRow_1 1 rfl rfl)
theorem dX6_copyRow_28 : decode cX6_copyRow 28 = .ok (.goto (-25), 3) := dk_167 255 231 (dk_at dksX6_copyRow_1 4 rfl rfl)
theorem dX6_copyRow_31 : decode cX6_copyRow 31 = .ok (.return_, 1) := dk_177 (dk_at dksX6_copyRow_1 7 rfl rfl)

theorem okX6_copyRow : wOkS yX6_copyRow cX6_copyRow 5 none 4 := ⟨q1679, q145, q1680, by decide, by decide, by decide +kernel⟩
def gbX6_copyRow_3 (N : Nat) (j0 n0 : Nat) (x1_ : Int32) (x2_ : Int32) (x3_ : Int32) (K : (wMem → Option wMem)) (rec : (Int32 → wMem → Option wMem)) (x4_ : Int32) (μ : wMem) : Option wMem :=
  if x1_ ≤ x4_ then K  μ else wG (ok_in ((x1_ * x2_) + x4_) n0) (wG (ok_in ((x1_ * x3_) + x4_) n0) (wLet (wSI μ j0 (Int32.toNatClampNeg ((x1_ * x3_) + x4_)) (μ.1 j0 (Int32.toNatClampNeg ((x1_ * x2_) + x4_)))) fun μ4 => wLet (x4_ + 1 : Int32) fun x5 => rec x5 μ4))
def gX6_copyRow_3 (N : Nat) (j0 n0 : Nat) (x1_ : Int32) (x2_ : Int32) (x3_ : Int32) (K : (wMem → Option wMem)) : Nat → (Int32 → wMem → Option wMem)
  | 0 => fun _ _ => none
  | k + 1 => gbX6_copyRow_3 N j0 n0 x1_ x2_ x3_ K (gX6_copyRow_3 N j0 n0 x1_ x2_ x3_ K k)
set_option maxHeartbeats 4000000 in
set_option maxRecDepth 100000 in
theorem tX6_copyRow_3 {p : Program} {l : Launch} {e : Env} {s : State} {m : MethodId} {args : Array Value} {below : List Frame} {meth : Method} {c : Code} {D : va_G} {E : List wCell} {q : Nat → Nat} {ca : wCA} {A : Nat → Prop} (C : wC p ({ frames := 0, cells := 0, slots := 0, locals := 0 } : Room) s m args meth c cX6_copyRow yX6_copyRow.cls 5 none D vwCl (spM ++ E) q ca A) (N : Nat) (j0 n0 : Nat) (hs0 : (spM ++ E)[j0]? = some (.inr (0, n0))) (x1_ : Int32) (x2_ : Int32) (x3_ : Int32) (K : (wMem → Option wMem)) (r0 : wMem) (hK : ∀  (μ : wMem), K  μ = some r0 → wJ p l e ({ frames := 0, cells := 0, slots := 0, locals := 0 } : Room) s m args below meth c 5 D vwCl (spM ++ E) q ca A (wQv ({ frames := 0, cells := 0, slots := 0, locals := 0 } : Room) D vwCl (spM ++ E) q ca below args s A r0) 0 0 μ 31 [] []) : ∀ (k : Nat) (x4_ : Int32) (μ : wMem), gX6_copyRow_3 N j0 n0 x1_ x2_ x3_ K k x4_ μ = some r0 → wJ p l e ({ frames := 0, cells := 0, slots := 0, locals := 0 } : Room) s m args below meth c 5 D vwCl (spM ++ E) q ca A (wQv ({ frames := 0, cells := 0, slots := 0, locals := 0 } : Room) D vwCl (spM ++ E) q ca below args s A r0) 0 0 μ 3 [(0, .ref (q j0)), (1, .int x1_), (2, .int x2_), (3, .int x3_), (4, .int x4_)] [] := by
  intro k
  induction k with
  | zero =>
    intro x4_ μ hf
    cases hf
  | succ k ih =>
    intro x4_ μ hf
    replace hf : gbX6_copyRow_3 N j0 n0 x1_ x2_ x3_ K (gX6_copyRow_3 N j0 n0 x1_ x2_ x3_ K k) x4_ μ = some r0 := hf
    unfold gbX6_copyRow_3 at hf
    refine wr_iload 3 C dX6_copyRow_3 4 rfl ?_
    refine wr_iload_n 5 C dX6_copyRow_5 1 rfl rfl ?_
    refine wr_icmp_ge 6 31 C dX6_copyRow_6 (by decide) (fun c1 => ?_) (fun c1 => ?_)
    · replace hf := o_pos c1 hf
      refine wr_sub [] [] rfl ?_
      exact hK  μ hf
    · replace hf := o_neg c1 hf
      refine wr_aload_n 9 C dX6_copyRow_9 0 rfl rfl ?_
      refine wr_iload_n 10 C dX6_copyRow_10 1 rfl rfl ?_
      refine wr_iload_n 11 C dX6_copyRow_11 3 rfl rfl ?_
      refine wr_imul 12 C dX6_copyRow_12 ?_
      refine wr_iload 13 C dX6_copyRow_13 4 rfl ?_
      refine wr_iadd 15 C dX6_copyRow_15 ?_
      refine wr_aload_n 16 C dX6_copyRow_16 0 rfl rfl ?_
      refine wr_iload_n 17 C dX6_copyRow_17 1 rfl rfl ?_
      refine wr_iload_n 18 C dX6_copyRow_18 2 rfl rfl ?_
      refine wr_imul 19 C dX6_copyRow_19 ?_
      refine wr_iload 20 C dX6_copyRow_20 4 rfl ?_
      refine wr_iadd 22 C dX6_copyRow_22 ?_
      obtain ⟨g2, hf⟩ := o_g hf
      refine wr_iald 23 C dX6_copyRow_23 hs0 g2 ?_
      obtain ⟨g3, hf⟩ := o_g hf
      obtain ⟨μ4, eμ4, hf⟩ := o_let hf
      refine wr_iast 24 C dX6_copyRow_24 hs0 g3 eμ4 ?_
      obtain ⟨x5, ex5, hf⟩ := o_let hf
      refine wr_iinc 25 [(4, .int x5), (0, .ref (q j0)), (1, .int x1_), (2, .int x2_), (3, .int x3_)] C dX6_copyRow_25 4 rfl (ex5.trans rfl) (Nat.le_of_ble_eq_true rfl) rfl ?_
      refine wr_goto 28 C dX6_copyRow_28 (tgt := 3) (by decide) ?_
      refine wr_sub [(0, .ref (q j0)), (1, .int x1_), (2, .int x2_), (3, .int x3_), (4, .int x5)] [1, 2, 3, 4, 0] rfl ?_
      exact ih x5 μ4 hf
def fX6_copyRow (N : Nat) (j0 n0 : Nat) (a1 : Int32) (a2 : Int32) (a3 : Int32) (μ : wMem) : Option wMem :=
  gX6_copyRow_3 N j0 n0 a1 a2 a3 (fun  (μ6 : wMem) => some μ6) N 0 μ
set_option maxHeartbeats 4000000 in
set_option maxRecDepth 100000 in
theorem tX6_copyRow (l : Launch) {D : va_G} {E : List wCell} {q : Nat → Nat} {ca : wCA} (N : Nat) (j0 n0 : Nat) (hs0 : (spM ++ E)[j0]? = some (.inr (0, n0))) (a1 : Int32) (a2 : Int32) (a3 : Int32) (μ : wMem) (r0 : wMem) (hf : fX6_copyRow N j0 n0 a1 a2 a3 μ = some r0) : wMv l yX6_copyRow cX6_copyRow 5 none ({ frames := 0, cells := 0, slots := 0, locals := 0 } : Room) D vwCl (spM ++ E) q ca [.ref (q j0), .int a1, .int a2, .int a3] μ r0 := by
  refine wMv_intro (by decide) (Nat.le_of_ble_eq_true rfl) ?_
  intro p e s m args below meth c A C
  unfold fX6_copyRow at hf
  refine wr_sub [(0, .ref (q j0)), (1, .int a1), (2, .int a2), (3, .int a3)] [0, 1, 2, 3] rfl ?_
  refine wr_iconst 0 C dX6_copyRow_0 (v := 0) rfl ?_
  refine wr_istore 1 [(4, .int 0), (0, .ref (q j0)), (1, .int a1), (2, .int a2), (3, .int a3)] C dX6_copyRow_1 rfl (Nat.le_of_ble_eq_true rfl) rfl ?_
  refine wr_sub [(0, .ref (q j0)), (1, .int a1), (2, .int a2), (3, .int a3), (4, .int 0)] [1, 2, 3, 4, 0] rfl ?_
  refine tX6_copyRow_3 C N j0 n0 hs0 a1 a2 a3 _ r0 (fun  μ6 hf => ?_) N 0 μ hf
  · replace hf := hf
    exact wr_vret 31 C dX6_copyRow_31 ⟨Nat.zero_le _, Nat.zero_le _⟩ (Option.some.inj hf)
abbrev cX6_copyFamily : ByteArray := prog_11_method_32_code
def yX6_copyFamily : MethodName := ⟨RX6, "copyFamily", "(II)V"⟩
def dkwX6_copyFamily_2 : List UInt8 := [180, 0, 43, 16, 6, 27, 28, 184, 0, 234, 42, 180, 0, 46, 16, 40, 27, 28, 184, 0, 234, 177]
abbrev dktX6_copyFamily_2 : List UInt8 := dkwX6_copyFamily_2 ++ []
def dkwX6_copyFamily_1 : List UInt8 := [180, 0, 37, 16, 6, 27, 28, 184, 0, 234, 42, 180, 0, 40, 16, 6, 27, 28, 184, 0, 234, 42]
abbrev dktX6_copyFamily_1 : List UInt8 := dkwX6_copyFamily_1 ++ dktX6_copyFamily_2
def dkwX6_copyFamily_0 : List UInt8 := [42, 180, 0, 31, 4, 27, 28, 184, 0, 234, 42, 180, 0, 34, 16, 7, 27, 28, 184, 0, 234, 42]
abbrev dktX6_copyFamily_0 : List UInt8 := dkwX6_copyFamily_0 ++ dktX6_copyFamily_1
theorem dksX6_copyFamily_0 : cX6_copyFamily.data.toList.drop 0 = dktX6_copyFamily_0 := by decide +kernel
theorem dksX6_copyFamily_1 : cX6_copyFamily.data.toList.drop 22 = dktX6_copyFamily_1 := dk_seg dksX6_copyFamily_0 22 rfl rfl
theorem dksX6_copyFamily_2 : cX6_copyFamily.data.toList.drop 44 = dktX6_copyFamily_2 := dk_seg dksX6_copyFamily_1 22 rfl rfl
theorem dX6_copyFamily_0 : decode cX6_copyFamily 0 = .ok (.aload_n 0, 1) := dk_42 (dk_at dksX6_copyFamily_0 0 rfl rfl)
theorem dX6_copyFamily_1 : decode cX6_copyFamily 1 = .ok (.getfield 31, 3) := dk_180 0 31 (dk_at dksX6_copyFamily_0 1 rfl rfl)
theorem dX6_copyFamily_4 : decode cX6_copyFamily 4 = .ok (.iconst 1, 1) := dk_4 (dk_at dksX6_copyFamily_0 4 rfl rfl)
theorem dX6_copyFamily_5 : decode cX6_copyFamily 5 = .ok (.iload_n 1, 1) := dk_27 (dk_at dksX6_copyFamily_0 5 rfl rfl)
theorem dX6_copyFamily_6 : decode cX6_copyFamily 6 = .ok (.iload_n 2, 1) := dk_28 (dk_at dksX6_copyFamily_0 6 rfl rfl)
theorem dX6_copyFamily_7 : decode cX6_copyFamily 7 = .ok (.invokestatic 234, 3) := dk_184 0 234 (dk_at dksX6_copyFamily_0 7 rfl rfl)
theorem dX6_copyFamily_10 : decode cX6_copyFamily 10 = .ok (.aload_n 0, 1) := dk_42 (dk_at dksX6_copyFamily_0 10 rfl rfl)
theorem dX6_copyFamily_11 : decode cX6_copyFamily 11 = .ok (.getfield 34, 3) := dk_180 0 34 (dk_at dksX6_copyFamily_0 11 rfl rfl)
theorem dX6_copyFamily_14 : decode cX6_copyFamily 14 = .ok (.bipush 7, 2) := dk_16 7 (dk_at dksX6_copyFamily_0 14 rfl rfl)
theorem dX6_copyFamily_16 : decode cX6_copyFamily 16 = .ok (.iload_n 1, 1) := dk_27 (dk_at dksX6_copyFamily_0 16 rfl rfl)
theorem dX6_copyFamily_17 : decode cX6_copyFamily 17 = .ok (.iload_n 2, 1) := dk_28 (dk_at dksX6_copyFamily_0 17 rfl rfl)
theorem dX6_copyFamily_18 : decode cX6_copyFamily 18 = .ok (.invokestatic 234, 3) := dk_184 0 234 (dk_at dksX6_copyFamily_0 18 rfl rfl)
theorem dX6_copyFamily_21 : decode cX6_copyFamily 21 = .ok (.aload_n 0, 1) := dk_42 (dk_at dksX6_copyFamily_0 21 rfl rfl)
theorem dX6_copyFamily_22 : decode cX6_copyFamily 22 = .ok (.getfield 37, 3) := dk_180 0 37 (dk_at dksX6_copyFamily_1 0 rfl rfl)
theorem dX6_copyFamily_25 : decode cX6_copyFamily 25 = .ok (.bipush 6, 2) := dk_16 6 (dk_at dksX6_copyFamily_1 3 rfl rfl)
theorem dX6_copyFamily_27 : decode cX6_copyFamily 27 = .ok (.iload_n 1, 1) := dk_27 (dk_at dksX6_copyFamily_1 5 rfl rfl)
theorem dX6_copyFamily_28 : decode cX6_copyFamily 28 = .ok (.iload_n 2, 1) := dk_28 (dk_at dksX6_copyFamily_1 6 rfl rfl)
theorem dX6_copyFamily_29 : decode cX6_copyFamily 29 = .ok (.invokestatic 234, 3) := dk_184 0 234 (dk_at dksX6_copyFamily_1 7 rfl rfl)
theorem dX6_copyFamily_32 : decode cX6_copyFamily 32 = .ok (.aload_n 0, 1) := dk_42 (dk_at dksX6_copyFamily_1 10 rfl rfl)
theorem dX6_copyFamily_33 : decode cX6_copyFamily 33 = .ok (.getfield 40, 3) := dk_180 0 40 (dk_at dksX6_copyFamily_1 11 rfl rfl)
theorem dX6_copyFamily_36 : decode cX6_copyFamily 36 = .ok (.bipush 6, 2) := dk_16 6 (dk_at dksX6_copyFamily_1 14 rfl rfl)
theorem dX6_copyFamily_38 : decode cX6_copyFamily 38 = .ok (.iload_n 1, 1) := dk_27 (dk_at dksX6_copyFamily_1 16 rfl rfl)
theorem dX6_copyFamily_39 : decode cX6_copyFamily 39 = .ok (.iload_n 2, 1) := dk_28 (dk_at dksX6_copyFamily_1 17 rfl rfl)
theorem dX6_copyFamily_40 : decode cX6_copyFamily 40 = .ok (.invokestatic 234, 3) := dk_184 0 234 (dk_at dksX6_copyFamily_1 18 rfl rfl)
theorem dX6_copyFamily_43 : decode cX6_copyFamily 43 = .ok (.aload_n 0, 1) := dk_42 (dk_at dksX6_copyFamily_1 21 rfl rfl)
theorem dX6_copyFamily_44 : decode cX6_copyFamily 44 = .ok (.getfield 43, 3) := dk_180 0 43 (dk_at dksX6_copyFamily_2 0 rfl rfl)
theorem dX6_copyFamily_47 : decode cX6_copyFamily 47 = .ok (.bipush 6, 2) := dk_16 6 (dk_at dksX6_copyFamily_2 3 rfl rfl)
theorem dX6_copyFamily_49 : decode cX6_copyFamily 49 = .ok (.iload_n 1, 1) := dk_27 (dk_at dksX6_copyFamily_2 5 rfl rfl)
theorem dX6_copyFamily_50 : decode cX6_copyFamily 50 = .ok (.iload_n 2, 1) := dk_28 (dk_at dksX6_copyFamily_2 6 rfl rfl)
theorem dX6_copyFamily_51 : decode cX6_copyFamily 51 = .ok (.invokestatic 234, 3) := dk_184 0 234 (dk_at dksX6_copyFamily_2 7 rfl rfl)
theorem dX6_copyFamily_54 : decode cX6_copyFamily 54 = .ok (.aload_n 0, 1) := dk_42 (dk_at dksX6_copyFamily_2 10 rfl rfl)
theorem dX6_copyFamily_55 : decode cX6_copyFamily 55 = .ok (.getfield 46, 3) := dk_180 0 46 (dk_at dksX6_copyFamily_2 11 rfl rfl)
theorem dX6_copyFamily_58 : decode cX6_copyFamily 58 = .ok (.bipush 40, 2) := dk_16 40 (dk_at dksX6_copyFamily_2 14 rfl rfl)
theorem dX6_copyFamily_60 : decode cX6_copyFamily 60 = .ok (.iload_n 1, 1) := dk_27 (dk_at dksX6_copyFamily_2 16 rfl rfl)
theorem dX6_copyFamily_61 : decode cX6_copyFamily 61 = .ok (.iload_n 2, 1) := dk_28 (dk_at dksX6_copyFamily_2 17 rfl rfl)
theorem dX6_copyFamily_62 : decode cX6_copyFamily 62 = .ok (.invokestatic 234, 3) := dk_184 0 234 (dk_at dksX6_copyFamily_2 18 rfl rfl)
theorem dX6_copyFamily_65 : decode cX6_copyFamily 65 = .ok (.return_, 1) := dk_177 (dk_at dksX6_copyFamily_2 21 rfl rfl)
theorem gespM_0_21_X6 {p : Program} {l : Launch} {e : Env} {R : Room} {s : State} {m : MethodId} {args : Array Value} {below : List Frame} {meth : Method} {c : Code} {cc : ByteArray} {nL : Nat} {ret : Option FieldType} {D : va_G} {E : List wCell} {q : Nat → Nat} {ca : wCA} {A : Nat → Prop} {Q : State → Prop} {kc ks : Nat} {μ : wMem} {lv : List (Nat × Value)} {st : List Value} (pc : Nat) (C : wC p R s m args meth c cc "OnePassportModel" nL ret D vwCl (spM ++ E) q ca A) (hd : decode cc pc = .ok (.getfield 46, 3)) (k : wJ p l e R s m args below meth c nL D vwCl (spM ++ E) q ca A Q kc ks μ (pc + 3) lv (.ref (q 11) :: st)) : wJ p l e R s m args below meth c nL D vwCl (spM ++ E) q ca A Q kc ks μ pc lv (.ref (q 0) :: st) := wr_getR pc 21 C hd spM_0 rfl in_X6 (by decide) rfl q1420 k
theorem okX6_copyFamily : wOkV yX6_copyFamily cX6_copyFamily 3 none 2 := ⟨q1676, qs86, q145, q1677, by decide, by decide, by decide +kernel⟩
def fX6_copyFamily (N : Nat)  (a1 : Int32) (a2 : Int32) (μ : wMem) : Option wMem :=
  wBindV (fX6_copyRow N 6 5 1 a1 a2 μ) fun μ2 => wBindV (fX6_copyRow N 7 35 7 a1 a2 μ2) fun μ4 => wBindV (fX6_copyRow N 8 30 6 a1 a2 μ4) fun μ6 => wBindV (fX6_copyRow N 9 30 6 a1 a2 μ6) fun μ8 => wBindV (fX6_copyRow N 10 30 6 a1 a2 μ8) fun μ10 => wBindV (fX6_copyRow N 11 200 40 a1 a2 μ10) fun μ12 => some μ12
set_option maxHeartbeats 4000000 in
set_option maxRecDepth 100000 in
theorem tX6_copyFamily (l : Launch) {D : va_G} {E : List wCell} {q : Nat → Nat} {ca : wCA} (N : Nat)   (a1 : Int32) (a2 : Int32) (μ : wMem) (r0 : wMem) (hf : fX6_copyFamily N  a1 a2 μ = some r0) : wMv l yX6_copyFamily cX6_copyFamily 3 none ({ frames := 1, cells := 0, slots := 0, locals := 24 } : Room) D vwCl (spM ++ E) q ca [.ref (q 0), .int a1, .int a2] μ r0 := by
  refine wMv_intro (by decide) (Nat.le_of_ble_eq_true rfl) ?_
  intro p e s m args below meth c A C
  unfold fX6_copyFamily at hf
  refine wr_sub [(0, .ref (q 0)), (1, .int a1), (2, .int a2)] [0, 1, 2] rfl ?_
  refine wr_aload_n 0 C dX6_copyFamily_0 0 rfl rfl ?_
  refine gespM_0_16_X6 1 C dX6_copyFamily_1 ?_
  refine wr_iconst 4 C dX6_copyFamily_4 (v := 1) rfl ?_
  refine wr_iload_n 5 C dX6_copyFamily_5 1 rfl rfl ?_
  refine wr_iload_n 6 C dX6_copyFamily_6 2 rfl rfl ?_
  obtain ⟨μ2, h1, hf⟩ := o_bindV hf
  refine wr_Sv (kc1 := 0) (ks1 := 0) 7 [] C dX6_copyFamily_7 (tX6_copyRow l N 6 5 spM_6 1 a1 a2 μ μ2 h1) okX6_copyRow q1678 ⟨rfl, rfl, Nat.le_of_ble_eq_true rfl, Nat.le_of_ble_eq_true rfl, Nat.zero_le _, Nat.zero_le _⟩ (Nat.le_of_ble_eq_true rfl) rfl ?_
  refine wr_aload_n 10 C dX6_copyFamily_10 0 rfl rfl ?_
  refine gespM_0_17_X6 11 C dX6_copyFamily_11 ?_
  refine wr_bipush 14 C dX6_copyFamily_14 (v := 7) rfl ?_
  refine wr_iload_n 16 C dX6_copyFamily_16 1 rfl rfl ?_
  refine wr_iload_n 17 C dX6_copyFamily_17 2 rfl rfl ?_
  obtain ⟨μ4, h3, hf⟩ := o_bindV hf
  refine wr_Sv (kc1 := 0) (ks1 := 0) 18 [] C dX6_copyFamily_18 (tX6_copyRow l N 7 35 spM_7 7 a1 a2 μ2 μ4 h3) okX6_copyRow q1678 ⟨rfl, rfl, Nat.le_of_ble_eq_true rfl, Nat.le_of_ble_eq_true rfl, Nat.zero_le _, Nat.zero_le _⟩ (Nat.le_of_ble_eq_true rfl) rfl ?_
  refine wr_aload_n 21 C dX6_copyFamily_21 0 rfl rfl ?_
  refine gespM_0_18_X6 22 C dX6_copyFamily_22 ?_
  refine wr_bipush 25 C dX6_copyFamily_25 (v := 6) rfl ?_
  refine wr_iload_n 27 C dX6_copyFamily_27 1 rfl rfl ?_
  refine wr_iload_n 28 C dX6_copyFamily_28 2 rfl rfl ?_
  obtain ⟨μ6, h5, hf⟩ := o_bindV hf
  refine wr_Sv (kc1 := 0) (ks1 := 0) 29 [] C dX6_copyFamily_29 (tX6_copyRow l N 8 30 spM_8 6 a1 a2 μ4 μ6 h5) okX6_copyRow q1678 ⟨rfl, rfl, Nat.le_of_ble_eq_true rfl, Nat.le_of_ble_eq_true rfl, Nat.zero_le _, Nat.zero_le _⟩ (Nat.le_of_ble_eq_true rfl) rfl ?_
  refine wr_aload_n 32 C dX6_copyFamily_32 0 rfl rfl ?_
  refine gespM_0_19_X6 33 C dX6_copyFamily_33 ?_
  refine wr_bipush 36 C dX6_copyFamily_36 (v := 6) rfl ?_
  refine wr_iload_n 38 C dX6_copyFamily_38 1 rfl rfl ?_
  refine wr_iload_n 39 C dX6_copyFamily_39 2 rfl rfl ?_
  obtain ⟨μ8, h7, hf⟩ := o_bindV hf
  refine wr_Sv (kc1 := 0) (ks1 := 0) 40 [] C dX6_copyFamily_40 (tX6_copyRow l N 9 30 spM_9 6 a1 a2 μ6 μ8 h7) okX6_copyRow q1678 ⟨rfl, rfl, Nat.le_of_ble_eq_true rfl, Nat.le_of_ble_eq_true rfl, Nat.zero_le _, Nat.zero_le _⟩ (Nat.le_of_ble_eq_true rfl) rfl ?_
  refine wr_aload_n 43 C dX6_copyFamily_43 0 rfl rfl ?_
  refine gespM_0_20_X6 44 C dX6_copyFamily_44 ?_
  refine wr_bipush 47 C dX6_copyFamily_47 (v := 6) rfl ?_
  refine wr_iload_n 49 C dX6_copyFamily_49 1 rfl rfl ?_
  refine wr_iload_n 50 C dX6_copyFamily_50 2 rfl rfl ?_
  obtain ⟨μ10, h9, hf⟩ := o_bindV hf
  refine wr_Sv (kc1 := 0) (ks1 := 0) 51 [] C dX6_copyFamily_51 (tX6_copyRow l N 10 30 spM_10 6 a1 a2 μ8 μ10 h9) okX6_copyRow q1678 ⟨rfl, rfl, Nat.le_of_ble_eq_true rfl, Nat.le_of_ble_eq_true rfl, Nat.zero_le _, Nat.zero_le _⟩ (Nat.le_of_ble_eq_true rfl) rfl ?_
  refine wr_aload_n 54 C dX6_copyFamily_54 0 rfl rfl ?_
  refine gespM_0_21_X6 55 C dX6_copyFamily_55 ?_
  refine wr_bipush 58 C dX6_copyFamily_58 (v := 40) rfl ?_
  refine wr_iload_n 60 C dX6_copyFamily_60 1 rfl rfl ?_
  refine wr_iload_n 61 C dX6_copyFamily_61 2 rfl rfl ?_
  obtain ⟨μ12, h11, hf⟩ := o_bindV hf
  refine wr_Sv (kc1 := 0) (ks1 := 0) 62 [] C dX6_copyFamily_62 (tX6_copyRow l N 11 200 spM_11 40 a1 a2 μ10 μ12 h11) okX6_copyRow q1678 ⟨rfl, rfl, Nat.le_of_ble_eq_true rfl, Nat.le_of_ble_eq_true rfl, Nat.zero_le _, Nat.zero_le _⟩ (Nat.le_of_ble_eq_true rfl) rfl ?_
  exact wr_vret 65 C dX6_copyFamily_65 ⟨Nat.zero_le _, Nat.zero_le _⟩ (Option.some.inj hf)
