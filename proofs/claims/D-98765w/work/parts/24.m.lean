set_option maxRecDepth 100000
abbrev cX0_costNow : ByteArray := prog_1_method_58_code
def yX0_costNow : MethodName := ⟨RX0, "costNow", "(LOnePassport$Days;)I"⟩
def dkwX0_costNow_0 : List UInt8 := [42, 182, 0, 249, 42, 43, 182, 1, 60, 42, 182, 1, 64, 172]
abbrev dktX0_costNow_0 : List UInt8 := dkwX0_costNow_0 ++ []
theorem dksX0_costNow_0 : cX0_costNow.data.toList.drop 0 = dktX0_costNow_0 := by decide +kernel
theorem dX0_costNow_0 : decode cX0_costNow 0 = .ok (.aload_n 0, 1) := dk_42 (dk_at dksX0_costNow_0 0 rfl rfl)
theorem dX0_costNow_1 : decode cX0_costNow 1 = .ok (.invokevirtual 249, 3) := dk_182 0 249 (dk_at dksX0_costNow_0 1 rfl rfl)
theorem dX0_costNow_4 : decode cX0_costNow 4 = .ok (.aload_n 0, 1) := dk_42 (dk_at dksX0_costNow_0 4 rfl rfl)
theorem dX0_costNow_5 : decode cX0_costNow 5 = .ok (.aload_n 1, 1) := dk_43 (dk_at dksX0_costNow_0 5 rfl rfl)
theorem dX0_costNow_6 : decode cX0_costNow 6 = .ok (.invokevirtual 316, 3) := dk_182 1 60 (dk_at dksX0_costNow_0 6 rfl rfl)
theorem dX0_costNow_9 : decode cX0_costNow 9 = .ok (.aload_n 0, 1) := dk_42 (dk_at dksX0_costNow_0 9 rfl rfl)
theorem dX0_costNow_10 : decode cX0_costNow 10 = .ok (.invokevirtual 320, 3) := dk_182 1 64 (dk_at dksX0_costNow_0 10 rfl rfl)
theorem dX0_costNow_13 : decode cX0_costNow 13 = .ok (.ireturn, 1) := dk_172 (dk_at dksX0_costNow_0 13 rfl rfl)

theorem okX0_costNow : wOkV yX0_costNow cX0_costNow 2 (some .int) 1 := ⟨q858, qs33, q136, q859, by decide, by decide, by decide +kernel⟩
def fX0_costNow (N : Nat) (b1 : Nat)  (μ : wMem) : Option (Int32 × wMem) :=
  wBindV (fX0_asItIs N   μ) fun μ2 => wBindV (fX0_settles N b1  μ2) fun μ4 => wBind (fX0_nearestEnd N   μ4) fun v7 μ6 => some (v7, μ6)
set_option maxHeartbeats 4000000 in
set_option maxRecDepth 100000 in
theorem tX0_costNow (l : Launch) {D : va_G} {E : List wCell} {q : Nat → Nat} {ca : wCA} (N : Nat) (b1 : Nat)   (μ : wMem) (r0 : (Int32 × wMem)) (hf : fX0_costNow N b1  μ = some r0) : wMi l yX0_costNow cX0_costNow 2 (some .int) ({ frames := 6, cells := 0, slots := 0, locals := 134 } : Room) D vwCl (spX ++ E) q ca [.ref (q 0), .ref (q b1)] μ r0 := by
  refine wMi_intro (by decide) (Nat.le_of_ble_eq_true rfl) ?_
  intro p e s m args below meth c A C
  unfold fX0_costNow at hf
  refine wr_sub [(0, .ref (q 0)), (1, .ref (q b1))] [0, 1] rfl ?_
  refine wr_aload_n 0 C dX0_costNow_0 0 rfl rfl ?_
  obtain ⟨μ2, h1, hf⟩ := o_bindV hf
  refine wr_Vv (kc1 := 0) (ks1 := 0) 1 [] C dX0_costNow_1 (tX0_asItIs l N    μ μ2 h1) okX0_asItIs q737 (b := 0) spX_0 rfl ⟨rfl, rfl, Nat.le_of_ble_eq_true rfl, Nat.le_of_ble_eq_true rfl, Nat.zero_le _, Nat.zero_le _⟩ (Nat.le_of_ble_eq_true rfl) rfl ?_
  refine wr_aload_n 4 C dX0_costNow_4 0 rfl rfl ?_
  refine wr_aload_n 5 C dX0_costNow_5 1 rfl rfl ?_
  obtain ⟨μ4, h3, hf⟩ := o_bindV hf
  refine wr_Vv (kc1 := 0) (ks1 := 0) 6 [] C dX0_costNow_6 (tX0_settles l N b1   μ2 μ4 h3) okX0_settles q860 (b := 0) spX_0 rfl ⟨rfl, rfl, Nat.le_of_ble_eq_true rfl, Nat.le_of_ble_eq_true rfl, Nat.zero_le _, Nat.zero_le _⟩ (Nat.le_of_ble_eq_true rfl) rfl ?_
  refine wr_aload_n 9 C dX0_costNow_9 0 rfl rfl ?_
  obtain ⟨v7, μ6, h5, hf⟩ := o_bind hf
  refine wr_Vi (kc1 := 0) (ks1 := 0) 10 [] C dX0_costNow_10 (tX0_nearestEnd l N    μ4 (v7, μ6) h5) okX0_nearestEnd q904 (b := 0) spX_0 rfl ⟨rfl, rfl, Nat.le_of_ble_eq_true rfl, Nat.le_of_ble_eq_true rfl, Nat.zero_le _, Nat.zero_le _⟩ (Nat.le_of_ble_eq_true rfl) rfl ?_
  exact wr_iret 13 C dX0_costNow_13 ⟨Nat.zero_le _, Nat.zero_le _⟩ (Option.some.inj hf)
abbrev cX0_orNone : ByteArray := prog_1_method_63_code
def yX0_orNone : MethodName := ⟨RX0, "orNone", "(I)I"⟩
def dkwX0_orNone_0 : List UInt8 := [26, 19, 1, 35, 160, 0, 7, 2, 167, 0, 4, 26, 172]
abbrev dktX0_orNone_0 : List UInt8 := dkwX0_orNone_0 ++ []
theorem dksX0_orNone_0 : cX0_orNone.data.toList.drop 0 = dktX0_orNone_0 := by decide +kernel
theorem dX0_orNone_0 : decode cX0_orNone 0 = .ok (.iload_n 0, 1) := dk_26 (dk_at dksX0_orNone_0 0 rfl rfl)
theorem dX0_orNone_1 : decode cX0_orNone 1 = .ok (.ldc_w 291, 3) := dk_19 1 35 (dk_at dksX0_orNone_0 1 rfl rfl)
theorem dX0_orNone_4 : decode cX0_orNone 4 = .ok (.if_icmp .ne 7, 3) := dk_160 0 7 (dk_at dksX0_orNone_0 4 rfl rfl)
theorem dX0_orNone_7 : decode cX0_orNone 7 = .ok (.iconst (-1), 1) := dk_2 (dk_at dksX0_orNone_0 7 rfl rfl)
theorem dX0_orNone_8 : decode cX0_orNone 8 = .ok (.goto 4, 3) := dk_167 0 4 (dk_at dksX0_orNone_0 8 rfl rfl)
theorem dX0_orNone_11 : decode cX0_orNone 11 = .ok (.iload_n 0, 1) := dk_26 (dk_at dksX0_orNone_0 11 rfl rfl)
theorem dX0_orNone_12 : decode cX0_orNone 12 = .ok (.ireturn, 1) := dk_172 (dk_at dksX0_orNone_0 12 rfl rfl)

theorem okX0_orNone : wOkS yX0_orNone cX0_orNone 1 (some .int) 1 := ⟨q917, q136, q918, by decide, by decide, by decide +kernel⟩
def fX0_orNone (N : Nat)  (a0 : Int32) (μ : wMem) : Option (Int32 × wMem) :=
  if a0 = (1000000000 : Int32) then some ((-1), μ) else some (a0, μ)
set_option maxHeartbeats 4000000 in
set_option maxRecDepth 100000 in
theorem tX0_orNone (l : Launch) {D : va_G} {E : List wCell} {q : Nat → Nat} {ca : wCA} (N : Nat)   (a0 : Int32) (μ : wMem) (r0 : (Int32 × wMem)) (hf : fX0_orNone N  a0 μ = some r0) : wMi l yX0_orNone cX0_orNone 1 (some .int) ({ frames := 0, cells := 0, slots := 0, locals := 0 } : Room) D vwCl (spX ++ E) q ca [.int a0] μ r0 := by
  refine wMi_intro (by decide) (Nat.le_of_ble_eq_true rfl) ?_
  intro p e s m args below meth c A C
  unfold fX0_orNone at hf
  refine wr_sub [(0, .int a0)] [0] rfl ?_
  refine wr_iload_n 0 C dX0_orNone_0 0 rfl rfl ?_
  refine wr_ldcw 1 C dX0_orNone_1 q864 ?_
  refine wr_icmp_ne 4 11 C dX0_orNone_4 (by decide) (fun c1 => ?_) (fun c1 => ?_)
  · replace hf := o_neg c1 hf
    refine wr_iload_n 11 C dX0_orNone_11 0 rfl rfl ?_
    exact wr_iret 12 C dX0_orNone_12 ⟨Nat.zero_le _, Nat.zero_le _⟩ (Option.some.inj hf)
  · replace hf := o_pos c1 hf
    refine wr_iconst 7 C dX0_orNone_7 (v := (-1)) rfl ?_
    refine wr_goto 8 C dX0_orNone_8 (tgt := 12) (by decide) ?_
    exact wr_iret 12 C dX0_orNone_12 ⟨Nat.zero_le _, Nat.zero_le _⟩ (Option.some.inj hf)
abbrev cX0_days : ByteArray := prog_1_method_64_code
def yX0_days : MethodName := ⟨RX0, "days", "()I"⟩
def dkwX0_days_0 : List UInt8 := [42, 182, 0, 252, 153, 0, 17, 42, 42, 180, 0, 33, 182, 1, 67, 184, 1, 83, 167, 0, 5, 16, 254, 172]
abbrev dktX0_days_0 : List UInt8 := dkwX0_days_0 ++ []
theorem dksX0_days_0 : cX0_days.data.toList.drop 0 = dktX0_days_0 := by decide +kernel
theorem dX0_days_0 : decode cX0_days 0 = .ok (.aload_n 0, 1) := dk_42 (dk_at dksX0_days_0 0 rfl rfl)
theorem dX0_days_1 : decode cX0_days 1 = .ok (.invokevirtual 252, 3) := dk_182 0 252 (dk_at dksX0_days_0 1 rfl rfl)
theorem dX0_days_4 : decode cX0_days 4 = .ok (.ifCond .eq 17, 3) := dk_153 0 17 (dk_at dksX0_days_0 4 rfl rfl)
theorem dX0_days_7 : decode cX0_days 7 = .ok (.aload_n 0, 1) := dk_42 (dk_at dksX0_days_0 7 rfl rfl)
theorem dX0_days_8 : decode cX0_days 8 = .ok (.aload_n 0, 1) := dk_42 (dk_at dksX0_days_0 8 rfl rfl)
theorem dX0_days_9 : decode cX0_days 9 = .ok (.getfield 33, 3) := dk_180 0 33 (dk_at dksX0_days_0 9 rfl rfl)
theorem dX0_days_12 : decode cX0_days 12 = .ok (.invokevirtual 323, 3) := dk_182 1 67 (dk_at dksX0_days_0 12 rfl rfl)
theorem dX0_days_15 : decode cX0_days 15 = .ok (.invokestatic 339, 3) := dk_184 1 83 (dk_at dksX0_days_0 15 rfl rfl)
theorem dX0_days_18 : decode cX0_days 18 = .ok (.goto 5, 3) := dk_167 0 5 (dk_at dksX0_days_0 18 rfl rfl)
theorem dX0_days_21 : decode cX0_days 21 = .ok (.bipush (-2), 2) := dk_16 254 (dk_at dksX0_days_0 21 rfl rfl)
theorem dX0_days_23 : decode cX0_days 23 = .ok (.ireturn, 1) := dk_172 (dk_at dksX0_days_0 23 rfl rfl)
theorem gespX_0_13_X0 {p : Program} {l : Launch} {e : Env} {R : Room} {s : State} {m : MethodId} {args : Array Value} {below : List Frame} {meth : Method} {c : Code} {cc : ByteArray} {nL : Nat} {ret : Option FieldType} {D : va_G} {E : List wCell} {q : Nat → Nat} {ca : wCA} {A : Nat → Prop} {Q : State → Prop} {kc ks : Nat} {μ : wMem} {lv : List (Nat × Value)} {st : List Value} (pc : Nat) (C : wC p R s m args meth c cc "OnePassport" nL ret D vwCl (spX ++ E) q ca A) (hd : decode cc pc = .ok (.getfield 33, 3)) (k : wJ p l e R s m args below meth c nL D vwCl (spX ++ E) q ca A Q kc ks μ (pc + 3) lv (.ref (q 19) :: st)) : wJ p l e R s m args below meth c nL D vwCl (spX ++ E) q ca A Q kc ks μ pc lv (.ref (q 0) :: st) := wr_getR pc 13 C hd spX_0 rfl in_X0 (by decide) rfl q344 k
theorem okX0_days : wOkV yX0_days cX0_days 1 (some .int) 0 := ⟨q853, q854, q136, q855, by decide, by decide, by decide +kernel⟩
def fX0_days (N : Nat)   (μ : wMem) : Option (Int32 × wMem) :=
  wBind (fX0_isFamily N   μ) fun v3 μ2 => if v3 = 0 then some ((-2), μ2) else wBind (fX0_costNow N 19  μ2) fun v7 μ6 => wBind (fX0_orNone N  v7 μ6) fun v10 μ9 => some (v10, μ9)
set_option maxHeartbeats 4000000 in
set_option maxRecDepth 100000 in
theorem tX0_days (l : Launch) {D : va_G} {E : List wCell} {q : Nat → Nat} {ca : wCA} (N : Nat)    (μ : wMem) (r0 : (Int32 × wMem)) (hf : fX0_days N   μ = some r0) : wMi l yX0_days cX0_days 1 (some .int) ({ frames := 7, cells := 0, slots := 0, locals := 155 } : Room) D vwCl (spX ++ E) q ca [.ref (q 0)] μ r0 := by
  refine wMi_intro (by decide) (Nat.le_of_ble_eq_true rfl) ?_
  intro p e s m args below meth c A C
  unfold fX0_days at hf
  refine wr_sub [(0, .ref (q 0))] [0] rfl ?_
  refine wr_aload_n 0 C dX0_days_0 0 rfl rfl ?_
  obtain ⟨v3, μ2, h1, hf⟩ := o_bind hf
  refine wr_Vi (kc1 := 0) (ks1 := 0) 1 [] C dX0_days_1 (tX0_isFamily l N    μ (v3, μ2) h1) okX0_isFamily q770 (b := 0) spX_0 rfl ⟨rfl, rfl, Nat.le_of_ble_eq_true rfl, Nat.le_of_ble_eq_true rfl, Nat.zero_le _, Nat.zero_le _⟩ (Nat.le_of_ble_eq_true rfl) rfl ?_
  refine wr_if_eq 4 21 C dX0_days_4 (by decide) (fun c4 => ?_) (fun c4 => ?_)
  · replace hf := o_pos c4 hf
    refine wr_bipush 21 C dX0_days_21 (v := (-2)) rfl ?_
    exact wr_iret 23 C dX0_days_23 ⟨Nat.zero_le _, Nat.zero_le _⟩ (Option.some.inj hf)
  · replace hf := o_neg c4 hf
    refine wr_aload_n 7 C dX0_days_7 0 rfl rfl ?_
    refine wr_aload_n 8 C dX0_days_8 0 rfl rfl ?_
    refine gespX_0_13_X0 9 C dX0_days_9 ?_
    obtain ⟨v7, μ6, h5, hf⟩ := o_bind hf
    refine wr_Vi (kc1 := 0) (ks1 := 0) 12 [] C dX0_days_12 (tX0_costNow l N 19   μ2 (v7, μ6) h5) okX0_costNow q856 (b := 0) spX_0 rfl ⟨rfl, rfl, Nat.le_of_ble_eq_true rfl, Nat.le_of_ble_eq_true rfl, Nat.zero_le _, Nat.zero_le _⟩ (Nat.le_of_ble_eq_true rfl) rfl ?_
    obtain ⟨v10, μ9, h8, hf⟩ := o_bind hf
    refine wr_Si (kc1 := 0) (ks1 := 0) 15 [] C dX0_days_15 (tX0_orNone l N   v7 μ6 (v10, μ9) h8) okX0_orNone q916 ⟨rfl, rfl, Nat.le_of_ble_eq_true rfl, Nat.le_of_ble_eq_true rfl, Nat.zero_le _, Nat.zero_le _⟩ (Nat.le_of_ble_eq_true rfl) rfl ?_
    refine wr_goto 18 C dX0_days_18 (tgt := 23) (by decide) ?_
    exact wr_iret 23 C dX0_days_23 ⟨Nat.zero_le _, Nat.zero_le _⟩ (Option.some.inj hf)
abbrev cX0_nextBy : ByteArray := prog_1_method_59_code
def yX0_nextBy : MethodName := ⟨RX0, "nextBy", "(I)I"⟩
def dkwX0_nextBy_0 : List UInt8 := [42, 27, 182, 0, 243, 42, 182, 1, 42, 172]
abbrev dktX0_nextBy_0 : List UInt8 := dkwX0_nextBy_0 ++ []
theorem dksX0_nextBy_0 : cX0_nextBy.data.toList.drop 0 = dktX0_nextBy_0 := by decide +kernel
theorem dX0_nextBy_0 : decode cX0_nextBy 0 = .ok (.aload_n 0, 1) := dk_42 (dk_at dksX0_nextBy_0 0 rfl rfl)
theorem dX0_nextBy_1 : decode cX0_nextBy 1 = .ok (.iload_n 1, 1) := dk_27 (dk_at dksX0_nextBy_0 1 rfl rfl)
theorem dX0_nextBy_2 : decode cX0_nextBy 2 = .ok (.invokevirtual 243, 3) := dk_182 0 243 (dk_at dksX0_nextBy_0 2 rfl rfl)
theorem dX0_nextBy_5 : decode cX0_nextBy 5 = .ok (.aload_n 0, 1) := dk_42 (dk_at dksX0_nextBy_0 5 rfl rfl)
theorem dX0_nextBy_6 : decode cX0_nextBy 6 = .ok (.invokevirtual 298, 3) := dk_182 1 42 (dk_at dksX0_nextBy_0 6 rfl rfl)
theorem dX0_nextBy_9 : decode cX0_nextBy 9 = .ok (.ireturn, 1) := dk_172 (dk_at dksX0_nextBy_0 9 rfl rfl)

theorem okX0_nextBy : wOkV yX0_nextBy cX0_nextBy 2 (some .int) 1 := ⟨q933, qs46, q136, q934, by decide, by decide, by decide +kernel⟩
def fX0_nextBy (N : Nat)  (a1 : Int32) (μ : wMem) : Option (Int32 × wMem) :=
  wBindV (fX0_does N  a1 μ) fun μ2 => wBind (fX0_state N   μ2) fun v5 μ4 => some (v5, μ4)
set_option maxHeartbeats 4000000 in
set_option maxRecDepth 100000 in
theorem tX0_nextBy (l : Launch) {D : va_G} {E : List wCell} {q : Nat → Nat} {ca : wCA} (N : Nat)   (a1 : Int32) (μ : wMem) (r0 : (Int32 × wMem)) (hf : fX0_nextBy N  a1 μ = some r0) : wMi l yX0_nextBy cX0_nextBy 2 (some .int) ({ frames := 2, cells := 0, slots := 0, locals := 42 } : Room) D vwCl (spX ++ E) q ca [.ref (q 0), .int a1] μ r0 := by
  refine wMi_intro (by decide) (Nat.le_of_ble_eq_true rfl) ?_
  intro p e s m args below meth c A C
  unfold fX0_nextBy at hf
  refine wr_sub [(0, .ref (q 0)), (1, .int a1)] [0, 1] rfl ?_
  refine wr_aload_n 0 C dX0_nextBy_0 0 rfl rfl ?_
  refine wr_iload_n 1 C dX0_nextBy_1 1 rfl rfl ?_
  obtain ⟨μ2, h1, hf⟩ := o_bindV hf
  refine wr_Vv (kc1 := 0) (ks1 := 0) 2 [] C dX0_nextBy_2 (tX0_does l N   a1 μ μ2 h1) okX0_does q755 (b := 0) spX_0 rfl ⟨rfl, rfl, Nat.le_of_ble_eq_true rfl, Nat.le_of_ble_eq_true rfl, Nat.zero_le _, Nat.zero_le _⟩ (Nat.le_of_ble_eq_true rfl) rfl ?_
  refine wr_aload_n 5 C dX0_nextBy_5 0 rfl rfl ?_
  obtain ⟨v5, μ4, h3, hf⟩ := o_bind hf
  refine wr_Vi (kc1 := 0) (ks1 := 0) 6 [] C dX0_nextBy_6 (tX0_state l N    μ2 (v5, μ4) h3) okX0_state q865 (b := 0) spX_0 rfl ⟨rfl, rfl, Nat.le_of_ble_eq_true rfl, Nat.le_of_ble_eq_true rfl, Nat.zero_le _, Nat.zero_le _⟩ (Nat.le_of_ble_eq_true rfl) rfl ?_
  exact wr_iret 9 C dX0_nextBy_9 ⟨Nat.zero_le _, Nat.zero_le _⟩ (Option.some.inj hf)
abbrev cX0_marks : ByteArray := prog_1_method_60_code
def yX0_marks : MethodName := ⟨RX0, "marks", "(LOnePassport$Days;)Z"⟩
def dkwX0_marks_8 : List UInt8 := [42, 180, 0, 64, 29, 21, 4, 84, 132, 2, 255, 167, 255, 116, 42, 182, 0, 249, 4, 172]
abbrev dktX0_marks_8 : List UInt8 := dkwX0_marks_8 ++ []
def dkwX0_marks_7 : List UInt8 := [167, 0, 4, 3, 54, 4, 42, 29, 182, 1, 51, 42, 21, 5, 4, 96, 182, 1, 25, 54, 5, 167, 255, 180]
abbrev dktX0_marks_7 : List UInt8 := dkwX0_marks_7 ++ dktX0_marks_8
def dkwX0_marks_6 : List UInt8 := [180, 0, 52, 21, 6, 46, 42, 180, 0, 52, 29, 46, 43, 21, 5, 182, 1, 54, 96, 160, 0, 7, 4]
abbrev dktX0_marks_6 : List UInt8 := dkwX0_marks_6 ++ dktX0_marks_7
def dkwX0_marks_5 : List UInt8 := [154, 0, 69, 42, 21, 5, 182, 1, 74, 54, 6, 42, 180, 0, 64, 21, 6, 51, 153, 0, 30, 42]
abbrev dktX0_marks_5 : List UInt8 := dkwX0_marks_5 ++ dktX0_marks_6
def dkwX0_marks_4 : List UInt8 := [167, 0, 4, 3, 54, 4, 42, 3, 182, 1, 25, 54, 5, 21, 5, 17, 0, 200, 163, 0, 74, 21, 4]
abbrev dktX0_marks_4 : List UInt8 := dkwX0_marks_4 ++ dktX0_marks_5
def dkwX0_marks_3 : List UInt8 := [182, 1, 51, 42, 182, 1, 57, 153, 0, 20, 42, 180, 0, 52, 29, 46, 42, 180, 1, 71, 160, 0, 7, 4]
abbrev dktX0_marks_3 : List UInt8 := dkwX0_marks_3 ++ dktX0_marks_4
def dkwX0_marks_2 : List UInt8 := [167, 255, 233, 42, 180, 1, 39, 4, 100, 61, 28, 155, 0, 142, 42, 180, 0, 61, 28, 46, 62, 42, 29]
abbrev dktX0_marks_2 : List UInt8 := dkwX0_marks_2 ++ dktX0_marks_3
def dkwX0_marks_1 : List UInt8 := [42, 180, 1, 39, 162, 0, 21, 42, 180, 0, 64, 42, 180, 0, 61, 28, 46, 3, 84, 132, 2, 1]
abbrev dktX0_marks_1 : List UInt8 := dkwX0_marks_1 ++ dktX0_marks_2
def dkwX0_marks_0 : List UInt8 := [42, 42, 43, 182, 1, 67, 181, 1, 71, 42, 180, 1, 71, 19, 1, 35, 160, 0, 5, 3, 172, 3, 61, 28]
abbrev dktX0_marks_0 : List UInt8 := dkwX0_marks_0 ++ dktX0_marks_1
theorem dksX0_marks_0 : cX0_marks.data.toList.drop 0 = dktX0_marks_0 := by decide +kernel
theorem dksX0_marks_1 : cX0_marks.data.toList.drop 24 = dktX0_marks_1 := dk_seg dksX0_marks_0 24 rfl rfl
theorem dksX0_marks_2 : cX0_marks.data.toList.drop 46 = dktX0_marks_2 := dk_seg dksX0_marks_1 22 rfl rfl
theorem dksX0_marks_3 : cX0_marks.data.toList.drop 69 = dktX0_marks_3 := dk_seg dksX0_marks_2 23 rfl rfl
theorem dksX0_marks_4 : cX0_marks.data.toList.drop 93 = dktX0_marks_4 := dk_seg dksX0_marks_3 24 rfl rfl
theorem dksX0_marks_5 : cX0_marks.data.toList.drop 116 = dktX0_marks_5 := dk_seg dksX0_marks_4 23 rfl rfl
theorem dksX0_marks_6 : cX0_marks.data.toList.drop 138 = dktX0_marks_6 := dk_seg dksX0_marks_5 22 rfl rfl
theorem dksX0_marks_7 : cX0_marks.data.toList.drop 161 = dktX0_marks_7 := dk_seg dksX0_marks_6 23 rfl rfl
theorem dksX0_marks_8 : cX0_marks.data.toList.drop 185 = dktX0_marks_8 := dk_seg dksX0_marks_7 24 rfl rfl
theorem dX0_marks_0 : decode cX0_marks 0 = .ok (.aload_n 0, 1) := dk_42 (dk_at dksX0_marks_0 0 rfl rfl)
theorem dX0_marks_1 : decode cX0_marks 1 = .ok (.aload_n 0, 1) := dk_42 (dk_at dksX0_marks_0 1 rfl rfl)
theorem dX0_marks_2 : decode cX0_marks 2 = .ok (.aload_n 1, 1) := dk_43 (dk_at dksX0_marks_0 2 rfl rfl)
theorem dX0_marks_3 : decode cX0_marks 3 = .ok (.invokevirtual 323, 3) := dk_182 1 67 (dk_at dksX0_marks_0 3 rfl rfl)
theorem dX0_marks_6 : decode cX0_marks 6 = .ok (.putfield 327, 3) := dk_181 1 71 (dk_at dksX0_marks_0 6 rfl rfl)
theorem dX0_marks_9 : decode cX0_marks 9 = .ok (.aload_n 0, 1) := dk_42 (dk_at dksX0_marks_0 9 rfl rfl)
theorem dX0_marks_10 : decode cX0_marks 10 = .ok (.getfield 327, 3) := dk_180 1 71 (dk_at dksX0_marks_0 10 rfl rfl)
theorem dX0_marks_13 : decode cX0_marks 13 = .ok (.ldc_w 291, 3) := dk_19 1 35 (dk_at dksX0_marks_0 13 rfl rfl)
theorem dX0_marks_16 : decode cX0_marks 16 = .ok (.if_icmp .ne 5, 3) := dk_160 0 5 (dk_at dksX0_marks_0 16 rfl rfl)
theorem dX0_marks_19 : decode cX0_marks 19 = .ok (.iconst 0, 1) := dk_3 (dk_at dksX0_marks_0 19 rfl rfl)
theorem dX0_marks_20 : decode cX0_marks 20 = .ok (.ireturn, 1) := dk_172 (dk_at dksX0_marks_0 20 rfl rfl)
theorem dX0_marks_21 : decode cX0_marks 21 = .ok (.iconst 0, 1) := dk_3 (dk_at dksX0_marks_0 21 rfl rfl)
theorem dX0_marks_22 : decode cX0_marks 22 = .ok (.istore_n 2, 1) := dk_61 (dk_at dksX0_marks_0 22 rfl rfl)
theorem dX0_marks_23 : decode cX0_marks 23 = .ok (.iload_n 2, 1) := dk_28 (dk_at dksX0_marks_0 23 rfl rfl)
theorem dX0_marks_24 : decode cX0_marks 24 = .ok (.aload_n 0, 1) := dk_42 (dk_at dksX0_marks_1 0 rfl rfl)
theorem dX0_marks_25 : decode cX0_marks 25 = .ok (.getfield 295, 3) := dk_180 1 39 (dk_at dksX0_marks_1 1 rfl rfl)
theorem dX0_marks_28 : decode cX0_marks 28 = .ok (.if_icmp .ge 21, 3) := dk_162 0 21 (dk_at dksX0_marks_1 4 rfl rfl)
theorem dX0_marks_31 : decode cX0_marks 31 = .ok (.aload_n 0, 1) := dk_42 (dk_at dksX0_marks_1 7 rfl rfl)
theorem dX0_marks_32 : decode cX0_marks 32 = .ok (.getfield 64, 3) := dk_180 0 64 (dk_at dksX0_marks_1 8 rfl rfl)
theorem dX0_marks_35 : decode cX0_marks 35 = .ok (.aload_n 0, 1) := dk_42 (dk_at dksX0_marks_1 11 rfl rfl)
theorem dX0_marks_36 : decode cX0_marks 36 = .ok (.getfield 61, 3) := dk_180 0 61 (dk_at dksX0_marks_1 12 rfl rfl)
theorem dX0_marks_39 : decode cX0_marks 39 = .ok (.iload_n 2, 1) := dk_28 (dk_at dksX0_marks_1 15 rfl rfl)
theorem dX0_marks_40 : decode cX0_marks 40 = .ok (.iaload, 1) := dk_46 (dk_at dksX0_marks_1 16 rfl rfl)
theorem dX0_marks_41 : decode cX0_marks 41 = .ok (.iconst 0, 1) := dk_3 (dk_at dksX0_marks_1 17 rfl rfl)
theorem dX0_marks_42 : decode cX0_marks 42 = .ok (.bastore, 1) := dk_84 (dk_at dksX0_marks_1 18 rfl rfl)
theorem dX0_marks_43 : decode cX0_marks 43 = .ok (.iinc 2 1, 3) := dk_132 2 1 (dk_at dksX0_marks_1 19 rfl rfl)
theorem dX0_marks_46 : decode cX0_marks 46 = .ok (.goto (-23), 3) := dk_167 255 233 (dk_at dksX0_marks_2 0 rfl rfl)
theorem dX0_marks_49 : decode cX0_marks 49 = .ok (.aload_n 0, 1) := dk_42 (dk_at dksX0_marks_2 3 rfl rfl)
theorem dX0_marks_50 : decode cX0_marks 50 = .ok (.getfield 295, 3) := dk_180 1 39 (dk_at dksX0_marks_2 4 rfl rfl)
theorem dX0_marks_53 : decode cX0_marks 53 = .ok (.iconst 1, 1) := dk_4 (dk_at dksX0_marks_2 7 rfl rfl)
theorem dX0_marks_54 : decode cX0_marks 54 = .ok (.isub, 1) := dk_100 (dk_at dksX0_marks_2 8 rfl rfl)
theorem dX0_marks_55 : decode cX0_marks 55 = .ok (.istore_n 2, 1) := dk_61 (dk_at dksX0_marks_2 9 rfl rfl)
theorem dX0_marks_56 : decode cX0_marks 56 = .ok (.iload_n 2, 1) := dk_28 (dk_at dksX0_marks_2 10 rfl rfl)
theorem dX0_marks_57 : decode cX0_marks 57 = .ok (.ifCond .lt 142, 3) := dk_155 0 142 (dk_at dksX0_marks_2 11 rfl rfl)
theorem dX0_marks_60 : decode cX0_marks 60 = .ok (.aload_n 0, 1) := dk_42 (dk_at dksX0_marks_2 14 rfl rfl)
theorem dX0_marks_61 : decode cX0_marks 61 = .ok (.getfield 61, 3) := dk_180 0 61 (dk_at dksX0_marks_2 15 rfl rfl)
theorem dX0_marks_64 : decode cX0_marks 64 = .ok (.iload_n 2, 1) := dk_28 (dk_at dksX0_marks_2 18 rfl rfl)
theorem dX0_marks_65 : decode cX0_marks 65 = .ok (.iaload, 1) := dk_46 (dk_at dksX0_marks_2 19 rfl rfl)
theorem dX0_marks_66 : decode cX0_marks 66 = .ok (.istore_n 3, 1) := dk_62 (dk_at dksX0_marks_2 20 rfl rfl)
theorem dX0_marks_67 : decode cX0_marks 67 = .ok (.aload_n 0, 1) := dk_42 (dk_at dksX0_marks_2 21 rfl rfl)
theorem dX0_marks_68 : decode cX0_marks 68 = .ok (.iload_n 3, 1) := dk_29 (dk_at dksX0_marks_2 22 rfl rfl)
theorem dX0_marks_69 : decode cX0_marks 69 = .ok (.invokevirtual 307, 3) := dk_182 1 51 (dk_at dksX0_marks_3 0 rfl rfl)
theorem dX0_marks_72 : decode cX0_marks 72 = .ok (.aload_n 0, 1) := dk_42 (dk_at dksX0_marks_3 3 rfl rfl)
theorem dX0_marks_73 : decode cX0_marks 73 = .ok (.invokevirtual 313, 3) := dk_182 1 57 (dk_at dksX0_marks_3 4 rfl rfl)
theorem dX0_marks_76 : decode cX0_marks 76 = .ok (.ifCond .eq 20, 3) := dk_153 0 20 (dk_at dksX0_marks_3 7 rfl rfl)
theorem dX0_marks_79 : decode cX0_marks 79 = .ok (.aload_n 0, 1) := dk_42 (dk_at dksX0_marks_3 10 rfl rfl)
theorem dX0_marks_80 : decode cX0_marks 80 = .ok (.getfield 52, 3) := dk_180 0 52 (dk_at dksX0_marks_3 11 rfl rfl)
theorem dX0_marks_83 : decode cX0_marks 83 = .ok (.iload_n 3, 1) := dk_29 (dk_at dksX0_marks_3 14 rfl rfl)
theorem dX0_marks_84 : decode cX0_marks 84 = .ok (.iaload, 1) := dk_46 (dk_at dksX0_marks_3 15 rfl rfl)
theorem dX0_marks_85 : decode cX0_marks 85 = .ok (.aload_n 0, 1) := dk_42 (dk_at dksX0_marks_3 16 rfl rfl)
theorem dX0_marks_86 : decode cX0_marks 86 = .ok (.getfield 327, 3) := dk_180 1 71 (dk_at dksX0_marks_3 17 rfl rfl)
theorem dX0_marks_89 : decode cX0_marks 89 = .ok (.if_icmp .ne 7, 3) := dk_160 0 7 (dk_at dksX0_marks_3 20 rfl rfl)
theorem dX0_marks_92 : decode cX0_marks 92 = .ok (.iconst 1, 1) := dk_4 (dk_at dksX0_marks_3 23 rfl rfl)
theorem dX0_marks_93 : decode cX0_marks 93 = .ok (.goto 4, 3) := dk_167 0 4 (dk_at dksX0_marks_4 0 rfl rfl)
theorem dX0_marks_96 : decode cX0_marks 96 = .ok (.iconst 0, 1) := dk_3 (dk_at dksX0_marks_4 3 rfl rfl)
theorem dX0_marks_97 : decode cX0_marks 97 = .ok (.istore 4, 2) := dk_54 4 (dk_at dksX0_marks_4 4 rfl rfl)
theorem dX0_marks_99 : decode cX0_marks 99 = .ok (.aload_n 0, 1) := dk_42 (dk_at dksX0_marks_4 6 rfl rfl)
theorem dX0_marks_100 : decode cX0_marks 100 = .ok (.iconst 0, 1) := dk_3 (dk_at dksX0_marks_4 7 rfl rfl)
theorem dX0_marks_101 : decode cX0_marks 101 = .ok (.invokevirtual 281, 3) := dk_182 1 25 (dk_at dksX0_marks_4 8 rfl rfl)
theorem dX0_marks_104 : decode cX0_marks 104 = .ok (.istore 5, 2) := dk_54 5 (dk_at dksX0_marks_4 11 rfl rfl)
theorem dX0_marks_106 : decode cX0_marks 106 = .ok (.iload 5, 2) := dk_21 5 (dk_at dksX0_marks_4 13 rfl rfl)
theorem dX0_marks_108 : decode cX0_marks 108 = .ok (.sipush 200, 3) := dk_17 0 200 (dk_at dksX0_marks_4 15 rfl rfl)
theorem dX0_marks_111 : decode cX0_marks 111 = .ok (.if_icmp .gt 74, 3) := dk_163 0 74 (dk_at dksX0_marks_4 18 rfl rfl)
theorem dX0_marks_114 : decode cX0_marks 114 = .ok (.iload 4, 2) := dk_21 4 (dk_at dksX0_marks_4 21 rfl rfl)
theorem dX0_marks_116 : decode cX0_marks 116 = .ok (.ifCond .ne 69, 3) := dk_154 0 69 (dk_at dksX0_marks_5 0 rfl rfl)
theorem dX0_marks_119 : decode cX0_marks 119 = .ok (.aload_n 0, 1) := dk_42 (dk_at dksX0_marks_5 3 rfl rfl)
theorem dX0_marks_120 : decode cX0_marks 120 = .ok (.iload 5, 2) := dk_21 5 (dk_at dksX0_marks_5 4 rfl rfl)
theorem dX0_marks_122 : decode cX0_marks 122 = .ok (.invokevirtual 330, 3) := dk_182 1 74 (dk_at dksX0_marks_5 6 rfl rfl)
theorem dX0_marks_125 : decode cX0_marks 125 = .ok (.istore 6, 2) := dk_54 6 (dk_at dksX0_marks_5 9 rfl rfl)
theorem dX0_marks_127 : decode cX0_marks 127 = .ok (.aload_n 0, 1) := dk_42 (dk_at dksX0_marks_5 11 rfl rfl)
theorem dX0_marks_128 : decode cX0_marks 128 = .ok (.getfield 64, 3) := dk_180 0 64 (dk_at dksX0_marks_5 12 rfl rfl)
theorem dX0_marks_131 : decode cX0_marks 131 = .ok (.iload 6, 2) := dk_21 6 (dk_at dksX0_marks_5 15 rfl rfl)
theorem dX0_marks_133 : decode cX0_marks 133 = .ok (.baload, 1) := dk_51 (dk_at dksX0_marks_5 17 rfl rfl)
theorem dX0_marks_134 : decode cX0_marks 134 = .ok (.ifCond .eq 30, 3) := dk_153 0 30 (dk_at dksX0_marks_5 18 rfl rfl)
theorem dX0_marks_137 : decode cX0_marks 137 = .ok (.aload_n 0, 1) := dk_42 (dk_at dksX0_marks_5 21 rfl rfl)
theorem dX0_marks_138 : decode cX0_marks 138 = .ok (.getfield 52, 3) := dk_180 0 52 (dk_at dksX0_marks_6 0 rfl rfl)
theorem dX0_marks_141 : decode cX0_marks 141 = .ok (.iload 6, 2) := dk_21 6 (dk_at dksX0_marks_6 3 rfl rfl)
theorem dX0_marks_143 : decode cX0_marks 143 = .ok (.iaload, 1) := dk_46 (dk_at dksX0_marks_6 5 rfl rfl)
theorem dX0_marks_144 : decode cX0_marks 144 = .ok (.aload_n 0, 1) := dk_42 (dk_at dksX0_marks_6 6 rfl rfl)
theorem dX0_marks_145 : decode cX0_marks 145 = .ok (.getfield 52, 3) := dk_180 0 52 (dk_at dksX0_marks_6 7 rfl rfl)
theorem dX0_marks_148 : decode cX0_marks 148 = .ok (.iload_n 3, 1) := dk_29 (dk_at dksX0_marks_6 10 rfl rfl)
theorem dX0_marks_149 : decode cX0_marks 149 = .ok (.iaload, 1) := dk_46 (dk_at dksX0_marks_6 11 rfl rfl)
theorem dX0_marks_150 : decode cX0_marks 150 = .ok (.aload_n 1, 1) := dk_43 (dk_at dksX0_marks_6 12 rfl rfl)
theorem dX0_marks_151 : decode cX0_marks 151 = .ok (.iload 5, 2) := dk_21 5 (dk_at dksX0_marks_6 13 rfl rfl)
theorem dX0_marks_153 : decode cX0_marks 153 = .ok (.invokevirtual 310, 3) := dk_182 1 54 (dk_at dksX0_marks_6 15 rfl rfl)
theorem dX0_marks_156 : decode cX0_marks 156 = .ok (.iadd, 1) := dk_96 (dk_at dksX0_marks_6 18 rfl rfl)
theorem dX0_marks_157 : decode cX0_marks 157 = .ok (.if_icmp .ne 7, 3) := dk_160 0 7 (dk_at dksX0_marks_6 19 rfl rfl)
theorem dX0_marks_160 : decode cX0_marks 160 = .ok (.iconst 1, 1) := dk_4 (dk_at dksX0_marks_6 22 rfl rfl)
theorem dX0_marks_161 : decode cX0_marks 161 = .ok (.goto 4, 3) := dk_167 0 4 (dk_at dksX0_marks_7 0 rfl rfl)
theorem dX0_marks_164 : decode cX0_marks 164 = .ok (.iconst 0, 1) := dk_3 (dk_at dksX0_marks_7 3 rfl rfl)
theorem dX0_marks_165 : decode cX0_marks 165 = .ok (.istore 4, 2) := dk_54 4 (dk_at dksX0_marks_7 4 rfl rfl)
theorem dX0_marks_167 : decode cX0_marks 167 = .ok (.aload_n 0, 1) := dk_42 (dk_at dksX0_marks_7 6 rfl rfl)
theorem dX0_marks_168 : decode cX0_marks 168 = .ok (.iload_n 3, 1) := dk_29 (dk_at dksX0_marks_7 7 rfl rfl)
theorem dX0_marks_169 : decode cX0_marks 169 = .ok (.invokevirtual 307, 3) := dk_182 1 51 (dk_at dksX0_marks_7 8 rfl rfl)
theorem dX0_marks_172 : decode cX0_marks 172 = .ok (.aload_n 0, 1) := dk_42 (dk_at dksX0_marks_7 11 rfl rfl)
theorem dX0_marks_173 : decode cX0_marks 173 = .ok (.iload 5, 2) := dk_21 5 (dk_at dksX0_marks_7 12 rfl rfl)
theorem dX0_marks_175 : decode cX0_marks 175 = .ok (.iconst 1, 1) := dk_4 (dk_at dksX0_marks_7 14 rfl rfl)
theorem dX0_marks_176 : decode cX0_marks 176 = .ok (.iadd, 1) := dk_96 (dk_at dksX0_marks_7 15 rfl rfl)
theorem dX0_marks_177 : decode cX0_marks 177 = .ok (.invokevirtual 281, 3) := dk_182 1 25 (dk_at dksX0_marks_7 16 rfl rfl)
theorem dX0_marks_180 : decode cX0_marks 180 = .ok (.istore 5, 2) := dk_54 5 (dk_at dksX0_marks_7 19 rfl rfl)
theorem dX0_marks_182 : decode cX0_marks 182 = .ok (.goto (-76), 3) := dk_167 255 180 (dk_at dksX0_marks_7 21 rfl rfl)
theorem dX0_marks_185 : decode cX0_marks 185 = .ok (.aload_n 0, 1) := dk_42 (dk_at dksX0_marks_8 0 rfl rfl)
theorem dX0_marks_186 : decode cX0_marks 186 = .ok (.getfield 64, 3) := dk_180 0 64 (dk_at dksX0_marks_8 1 rfl rfl)
theorem dX0_marks_189 : decode cX0_marks 189 = .ok (.iload_n 3, 1) := dk_29 (dk_at dksX0_marks_8 4 rfl rfl)
theorem dX0_marks_190 : decode cX0_marks 190 = .ok (.iload 4, 2) := dk_21 4 (dk_at dksX0_marks_8 5 rfl rfl)
theorem dX0_marks_192 : decode cX0_marks 192 = .ok (.bastore, 1) := dk_84 (dk_at dksX0_marks_8 7 rfl rfl)
theorem dX0_marks_193 : decode cX0_marks 193 = .ok (.iinc 2 (-1), 3) := dk_132 2 255 (dk_at dksX0_marks_8 8 rfl rfl)
theorem dX0_marks_196 : decode cX0_marks 196 = .ok (.goto (-140), 3) := dk_167 255 116 (dk_at dksX0_marks_8 11 rfl rfl)
theorem dX0_marks_199 : decode cX0_marks 199 = .ok (.aload_n 0, 1) := dk_42 (dk_at dksX0_marks_8 14 rfl rfl)
theorem dX0_marks_200 : decode cX0_marks 200 = .ok (.invokevirtual 249, 3) := dk_182 0 249 (dk_at dksX0_marks_8 15 rfl rfl)
theorem dX0_marks_203 : decode cX0_marks 203 = .ok (.iconst 1, 1) := dk_4 (dk_at dksX0_marks_8 18 rfl rfl)
theorem dX0_marks_204 : decode cX0_marks 204 = .ok (.ireturn, 1) := dk_172 (dk_at dksX0_marks_8 19 rfl rfl)
theorem gespX_0_22_X0 {p : Program} {l : Launch} {e : Env} {R : Room} {s : State} {m : MethodId} {args : Array Value} {below : List Frame} {meth : Method} {c : Code} {cc : ByteArray} {nL : Nat} {ret : Option FieldType} {D : va_G} {E : List wCell} {q : Nat → Nat} {ca : wCA} {A : Nat → Prop} {Q : State → Prop} {kc ks : Nat} {μ : wMem} {lv : List (Nat × Value)} {st : List Value} (pc : Nat) (C : wC p R s m args meth c cc "OnePassport" nL ret D vwCl (spX ++ E) q ca A) (hd : decode cc pc = .ok (.getfield 64, 3)) (k : wJ p l e R s m args below meth c nL D vwCl (spX ++ E) q ca A Q kc ks μ (pc + 3) lv (.ref (q 14) :: st)) : wJ p l e R s m args below meth c nL D vwCl (spX ++ E) q ca A Q kc ks μ pc lv (.ref (q 0) :: st) := wr_getR pc 22 C hd spX_0 rfl in_X0 (by decide) rfl q353 k
theorem gespX_0_23_X0 {p : Program} {l : Launch} {e : Env} {R : Room} {s : State} {m : MethodId} {args : Array Value} {below : List Frame} {meth : Method} {c : Code} {cc : ByteArray} {nL : Nat} {ret : Option FieldType} {D : va_G} {E : List wCell} {q : Nat → Nat} {ca : wCA} {A : Nat → Prop} {Q : State → Prop} {kc ks : Nat} {μ : wMem} {lv : List (Nat × Value)} {st : List Value} (pc : Nat) (C : wC p R s m args meth c cc "OnePassport" nL ret D vwCl (spX ++ E) q ca A) (hd : decode cc pc = .ok (.getfield 327, 3)) (k : wJ p l e R s m args below meth c nL D vwCl (spX ++ E) q ca A Q kc ks μ (pc + 3) lv (.int (μ.1 0 23) :: st)) : wJ p l e R s m args below meth c nL D vwCl (spX ++ E) q ca A Q kc ks μ pc lv (.ref (q 0) :: st) := wr_getI pc 23 C hd spX_0 rfl in_X0 (by decide) rfl q354 k
theorem puspX_0_23_X0 {p : Program} {l : Launch} {e : Env} {R : Room} {s : State} {m : MethodId} {args : Array Value} {below : List Frame} {meth : Method} {c : Code} {cc : ByteArray} {nL : Nat} {ret : Option FieldType} {D : va_G} {E : List wCell} {q : Nat → Nat} {ca : wCA} {A : Nat → Prop} {Q : State → Prop} {kc ks : Nat} {μ : wMem} {lv : List (Nat × Value)} {st : List Value} {v : Int32} {μ1 : wMem} (pc : Nat) (C : wC p R s m args meth c cc "OnePassport" nL ret D vwCl (spX ++ E) q ca A) (hd : decode cc pc = .ok (.putfield 327, 3)) (hμ : μ1 = wSI μ 0 23 v) (k : wJ p l e R s m args below meth c nL D vwCl (spX ++ E) q ca A Q kc ks μ1 (pc + 3) lv st) : wJ p l e R s m args below meth c nL D vwCl (spX ++ E) q ca A Q kc ks μ pc lv (.int v :: .ref (q 0) :: st) := wr_putI pc 23 C hd spX_0 rfl in_X0 tyX0 tyX0_ok nmX0 (by decide) rfl q354 rfl rfl hμ k
theorem okX0_marks : wOkV yX0_marks cX0_marks 7 (some .boolean) 1 := ⟨q929, qs45, q136, q930, by decide, by decide, by decide +kernel⟩
def gbX0_marks_23 (N : Nat) (b1 : Nat)  (K : (wMem → Option (Int32 × wMem))) (rec : (Int32 → wMem → Option (Int32 × wMem))) (x2_ : Int32) (μ : wMem) : Option (Int32 × wMem) :=
  if (μ.1 0 21) ≤ x2_ then K  μ else wG (ok_in x2_ 100352) (wG (ok_in (μ.1 13 (Int32.toNatClampNeg x2_)) 100352) (wLet (wSI μ 14 (Int32.toNatClampNeg (μ.1 13 (Int32.toNatClampNeg x2_))) (0 : Int32)) fun μ9 => wLet (x2_ + 1 : Int32) fun x10 => rec x10 μ9))
def gX0_marks_23 (N : Nat) (b1 : Nat)  (K : (wMem → Option (Int32 × wMem))) : Nat → (Int32 → wMem → Option (Int32 × wMem))
  | 0 => fun _ _ => none
  | k + 1 => gbX0_marks_23 N b1  K (gX0_marks_23 N b1  K k)
set_option maxHeartbeats 4000000 in
set_option maxRecDepth 100000 in
theorem tX0_marks_23 {p : Program} {l : Launch} {e : Env} {s : State} {m : MethodId} {args : Array Value} {below : List Frame} {meth : Method} {c : Code} {D : va_G} {E : List wCell} {q : Nat → Nat} {ca : wCA} {A : Nat → Prop} (C : wC p ({ frames := 7, cells := 0, slots := 0, locals := 155 } : Room) s m args meth c cX0_marks yX0_marks.cls 7 (some .boolean) D vwCl (spX ++ E) q ca A) (N : Nat) (b1 : Nat)   (K : (wMem → Option (Int32 × wMem))) (r0 : (Int32 × wMem)) (hK : ∀  (μ : wMem), K  μ = some r0 → wJ p l e ({ frames := 7, cells := 0, slots := 0, locals := 155 } : Room) s m args below meth c 7 D vwCl (spX ++ E) q ca A (wQi ({ frames := 7, cells := 0, slots := 0, locals := 155 } : Room) D vwCl (spX ++ E) q ca below args s A r0) 0 0 μ 49 [(0, .ref (q 0)), (1, .ref (q b1))] []) : ∀ (k : Nat) (x2_ : Int32) (μ : wMem), gX0_marks_23 N b1  K k x2_ μ = some r0 → wJ p l e ({ frames := 7, cells := 0, slots := 0, locals := 155 } : Room) s m args below meth c 7 D vwCl (spX ++ E) q ca A (wQi ({ frames := 7, cells := 0, slots := 0, locals := 155 } : Room) D vwCl (spX ++ E) q ca below args s A r0) 0 0 μ 23 [(0, .ref (q 0)), (1, .ref (q b1)), (2, .int x2_)] [] := by
  intro k
  induction k with
  | zero =>
    intro x2_ μ hf
    cases hf
  | succ k ih =>
    intro x2_ μ hf
    replace hf : gbX0_marks_23 N b1  K (gX0_marks_23 N b1  K k) x2_ μ = some r0 := hf
    unfold gbX0_marks_23 at hf
    refine wr_iload_n 23 C dX0_marks_23 2 rfl rfl ?_
    refine wr_aload_n 24 C dX0_marks_24 0 rfl rfl ?_
    refine gespX_0_21_X0 25 C dX0_marks_25 ?_
    refine wr_icmp_ge 28 49 C dX0_marks_28 (by decide) (fun c6 => ?_) (fun c6 => ?_)
    · replace hf := o_pos c6 hf
      refine wr_sub [(0, .ref (q 0)), (1, .ref (q b1))] [0, 1] rfl ?_
      exact hK  μ hf
    · replace hf := o_neg c6 hf
      refine wr_aload_n 31 C dX0_marks_31 0 rfl rfl ?_
      refine gespX_0_22_X0 32 C dX0_marks_32 ?_
      refine wr_aload_n 35 C dX0_marks_35 0 rfl rfl ?_
      refine gespX_0_19_X0 36 C dX0_marks_36 ?_
      refine wr_iload_n 39 C dX0_marks_39 2 rfl rfl ?_
      obtain ⟨g7, hf⟩ := o_g hf
      refine wr_iald 40 C dX0_marks_40 spX_13 g7 ?_
      refine wr_iconst 41 C dX0_marks_41 (v := 0) rfl ?_
      obtain ⟨g8, hf⟩ := o_g hf
      obtain ⟨μ9, eμ9, hf⟩ := o_let hf
      refine wr_zast 42 C dX0_marks_42 spX_14 g8 rfl eμ9 ?_
      obtain ⟨x10, ex10, hf⟩ := o_let hf
      refine wr_iinc 43 [(2, .int x10), (0, .ref (q 0)), (1, .ref (q b1))] C dX0_marks_43 2 rfl (ex10.trans rfl) (Nat.le_of_ble_eq_true rfl) rfl ?_
      refine wr_goto 46 C dX0_marks_46 (tgt := 23) (by decide) ?_
      refine wr_sub [(0, .ref (q 0)), (1, .ref (q b1)), (2, .int x10)] [1, 2, 0] rfl ?_
      exact ih x10 μ9 hf
def gbX0_marks_106 (N : Nat) (b1 : Nat) (x2_ : Int32) (x3_ : Int32) (K : (Int32 → wMem → Option (Int32 × wMem))) (rec : (Int32 → Int32 → wMem → Option (Int32 × wMem))) (x4_ : Int32) (x5_ : Int32) (μ : wMem) : Option (Int32 × wMem) :=
  if (200 : Int32) < x5_ then K x4_ μ else if x4_ = 0 then wBind (fX0_nextBy N  x5_ μ) fun v30 μ29 => wG (ok_in v30 100352) (wLet (fun (v33 : Int32) (μ32 : wMem) => wBindV (fX0_be N  x3_ μ32) fun μ35 => wBind (fX0_nextAct N  (x5_ + (1 : Int32)) μ35) fun v38 μ37 => rec v33 v38 μ37) fun Jmarks165 => wLet (fun  (μ39 : wMem) => Jmarks165 0 μ39) fun Jmarks164 => if (μ29.1 14 (Int32.toNatClampNeg v30)) = 0 then Jmarks164  μ29 else wG (ok_in v30 100352) (wG (ok_in x3_ 100352) (wBind (fX_of N b1 x5_ μ29) fun v45 μ44 => if (μ29.1 10 (Int32.toNatClampNeg v30)) = ((μ29.1 10 (Int32.toNatClampNeg x3_)) + v45) then Jmarks165 1 μ44 else Jmarks164  μ44))) else K x4_ μ
def gX0_marks_106 (N : Nat) (b1 : Nat) (x2_ : Int32) (x3_ : Int32) (K : (Int32 → wMem → Option (Int32 × wMem))) : Nat → (Int32 → Int32 → wMem → Option (Int32 × wMem))
  | 0 => fun _ _ _ => none
  | k + 1 => gbX0_marks_106 N b1 x2_ x3_ K (gX0_marks_106 N b1 x2_ x3_ K k)
set_option maxHeartbeats 4000000 in
set_option maxRecDepth 100000 in
theorem tX0_marks_106 {p : Program} {l : Launch} {e : Env} {s : State} {m : MethodId} {args : Array Value} {below : List Frame} {meth : Method} {c : Code} {D : va_G} {E : List wCell} {q : Nat → Nat} {ca : wCA} {A : Nat → Prop} (C : wC p ({ frames := 7, cells := 0, slots := 0, locals := 155 } : Room) s m args meth c cX0_marks yX0_marks.cls 7 (some .boolean) D vwCl (spX ++ E) q ca A) (N : Nat) (b1 : Nat)  (x2_ : Int32) (x3_ : Int32) (K : (Int32 → wMem → Option (Int32 × wMem))) (r0 : (Int32 × wMem)) (hK : ∀ (y4_ : Int32) (μ : wMem), K y4_ μ = some r0 → wJ p l e ({ frames := 7, cells := 0, slots := 0, locals := 155 } : Room) s m args below meth c 7 D vwCl (spX ++ E) q ca A (wQi ({ frames := 7, cells := 0, slots := 0, locals := 155 } : Room) D vwCl (spX ++ E) q ca below args s A r0) 0 0 μ 185 [(0, .ref (q 0)), (1, .ref (q b1)), (2, .int x2_), (3, .int x3_), (4, .int y4_)] []) : ∀ (k : Nat) (x4_ : Int32) (x5_ : Int32) (μ : wMem), gX0_marks_106 N b1 x2_ x3_ K k x4_ x5_ μ = some r0 → wJ p l e ({ frames := 7, cells := 0, slots := 0, locals := 155 } : Room) s m args below meth c 7 D vwCl (spX ++ E) q ca A (wQi ({ frames := 7, cells := 0, slots := 0, locals := 155 } : Room) D vwCl (spX ++ E) q ca below args s A r0) 0 0 μ 106 [(0, .ref (q 0)), (1, .ref (q b1)), (2, .int x2_), (3, .int x3_), (4, .int x4_), (5, .int x5_)] [] := by
  intro k
  induction k with
  | zero =>
    intro x4_ x5_ μ hf
    cases hf
  | succ k ih =>
    intro x4_ x5_ μ hf
    replace hf : gbX0_marks_106 N b1 x2_ x3_ K (gX0_marks_106 N b1 x2_ x3_ K k) x4_ x5_ μ = some r0 := hf
    unfold gbX0_marks_106 at hf
    refine wr_iload 106 C dX0_marks_106 5 rfl ?_
    refine wr_sipush 108 C dX0_marks_108 (v := 200) rfl ?_
    refine wr_icmp_gt 111 185 C dX0_marks_111 (by decide) (fun c26 => ?_) (fun c26 => ?_)
    · replace hf := o_pos c26 hf
      refine wr_sub [(0, .ref (q 0)), (1, .ref (q b1)), (2, .int x2_), (3, .int x3_), (4, .int x4_)] [0, 1, 2, 3, 4] rfl ?_
      exact hK x4_ μ hf
    · replace hf := o_neg c26 hf
      refine wr_iload 114 C dX0_marks_114 4 rfl ?_
      refine wr_if_ne 116 185 C dX0_marks_116 (by decide) (fun c27 => ?_) (fun c27 => ?_)
      · replace hf := o_neg c27 hf
        refine wr_sub [(0, .ref (q 0)), (1, .ref (q b1)), (2, .int x2_), (3, .int x3_), (4, .int x4_)] [0, 1, 2, 3, 4] rfl ?_
        exact hK x4_ μ hf
      · replace hf := o_pos c27 hf
        refine wr_aload_n 119 C dX0_marks_119 0 rfl rfl ?_
        refine wr_iload 120 C dX0_marks_120 5 rfl ?_
        obtain ⟨v30, μ29, h28, hf⟩ := o_bind hf
        refine wr_Vi (kc1 := 0) (ks1 := 0) 122 [] C dX0_marks_122 (tX0_nextBy l N   x5_ μ (v30, μ29) h28) okX0_nextBy q931 (b := 0) spX_0 rfl ⟨rfl, rfl, Nat.le_of_ble_eq_true rfl, Nat.le_of_ble_eq_true rfl, Nat.zero_le _, Nat.zero_le _⟩ (Nat.le_of_ble_eq_true rfl) rfl ?_
        refine wr_istore 125 [(6, .int v30), (0, .ref (q 0)), (1, .ref (q b1)), (2, .int x2_), (3, .int x3_), (4, .int x4_), (5, .int x5_)] C dX0_marks_125 rfl (Nat.le_of_ble_eq_true rfl) rfl ?_
        refine wr_aload_n 127 C dX0_marks_127 1 rfl rfl ?_
        refine gespX_0_22_X0 128 C dX0_marks_128 ?_
        refine wr_iload 131 C dX0_marks_131 0 rfl ?_
        obtain ⟨g31, hf⟩ := o_g hf
        refine wr_zald 133 C dX0_marks_133 spX_14 g31 ?_
        obtain ⟨Jmarks165, eJmarks165, hf⟩ := o_let hf
        have hJmarks165 : ∀ (v33 : Int32) (μ32 : wMem), Jmarks165 v33 μ32 = some r0 → wJ p l e ({ frames := 7, cells := 0, slots := 0, locals := 155 } : Room) s m args below meth c 7 D vwCl (spX ++ E) q ca A (wQi ({ frames := 7, cells := 0, slots := 0, locals := 155 } : Room) D vwCl (spX ++ E) q ca below args s A r0) 0 0 μ32 165 [(0, .ref (q 0)), (1, .ref (q b1)), (2, .int x2_), (3, .int x3_), (5, .int x5_)] [.int v33] := by
          intro v33 μ32 hf
          rw [eJmarks165] at hf
          refine wr_istore 165 [(4, .int v33), (0, .ref (q 0)), (1, .ref (q b1)), (2, .int x2_), (3, .int x3_), (5, .int x5_)] C dX0_marks_165 rfl (Nat.le_of_ble_eq_true rfl) rfl ?_
          refine wr_aload_n 167 C dX0_marks_167 1 rfl rfl ?_
          refine wr_iload_n 168 C dX0_marks_168 4 rfl rfl ?_
          obtain ⟨μ35, h34, hf⟩ := o_bindV hf
          refine wr_Vv (kc1 := 0) (ks1 := 0) 169 [] C dX0_marks_169 (tX0_be l N   x3_ μ32 μ35 h34) okX0_be q885 (b := 0) spX_0 rfl ⟨rfl, rfl, Nat.le_of_ble_eq_true rfl, Nat.le_of_ble_eq_true rfl, Nat.zero_le _, Nat.zero_le _⟩ (Nat.le_of_ble_eq_true rfl) rfl ?_
          refine wr_aload_n 172 C dX0_marks_172 1 rfl rfl ?_
          refine wr_iload 173 C dX0_marks_173 5 rfl ?_
          refine wr_iconst 175 C dX0_marks_175 (v := 1) rfl ?_
          refine wr_iadd 176 C dX0_marks_176 ?_
          obtain ⟨v38, μ37, h36, hf⟩ := o_bind hf
          refine wr_Vi (kc1 := 0) (ks1 := 0) 177 [] C dX0_marks_177 (tX0_nextAct l N   (x5_ + (1 : Int32)) μ35 (v38, μ37) h36) okX0_nextAct q834 (b := 0) spX_0 rfl ⟨rfl, rfl, Nat.le_of_ble_eq_true rfl, Nat.le_of_ble_eq_true rfl, Nat.zero_le _, Nat.zero_le _⟩ (Nat.le_of_ble_eq_true rfl) rfl ?_
          refine wr_istore 180 [(5, .int v38), (4, .int v33), (0, .ref (q 0)), (1, .ref (q b1)), (2, .int x2_), (3, .int x3_)] C dX0_marks_180 rfl (Nat.le_of_ble_eq_true rfl) rfl ?_
          refine wr_goto 182 C dX0_marks_182 (tgt := 106) (by decide) ?_
          refine wr_sub [(0, .ref (q 0)), (1, .ref (q b1)), (2, .int x2_), (3, .int x3_), (4, .int v33), (5, .int v38)] [2, 3, 4, 5, 1, 0] rfl ?_
          exact ih v33 v38 μ37 hf
        obtain ⟨Jmarks164, eJmarks164, hf⟩ := o_let hf
        have hJmarks164 : ∀  (μ39 : wMem), Jmarks164  μ39 = some r0 → wJ p l e ({ frames := 7, cells := 0, slots := 0, locals := 155 } : Room) s m args below meth c 7 D vwCl (spX ++ E) q ca A (wQi ({ frames := 7, cells := 0, slots := 0, locals := 155 } : Room) D vwCl (spX ++ E) q ca below args s A r0) 0 0 μ39 164 [(0, .ref (q 0)), (1, .ref (q b1)), (2, .int x2_), (3, .int x3_), (5, .int x5_)] [] := by
          intro  μ39 hf
          rw [eJmarks164] at hf
          refine wr_iconst 164 C dX0_marks_164 (v := 0) rfl ?_
          exact hJmarks165 0 μ39 hf
        refine wr_if_eq 134 164 C dX0_marks_134 (by decide) (fun c40 => ?_) (fun c40 => ?_)
        · replace hf := o_pos c40 hf
          refine wr_sub [(0, .ref (q 0)), (1, .ref (q b1)), (2, .int x2_), (3, .int x3_), (5, .int x5_)] [1, 2, 3, 4, 6] rfl ?_
          exact hJmarks164  μ29 hf
        · replace hf := o_neg c40 hf
          refine wr_aload_n 137 C dX0_marks_137 1 rfl rfl ?_
          refine gespX_0_16_X0 138 C dX0_marks_138 ?_
          refine wr_iload 141 C dX0_marks_141 0 rfl ?_
          obtain ⟨g41, hf⟩ := o_g hf
          refine wr_iald 143 C dX0_marks_143 spX_10 g41 ?_
          refine wr_aload_n 144 C dX0_marks_144 1 rfl rfl ?_
          refine gespX_0_16_X0 145 C dX0_marks_145 ?_
          refine wr_iload_n 148 C dX0_marks_148 4 rfl rfl ?_
          obtain ⟨g42, hf⟩ := o_g hf
          refine wr_iald 149 C dX0_marks_149 spX_10 g42 ?_
          refine wr_aload_n 150 C dX0_marks_150 2 rfl rfl ?_
          refine wr_iload 151 C dX0_marks_151 6 rfl ?_
          obtain ⟨v45, μ44, h43, hf⟩ := o_bind hf
          refine wr_by 153 N [.int (μ29.1 10 (Int32.toNatClampNeg x3_)), .int (μ29.1 10 (Int32.toNatClampNeg v30))] C dX0_marks_153 h43 ⟨Nat.le_of_ble_eq_true rfl, Nat.le_of_ble_eq_true rfl⟩ (Nat.le_of_ble_eq_true rfl) rfl ?_
          refine wr_iadd 156 C dX0_marks_156 ?_
          refine wr_icmp_ne 157 164 C dX0_marks_157 (by decide) (fun c46 => ?_) (fun c46 => ?_)
          · replace hf := o_neg c46 hf
            refine wr_sub [(0, .ref (q 0)), (1, .ref (q b1)), (2, .int x2_), (3, .int x3_), (5, .int x5_)] [1, 2, 3, 4, 6] rfl ?_
            exact hJmarks164  μ44 hf
          · replace hf := o_pos c46 hf
            refine wr_iconst 160 C dX0_marks_160 (v := 1) rfl ?_
            refine wr_goto 161 C dX0_marks_161 (tgt := 165) (by decide) ?_
            refine wr_sub [(0, .ref (q 0)), (1, .ref (q b1)), (2, .int x2_), (3, .int x3_), (5, .int x5_)] [1, 2, 3, 4, 6] rfl ?_
            exact hJmarks165 1 μ44 hf
def gbX0_marks_56 (N : Nat) (b1 : Nat)  (K : (wMem → Option (Int32 × wMem))) (rec : (Int32 → wMem → Option (Int32 × wMem))) (x2_ : Int32) (μ : wMem) : Option (Int32 × wMem) :=
  if x2_ < 0 then K  μ else wG (ok_in x2_ 100352) (wLet (μ.1 13 (Int32.toNatClampNeg x2_) : Int32) fun x15 => wBindV (fX0_be N  x15 μ) fun μ17 => wBind (fX0_isEnd N   μ17) fun v20 μ19 => wLet (fun (v22 : Int32) (μ21 : wMem) => wBind (fX0_nextAct N  0 μ21) fun v25 μ24 => gX0_marks_106 N b1 x2_ x15 (fun (x48 : Int32) (μ47 : wMem) => wG (ok_in x15 100352) (wG (ok_b x48) (wLet (wSI μ47 14 (Int32.toNatClampNeg x15) x48) fun μ51 => wLet (x2_ + (-1) : Int32) fun x52 => rec x52 μ51))) N v22 v25 μ24) fun Jmarks97 => wLet (fun  (μ53 : wMem) => Jmarks97 0 μ53) fun Jmarks96 => if v20 = 0 then Jmarks96  μ19 else wG (ok_in x15 100352) (if (μ19.1 10 (Int32.toNatClampNeg x15)) = (μ19.1 0 23) then Jmarks97 1 μ19 else Jmarks96  μ19))
def gX0_marks_56 (N : Nat) (b1 : Nat)  (K : (wMem → Option (Int32 × wMem))) : Nat → (Int32 → wMem → Option (Int32 × wMem))
  | 0 => fun _ _ => none
  | k + 1 => gbX0_marks_56 N b1  K (gX0_marks_56 N b1  K k)
set_option maxHeartbeats 4000000 in
set_option maxRecDepth 100000 in
theorem tX0_marks_56 {p : Program} {l : Launch} {e : Env} {s : State} {m : MethodId} {args : Array Value} {below : List Frame} {meth : Method} {c : Code} {D : va_G} {E : List wCell} {q : Nat → Nat} {ca : wCA} {A : Nat → Prop} (C : wC p ({ frames := 7, cells := 0, slots := 0, locals := 155 } : Room) s m args meth c cX0_marks yX0_marks.cls 7 (some .boolean) D vwCl (spX ++ E) q ca A) (N : Nat) (b1 : Nat)   (K : (wMem → Option (Int32 × wMem))) (r0 : (Int32 × wMem)) (hK : ∀  (μ : wMem), K  μ = some r0 → wJ p l e ({ frames := 7, cells := 0, slots := 0, locals := 155 } : Room) s m args below meth c 7 D vwCl (spX ++ E) q ca A (wQi ({ frames := 7, cells := 0, slots := 0, locals := 155 } : Room) D vwCl (spX ++ E) q ca below args s A r0) 0 0 μ 199 [(0, .ref (q 0))] []) : ∀ (k : Nat) (x2_ : Int32) (μ : wMem), gX0_marks_56 N b1  K k x2_ μ = some r0 → wJ p l e ({ frames := 7, cells := 0, slots := 0, locals := 155 } : Room) s m args below meth c 7 D vwCl (spX ++ E) q ca A (wQi ({ frames := 7, cells := 0, slots := 0, locals := 155 } : Room) D vwCl (spX ++ E) q ca below args s A r0) 0 0 μ 56 [(0, .ref (q 0)), (1, .ref (q b1)), (2, .int x2_)] [] := by
  intro k
  induction k with
  | zero =>
    intro x2_ μ hf
    cases hf
  | succ k ih =>
    intro x2_ μ hf
    replace hf : gbX0_marks_56 N b1  K (gX0_marks_56 N b1  K k) x2_ μ = some r0 := hf
    unfold gbX0_marks_56 at hf
    refine wr_iload_n 56 C dX0_marks_56 2 rfl rfl ?_
    refine wr_if_lt 57 199 C dX0_marks_57 (by decide) (fun c13 => ?_) (fun c13 => ?_)
    · replace hf := o_pos c13 hf
      refine wr_sub [(0, .ref (q 0))] [0] rfl ?_
      exact hK  μ hf
    · replace hf := o_neg c13 hf
      refine wr_aload_n 60 C dX0_marks_60 0 rfl rfl ?_
      refine gespX_0_19_X0 61 C dX0_marks_61 ?_
      refine wr_iload_n 64 C dX0_marks_64 2 rfl rfl ?_
      obtain ⟨g14, hf⟩ := o_g hf
      refine wr_iald 65 C dX0_marks_65 spX_13 g14 ?_
      obtain ⟨x15, ex15, hf⟩ := o_let hf
      refine wr_istore_n 66 [(3, .int x15), (0, .ref (q 0)), (1, .ref (q b1)), (2, .int x2_)] C dX0_marks_66 ex15 rfl (Nat.le_of_ble_eq_true rfl) rfl ?_
      refine wr_aload_n 67 C dX0_marks_67 1 rfl rfl ?_
      refine wr_iload_n 68 C dX0_marks_68 0 rfl rfl ?_
      obtain ⟨μ17, h16, hf⟩ := o_bindV hf
      refine wr_Vv (kc1 := 0) (ks1 := 0) 69 [] C dX0_marks_69 (tX0_be l N   x15 μ μ17 h16) okX0_be q885 (b := 0) spX_0 rfl ⟨rfl, rfl, Nat.le_of_ble_eq_true rfl, Nat.le_of_ble_eq_true rfl, Nat.zero_le _, Nat.zero_le _⟩ (Nat.le_of_ble_eq_true rfl) rfl ?_
      refine wr_aload_n 72 C dX0_marks_72 1 rfl rfl ?_
      obtain ⟨v20, μ19, h18, hf⟩ := o_bind hf
      refine wr_Vi (kc1 := 0) (ks1 := 0) 73 [] C dX0_marks_73 (tX0_isEnd l N    μ17 (v20, μ19) h18) okX0_isEnd q908 (b := 0) spX_0 rfl ⟨rfl, rfl, Nat.le_of_ble_eq_true rfl, Nat.le_of_ble_eq_true rfl, Nat.zero_le _, Nat.zero_le _⟩ (Nat.le_of_ble_eq_true rfl) rfl ?_
      obtain ⟨Jmarks97, eJmarks97, hf⟩ := o_let hf
      have hJmarks97 : ∀ (v22 : Int32) (μ21 : wMem), Jmarks97 v22 μ21 = some r0 → wJ p l e ({ frames := 7, cells := 0, slots := 0, locals := 155 } : Room) s m args below meth c 7 D vwCl (spX ++ E) q ca A (wQi ({ frames := 7, cells := 0, slots := 0, locals := 155 } : Room) D vwCl (spX ++ E) q ca below args s A r0) 0 0 μ21 97 [(0, .ref (q 0)), (1, .ref (q b1)), (2, .int x2_), (3, .int x15)] [.int v22] := by
        intro v22 μ21 hf
        rw [eJmarks97] at hf
        refine wr_istore 97 [(4, .int v22), (0, .ref (q 0)), (1, .ref (q b1)), (2, .int x2_), (3, .int x15)] C dX0_marks_97 rfl (Nat.le_of_ble_eq_true rfl) rfl ?_
        refine wr_aload_n 99 C dX0_marks_99 1 rfl rfl ?_
        refine wr_iconst 100 C dX0_marks_100 (v := 0) rfl ?_
        obtain ⟨v25, μ24, h23, hf⟩ := o_bind hf
        refine wr_Vi (kc1 := 0) (ks1 := 0) 101 [] C dX0_marks_101 (tX0_nextAct l N   0 μ21 (v25, μ24) h23) okX0_nextAct q834 (b := 0) spX_0 rfl ⟨rfl, rfl, Nat.le_of_ble_eq_true rfl, Nat.le_of_ble_eq_true rfl, Nat.zero_le _, Nat.zero_le _⟩ (Nat.le_of_ble_eq_true rfl) rfl ?_
        refine wr_istore 104 [(5, .int v25), (4, .int v22), (0, .ref (q 0)), (1, .ref (q b1)), (2, .int x2_), (3, .int x15)] C dX0_marks_104 rfl (Nat.le_of_ble_eq_true rfl) rfl ?_
        refine wr_sub [(0, .ref (q 0)), (1, .ref (q b1)), (2, .int x2_), (3, .int x15), (4, .int v22), (5, .int v25)] [2, 3, 4, 5, 1, 0] rfl ?_
        refine tX0_marks_106 C N b1  x2_ x15 _ r0 (fun x48 μ47 hf => ?_) N v22 v25 μ24 hf
        · replace hf := hf
          refine wr_aload_n 185 C dX0_marks_185 0 rfl rfl ?_
          refine gespX_0_22_X0 186 C dX0_marks_186 ?_
          refine wr_iload_n 189 C dX0_marks_189 3 rfl rfl ?_
          refine wr_iload 190 C dX0_marks_190 4 rfl ?_
          obtain ⟨g49, hf⟩ := o_g hf
          obtain ⟨g50, hf⟩ := o_g hf
          obtain ⟨μ51, eμ51, hf⟩ := o_let hf
          refine wr_zast 192 C dX0_marks_192 spX_14 g49 (ok_b_vp g50) eμ51 ?_
          obtain ⟨x52, ex52, hf⟩ := o_let hf
          refine wr_iinc 193 [(2, .int x52), (0, .ref (q 0)), (1, .ref (q b1)), (3, .int x15), (4, .int x48)] C dX0_marks_193 2 rfl (ex52.trans rfl) (Nat.le_of_ble_eq_true rfl) rfl ?_
          refine wr_goto 196 C dX0_marks_196 (tgt := 56) (by decide) ?_
          refine wr_sub [(0, .ref (q 0)), (1, .ref (q b1)), (2, .int x52)] [1, 2, 0] rfl ?_
          exact ih x52 μ51 hf
      obtain ⟨Jmarks96, eJmarks96, hf⟩ := o_let hf
      have hJmarks96 : ∀  (μ53 : wMem), Jmarks96  μ53 = some r0 → wJ p l e ({ frames := 7, cells := 0, slots := 0, locals := 155 } : Room) s m args below meth c 7 D vwCl (spX ++ E) q ca A (wQi ({ frames := 7, cells := 0, slots := 0, locals := 155 } : Room) D vwCl (spX ++ E) q ca below args s A r0) 0 0 μ53 96 [(0, .ref (q 0)), (1, .ref (q b1)), (2, .int x2_), (3, .int x15)] [] := by
        intro  μ53 hf
        rw [eJmarks96] at hf
        refine wr_iconst 96 C dX0_marks_96 (v := 0) rfl ?_
        exact hJmarks97 0 μ53 hf
      refine wr_if_eq 76 96 C dX0_marks_76 (by decide) (fun c54 => ?_) (fun c54 => ?_)
      · replace hf := o_pos c54 hf
        refine wr_sub [(0, .ref (q 0)), (1, .ref (q b1)), (2, .int x2_), (3, .int x15)] [1, 2, 3, 0] rfl ?_
        exact hJmarks96  μ19 hf
      · replace hf := o_neg c54 hf
        refine wr_aload_n 79 C dX0_marks_79 1 rfl rfl ?_
        refine gespX_0_16_X0 80 C dX0_marks_80 ?_
        refine wr_iload_n 83 C dX0_marks_83 0 rfl rfl ?_
        obtain ⟨g55, hf⟩ := o_g hf
        refine wr_iald 84 C dX0_marks_84 spX_10 g55 ?_
        refine wr_aload_n 85 C dX0_marks_85 1 rfl rfl ?_
        refine gespX_0_23_X0 86 C dX0_marks_86 ?_
        refine wr_icmp_ne 89 96 C dX0_marks_89 (by decide) (fun c56 => ?_) (fun c56 => ?_)
        · replace hf := o_neg c56 hf
          refine wr_sub [(0, .ref (q 0)), (1, .ref (q b1)), (2, .int x2_), (3, .int x15)] [1, 2, 3, 0] rfl ?_
          exact hJmarks96  μ19 hf
        · replace hf := o_pos c56 hf
          refine wr_iconst 92 C dX0_marks_92 (v := 1) rfl ?_
          refine wr_goto 93 C dX0_marks_93 (tgt := 97) (by decide) ?_
          refine wr_sub [(0, .ref (q 0)), (1, .ref (q b1)), (2, .int x2_), (3, .int x15)] [1, 2, 3, 0] rfl ?_
          exact hJmarks97 1 μ19 hf
def fX0_marks (N : Nat) (b1 : Nat)  (μ : wMem) : Option (Int32 × wMem) :=
  wBind (fX0_costNow N b1  μ) fun v3 μ2 => wLet (wSI μ2 0 23 v3) fun μ4 => if (μ4.1 0 23) = (1000000000 : Int32) then some (0, μ4) else gX0_marks_23 N b1  (fun  (μ11 : wMem) => wLet ((μ11.1 0 21) - (1 : Int32) : Int32) fun x12 => gX0_marks_56 N b1  (fun  (μ57 : wMem) => wBindV (fX0_asItIs N   μ57) fun μ59 => some (1, μ59)) N x12 μ11) N 0 μ4
set_option maxHeartbeats 4000000 in
set_option maxRecDepth 100000 in
theorem tX0_marks (l : Launch) {D : va_G} {E : List wCell} {q : Nat → Nat} {ca : wCA} (N : Nat) (b1 : Nat)   (μ : wMem) (r0 : (Int32 × wMem)) (hf : fX0_marks N b1  μ = some r0) : wMi l yX0_marks cX0_marks 7 (some .boolean) ({ frames := 7, cells := 0, slots := 0, locals := 155 } : Room) D vwCl (spX ++ E) q ca [.ref (q 0), .ref (q b1)] μ r0 := by
  refine wMi_intro (by decide) (Nat.le_of_ble_eq_true rfl) ?_
  intro p e s m args below meth c A C
  unfold fX0_marks at hf
  refine wr_sub [(0, .ref (q 0)), (1, .ref (q b1))] [0, 1] rfl ?_
  refine wr_aload_n 0 C dX0_marks_0 0 rfl rfl ?_
  refine wr_aload_n 1 C dX0_marks_1 0 rfl rfl ?_
  refine wr_aload_n 2 C dX0_marks_2 1 rfl rfl ?_
  obtain ⟨v3, μ2, h1, hf⟩ := o_bind hf
  refine wr_Vi (kc1 := 0) (ks1 := 0) 3 [.ref (q 0)] C dX0_marks_3 (tX0_costNow l N b1   μ (v3, μ2) h1) okX0_costNow q856 (b := 0) spX_0 rfl ⟨rfl, rfl, Nat.le_of_ble_eq_true rfl, Nat.le_of_ble_eq_true rfl, Nat.zero_le _, Nat.zero_le _⟩ (Nat.le_of_ble_eq_true rfl) rfl ?_
  obtain ⟨μ4, eμ4, hf⟩ := o_let hf
  refine puspX_0_23_X0 6 C dX0_marks_6 eμ4 ?_
  refine wr_aload_n 9 C dX0_marks_9 0 rfl rfl ?_
  refine gespX_0_23_X0 10 C dX0_marks_10 ?_
  refine wr_ldcw 13 C dX0_marks_13 q864 ?_
  refine wr_icmp_ne 16 21 C dX0_marks_16 (by decide) (fun c5 => ?_) (fun c5 => ?_)
  · replace hf := o_neg c5 hf
    refine wr_iconst 21 C dX0_marks_21 (v := 0) rfl ?_
    refine wr_istore_n 22 [(2, .int 0), (0, .ref (q 0)), (1, .ref (q b1))] C dX0_marks_22 rfl rfl (Nat.le_of_ble_eq_true rfl) rfl ?_
    refine wr_sub [(0, .ref (q 0)), (1, .ref (q b1)), (2, .int 0)] [1, 2, 0] rfl ?_
    refine tX0_marks_23 C N b1   _ r0 (fun  μ11 hf => ?_) N 0 μ4 hf
    · replace hf := hf
      refine wr_aload_n 49 C dX0_marks_49 0 rfl rfl ?_
      refine gespX_0_21_X0 50 C dX0_marks_50 ?_
      refine wr_iconst 53 C dX0_marks_53 (v := 1) rfl ?_
      refine wr_isub 54 C dX0_marks_54 ?_
      obtain ⟨x12, ex12, hf⟩ := o_let hf
      refine wr_istore_n 55 [(2, .int x12), (0, .ref (q 0)), (1, .ref (q b1))] C dX0_marks_55 ex12 rfl (Nat.le_of_ble_eq_true rfl) rfl ?_
      refine wr_sub [(0, .ref (q 0)), (1, .ref (q b1)), (2, .int x12)] [1, 2, 0] rfl ?_
      refine tX0_marks_56 C N b1   _ r0 (fun  μ57 hf => ?_) N x12 μ11 hf
      · replace hf := hf
        refine wr_aload_n 199 C dX0_marks_199 0 rfl rfl ?_
        obtain ⟨μ59, h58, hf⟩ := o_bindV hf
        refine wr_Vv (kc1 := 0) (ks1 := 0) 200 [] C dX0_marks_200 (tX0_asItIs l N    μ57 μ59 h58) okX0_asItIs q737 (b := 0) spX_0 rfl ⟨rfl, rfl, Nat.le_of_ble_eq_true rfl, Nat.le_of_ble_eq_true rfl, Nat.zero_le _, Nat.zero_le _⟩ (Nat.le_of_ble_eq_true rfl) rfl ?_
        refine wr_iconst 203 C dX0_marks_203 (v := 1) rfl ?_
        exact wr_zret 204 C dX0_marks_204 rfl ⟨Nat.zero_le _, Nat.zero_le _⟩ (Option.some.inj hf)
  · replace hf := o_pos c5 hf
    refine wr_iconst 19 C dX0_marks_19 (v := 0) rfl ?_
    exact wr_zret 20 C dX0_marks_20 rfl ⟨Nat.zero_le _, Nat.zero_le _⟩ (Option.some.inj hf)
abbrev cX0_step : ByteArray := prog_1_method_61_code
def yX0_step : MethodName := ⟨RX0, "step", "(LOnePassport$Days;)I"⟩
def dkwX0_step_4 : List UInt8 := [62, 167, 255, 195, 2, 172]
abbrev dktX0_step_4 : List UInt8 := dkwX0_step_4 ++ []
def dkwX0_step_3 : List UInt8 := [42, 180, 0, 52, 28, 46, 43, 29, 182, 1, 54, 96, 160, 0, 5, 29, 172, 42, 29, 4, 96, 182, 1, 25]
abbrev dktX0_step_3 : List UInt8 := dkwX0_step_3 ++ dktX0_step_4
def dkwX0_step_2 : List UInt8 := [54, 4, 42, 28, 182, 1, 51, 42, 180, 0, 64, 21, 4, 51, 153, 0, 27, 42, 180, 0, 52, 21, 4, 46]
abbrev dktX0_step_2 : List UInt8 := dkwX0_step_2 ++ dktX0_step_3
def dkwX0_step_1 : List UInt8 := [160, 0, 5, 2, 172, 42, 3, 182, 1, 25, 62, 29, 17, 0, 200, 163, 0, 60, 42, 29, 182, 1, 74]
abbrev dktX0_step_1 : List UInt8 := dkwX0_step_1 ++ dktX0_step_2
def dkwX0_step_0 : List UInt8 := [42, 182, 1, 42, 61, 42, 182, 1, 57, 153, 0, 18, 42, 180, 0, 52, 28, 46, 42, 180, 1, 71]
abbrev dktX0_step_0 : List UInt8 := dkwX0_step_0 ++ dktX0_step_1
theorem dksX0_step_0 : cX0_step.data.toList.drop 0 = dktX0_step_0 := by decide +kernel
theorem dksX0_step_1 : cX0_step.data.toList.drop 22 = dktX0_step_1 := dk_seg dksX0_step_0 22 rfl rfl
theorem dksX0_step_2 : cX0_step.data.toList.drop 45 = dktX0_step_2 := dk_seg dksX0_step_1 23 rfl rfl
theorem dksX0_step_3 : cX0_step.data.toList.drop 69 = dktX0_step_3 := dk_seg dksX0_step_2 24 rfl rfl
theorem dksX0_step_4 : cX0_step.data.toList.drop 93 = dktX0_step_4 := dk_seg dksX0_step_3 24 rfl rfl
theorem dX0_step_0 : decode cX0_step 0 = .ok (.aload_n 0, 1) := dk_42 (dk_at dksX0_step_0 0 rfl rfl)
theorem dX0_step_1 : decode cX0_step 1 = .ok (.invokevirtual 298, 3) := dk_182 1 42 (dk_at dksX0_step_0 1 rfl rfl)
theorem dX0_step_4 : decode cX0_step 4 = .ok (.istore_n 2, 1) := dk_61 (dk_at dksX0_step_0 4 rfl rfl)
theorem dX0_step_5 : decode cX0_step 5 = .ok (.aload_n 0, 1) := dk_42 (dk_at dksX0_step_0 5 rfl rfl)
theorem dX0_step_6 : decode cX0_step 6 = .ok (.invokevirtual 313, 3) := dk_182 1 57 (dk_at dksX0_step_0 6 rfl rfl)
theorem dX0_step_9 : decode cX0_step 9 = .ok (.ifCond .eq 18, 3) := dk_153 0 18 (dk_at dksX0_step_0 9 rfl rfl)
theorem dX0_step_12 : decode cX0_step 12 = .ok (.aload_n 0, 1) := dk_42 (dk_at dksX0_step_0 12 rfl rfl)
theorem dX0_step_13 : decode cX0_step 13 = .ok (.getfield 52, 3) := dk_180 0 52 (dk_at dksX0_step_0 13 rfl rfl)
theorem dX0_step_16 : decode cX0_step 16 = .ok (.iload_n 2, 1) := dk_28 (dk_at dksX0_step_0 16 rfl rfl)
theorem dX0_step_17 : decode cX0_step 17 = .ok (.iaload, 1) := dk_46 (dk_at dksX0_step_0 17 rfl rfl)
theorem dX0_step_18 : decode cX0_step 18 = .ok (.aload_n 0, 1) := dk_42 (dk_at dksX0_step_0 18 rfl rfl)
theorem dX0_step_19 : decode cX0_step 19 = .ok (.getfield 327, 3) := dk_180 1 71 (dk_at dksX0_step_0 19 rfl rfl)
theorem dX0_step_22 : decode cX0_step 22 = .ok (.if_icmp .ne 5, 3) := dk_160 0 5 (dk_at dksX0_step_1 0 rfl rfl)
theorem dX0_step_25 : decode cX0_step 25 = .ok (.iconst (-1), 1) := dk_2 (dk_at dksX0_step_1 3 rfl rfl)
theorem dX0_step_26 : decode cX0_step 26 = .ok (.ireturn, 1) := dk_172 (dk_at dksX0_step_1 4 rfl rfl)
theorem dX0_step_27 : decode cX0_step 27 = .ok (.aload_n 0, 1) := dk_42 (dk_at dksX0_step_1 5 rfl rfl)
theorem dX0_step_28 : decode cX0_step 28 = .ok (.iconst 0, 1) := dk_3 (dk_at dksX0_step_1 6 rfl rfl)
theorem dX0_step_29 : decode cX0_step 29 = .ok (.invokevirtual 281, 3) := dk_182 1 25 (dk_at dksX0_step_1 7 rfl rfl)
theorem dX0_step_32 : decode cX0_step 32 = .ok (.istore_n 3, 1) := dk_62 (dk_at dksX0_step_1 10 rfl rfl)
theorem dX0_step_33 : decode cX0_step 33 = .ok (.iload_n 3, 1) := dk_29 (dk_at dksX0_step_1 11 rfl rfl)
theorem dX0_step_34 : decode cX0_step 34 = .ok (.sipush 200, 3) := dk_17 0 200 (dk_at dksX0_step_1 12 rfl rfl)
theorem dX0_step_37 : decode cX0_step 37 = .ok (.if_icmp .gt 60, 3) := dk_163 0 60 (dk_at dksX0_step_1 15 rfl rfl)
theorem dX0_step_40 : decode cX0_step 40 = .ok (.aload_n 0, 1) := dk_42 (dk_at dksX0_step_1 18 rfl rfl)
theorem dX0_step_41 : decode cX0_step 41 = .ok (.iload_n 3, 1) := dk_29 (dk_at dksX0_step_1 19 rfl rfl)
theorem dX0_step_42 : decode cX0_step 42 = .ok (.invokevirtual 330, 3) := dk_182 1 74 (dk_at dksX0_step_1 20 rfl rfl)
theorem dX0_step_45 : decode cX0_step 45 = .ok (.istore 4, 2) := dk_54 4 (dk_at dksX0_step_2 0 rfl rfl)
theorem dX0_step_47 : decode cX0_step 47 = .ok (.aload_n 0, 1) := dk_42 (dk_at dksX0_step_2 2 rfl rfl)
theorem dX0_step_48 : decode cX0_step 48 = .ok (.iload_n 2, 1) := dk_28 (dk_at dksX0_step_2 3 rfl rfl)
theorem dX0_step_49 : decode cX0_step 49 = .ok (.invokevirtual 307, 3) := dk_182 1 51 (dk_at dksX0_step_2 4 rfl rfl)
theorem dX0_step_52 : decode cX0_step 52 = .ok (.aload_n 0, 1) := dk_42 (dk_at dksX0_step_2 7 rfl rfl)
theorem dX0_step_53 : decode cX0_step 53 = .ok (.getfield 64, 3) := dk_180 0 64 (dk_at dksX0_step_2 8 rfl rfl)
theorem dX0_step_56 : decode cX0_step 56 = .ok (.iload 4, 2) := dk_21 4 (dk_at dksX0_step_2 11 rfl rfl)
theorem dX0_step_58 : decode cX0_step 58 = .ok (.baload, 1) := dk_51 (dk_at dksX0_step_2 13 rfl rfl)
theorem dX0_step_59 : decode cX0_step 59 = .ok (.ifCond .eq 27, 3) := dk_153 0 27 (dk_at dksX0_step_2 14 rfl rfl)
theorem dX0_step_62 : decode cX0_step 62 = .ok (.aload_n 0, 1) := dk_42 (dk_at dksX0_step_2 17 rfl rfl)
theorem dX0_step_63 : decode cX0_step 63 = .ok (.getfield 52, 3) := dk_180 0 52 (dk_at dksX0_step_2 18 rfl rfl)
theorem dX0_step_66 : decode cX0_step 66 = .ok (.iload 4, 2) := dk_21 4 (dk_at dksX0_step_2 21 rfl rfl)
theorem dX0_step_68 : decode cX0_step 68 = .ok (.iaload, 1) := dk_46 (dk_at dksX0_step_2 23 rfl rfl)
theorem dX0_step_69 : decode cX0_step 69 = .ok (.aload_n 0, 1) := dk_42 (dk_at dksX0_step_3 0 rfl rfl)
theorem dX0_step_70 : decode cX0_step 70 = .ok (.getfield 52, 3) := dk_180 0 52 (dk_at dksX0_step_3 1 rfl rfl)
theorem dX0_step_73 : decode cX0_step 73 = .ok (.iload_n 2, 1) := dk_28 (dk_at dksX0_step_3 4 rfl rfl)
theorem dX0_step_74 : decode cX0_step 74 = .ok (.iaload, 1) := dk_46 (dk_at dksX0_step_3 5 rfl rfl)
theorem dX0_step_75 : decode cX0_step 75 = .ok (.aload_n 1, 1) := dk_43 (dk_at dksX0_step_3 6 rfl rfl)
theorem dX0_step_76 : decode cX0_step 76 = .ok (.iload_n 3, 1) := dk_29 (dk_at dksX0_step_3 7 rfl rfl)
theorem dX0_step_77 : decode cX0_step 77 = .ok (.invokevirtual 310, 3) := dk_182 1 54 (dk_at dksX0_step_3 8 rfl rfl)
theorem dX0_step_80 : decode cX0_step 80 = .ok (.iadd, 1) := dk_96 (dk_at dksX0_step_3 11 rfl rfl)
theorem dX0_step_81 : decode cX0_step 81 = .ok (.if_icmp .ne 5, 3) := dk_160 0 5 (dk_at dksX0_step_3 12 rfl rfl)
theorem dX0_step_84 : decode cX0_step 84 = .ok (.iload_n 3, 1) := dk_29 (dk_at dksX0_step_3 15 rfl rfl)
theorem dX0_step_85 : decode cX0_step 85 = .ok (.ireturn, 1) := dk_172 (dk_at dksX0_step_3 16 rfl rfl)
theorem dX0_step_86 : decode cX0_step 86 = .ok (.aload_n 0, 1) := dk_42 (dk_at dksX0_step_3 17 rfl rfl)
theorem dX0_step_87 : decode cX0_step 87 = .ok (.iload_n 3, 1) := dk_29 (dk_at dksX0_step_3 18 rfl rfl)
theorem dX0_step_88 : decode cX0_step 88 = .ok (.iconst 1, 1) := dk_4 (dk_at dksX0_step_3 19 rfl rfl)
theorem dX0_step_89 : decode cX0_step 89 = .ok (.iadd, 1) := dk_96 (dk_at dksX0_step_3 20 rfl rfl)
theorem dX0_step_90 : decode cX0_step 90 = .ok (.invokevirtual 281, 3) := dk_182 1 25 (dk_at dksX0_step_3 21 rfl rfl)
theorem dX0_step_93 : decode cX0_step 93 = .ok (.istore_n 3, 1) := dk_62 (dk_at dksX0_step_4 0 rfl rfl)
theorem dX0_step_94 : decode cX0_step 94 = .ok (.goto (-61), 3) := dk_167 255 195 (dk_at dksX0_step_4 1 rfl rfl)
theorem dX0_step_97 : decode cX0_step 97 = .ok (.iconst (-1), 1) := dk_2 (dk_at dksX0_step_4 4 rfl rfl)
theorem dX0_step_98 : decode cX0_step 98 = .ok (.ireturn, 1) := dk_172 (dk_at dksX0_step_4 5 rfl rfl)

theorem okX0_step : wOkV yX0_step cX0_step 5 (some .int) 1 := ⟨q937, qs47, q136, q938, by decide, by decide, by decide +kernel⟩
def gbX0_step_33 (N : Nat) (b1 : Nat) (x2_ : Int32) (K : (wMem → Option (Int32 × wMem))) (rec : (Int32 → wMem → Option (Int32 × wMem))) (x3_ : Int32) (μ : wMem) : Option (Int32 × wMem) :=
  if (200 : Int32) < x3_ then K  μ else wBind (fX0_nextBy N  x3_ μ) fun v14 μ13 => wBindV (fX0_be N  x2_ μ13) fun μ16 => wG (ok_in v14 100352) (wLet (fun  (μ18 : wMem) => wBind (fX0_nextAct N  (x3_ + (1 : Int32)) μ18) fun v21 μ20 => rec v21 μ20) fun Jstep86 => if (μ16.1 14 (Int32.toNatClampNeg v14)) = 0 then Jstep86  μ16 else wG (ok_in v14 100352) (wG (ok_in x2_ 100352) (wBind (fX_of N b1 x3_ μ16) fun v27 μ26 => if (μ16.1 10 (Int32.toNatClampNeg v14)) = ((μ16.1 10 (Int32.toNatClampNeg x2_)) + v27) then some (x3_, μ26) else Jstep86  μ26)))
def gX0_step_33 (N : Nat) (b1 : Nat) (x2_ : Int32) (K : (wMem → Option (Int32 × wMem))) : Nat → (Int32 → wMem → Option (Int32 × wMem))
  | 0 => fun _ _ => none
  | k + 1 => gbX0_step_33 N b1 x2_ K (gX0_step_33 N b1 x2_ K k)
set_option maxHeartbeats 4000000 in
set_option maxRecDepth 100000 in
theorem tX0_step_33 {p : Program} {l : Launch} {e : Env} {s : State} {m : MethodId} {args : Array Value} {below : List Frame} {meth : Method} {c : Code} {D : va_G} {E : List wCell} {q : Nat → Nat} {ca : wCA} {A : Nat → Prop} (C : wC p ({ frames := 5, cells := 0, slots := 0, locals := 111 } : Room) s m args meth c cX0_step yX0_step.cls 5 (some .int) D vwCl (spX ++ E) q ca A) (N : Nat) (b1 : Nat)  (x2_ : Int32) (K : (wMem → Option (Int32 × wMem))) (r0 : (Int32 × wMem)) (hK : ∀  (μ : wMem), K  μ = some r0 → wJ p l e ({ frames := 5, cells := 0, slots := 0, locals := 111 } : Room) s m args below meth c 5 D vwCl (spX ++ E) q ca A (wQi ({ frames := 5, cells := 0, slots := 0, locals := 111 } : Room) D vwCl (spX ++ E) q ca below args s A r0) 0 0 μ 97 [] []) : ∀ (k : Nat) (x3_ : Int32) (μ : wMem), gX0_step_33 N b1 x2_ K k x3_ μ = some r0 → wJ p l e ({ frames := 5, cells := 0, slots := 0, locals := 111 } : Room) s m args below meth c 5 D vwCl (spX ++ E) q ca A (wQi ({ frames := 5, cells := 0, slots := 0, locals := 111 } : Room) D vwCl (spX ++ E) q ca below args s A r0) 0 0 μ 33 [(0, .ref (q 0)), (1, .ref (q b1)), (2, .int x2_), (3, .int x3_)] [] := by
  intro k
  induction k with
  | zero =>
    intro x3_ μ hf
    cases hf
  | succ k ih =>
    intro x3_ μ hf
    replace hf : gbX0_step_33 N b1 x2_ K (gX0_step_33 N b1 x2_ K k) x3_ μ = some r0 := hf
    unfold gbX0_step_33 at hf
    refine wr_iload_n 33 C dX0_step_33 3 rfl rfl ?_
    refine wr_sipush 34 C dX0_step_34 (v := 200) rfl ?_
    refine wr_icmp_gt 37 97 C dX0_step_37 (by decide) (fun c11 => ?_) (fun c11 => ?_)
    · replace hf := o_pos c11 hf
      refine wr_sub [] [] rfl ?_
      exact hK  μ hf
    · replace hf := o_neg c11 hf
      refine wr_aload_n 40 C dX0_step_40 0 rfl rfl ?_
      refine wr_iload_n 41 C dX0_step_41 3 rfl rfl ?_
      obtain ⟨v14, μ13, h12, hf⟩ := o_bind hf
      refine wr_Vi (kc1 := 0) (ks1 := 0) 42 [] C dX0_step_42 (tX0_nextBy l N   x3_ μ (v14, μ13) h12) okX0_nextBy q931 (b := 0) spX_0 rfl ⟨rfl, rfl, Nat.le_of_ble_eq_true rfl, Nat.le_of_ble_eq_true rfl, Nat.zero_le _, Nat.zero_le _⟩ (Nat.le_of_ble_eq_true rfl) rfl ?_
      refine wr_istore 45 [(4, .int v14), (0, .ref (q 0)), (1, .ref (q b1)), (2, .int x2_), (3, .int x3_)] C dX0_step_45 rfl (Nat.le_of_ble_eq_true rfl) rfl ?_
      refine wr_aload_n 47 C dX0_step_47 1 rfl rfl ?_
      refine wr_iload_n 48 C dX0_step_48 3 rfl rfl ?_
      obtain ⟨μ16, h15, hf⟩ := o_bindV hf
      refine wr_Vv (kc1 := 0) (ks1 := 0) 49 [] C dX0_step_49 (tX0_be l N   x2_ μ13 μ16 h15) okX0_be q885 (b := 0) spX_0 rfl ⟨rfl, rfl, Nat.le_of_ble_eq_true rfl, Nat.le_of_ble_eq_true rfl, Nat.zero_le _, Nat.zero_le _⟩ (Nat.le_of_ble_eq_true rfl) rfl ?_
      refine wr_aload_n 52 C dX0_step_52 1 rfl rfl ?_
      refine gespX_0_22_X0 53 C dX0_step_53 ?_
      refine wr_iload 56 C dX0_step_56 0 rfl ?_
      obtain ⟨g17, hf⟩ := o_g hf
      refine wr_zald 58 C dX0_step_58 spX_14 g17 ?_
      obtain ⟨Jstep86, eJstep86, hf⟩ := o_let hf
      have hJstep86 : ∀  (μ18 : wMem), Jstep86  μ18 = some r0 → wJ p l e ({ frames := 5, cells := 0, slots := 0, locals := 111 } : Room) s m args below meth c 5 D vwCl (spX ++ E) q ca A (wQi ({ frames := 5, cells := 0, slots := 0, locals := 111 } : Room) D vwCl (spX ++ E) q ca below args s A r0) 0 0 μ18 86 [(0, .ref (q 0)), (1, .ref (q b1)), (2, .int x2_), (3, .int x3_)] [] := by
        intro  μ18 hf
        rw [eJstep86] at hf
        refine wr_aload_n 86 C dX0_step_86 0 rfl rfl ?_
        refine wr_iload_n 87 C dX0_step_87 3 rfl rfl ?_
        refine wr_iconst 88 C dX0_step_88 (v := 1) rfl ?_
        refine wr_iadd 89 C dX0_step_89 ?_
        obtain ⟨v21, μ20, h19, hf⟩ := o_bind hf
        refine wr_Vi (kc1 := 0) (ks1 := 0) 90 [] C dX0_step_90 (tX0_nextAct l N   (x3_ + (1 : Int32)) μ18 (v21, μ20) h19) okX0_nextAct q834 (b := 0) spX_0 rfl ⟨rfl, rfl, Nat.le_of_ble_eq_true rfl, Nat.le_of_ble_eq_true rfl, Nat.zero_le _, Nat.zero_le _⟩ (Nat.le_of_ble_eq_true rfl) rfl ?_
        refine wr_istore_n 93 [(3, .int v21), (0, .ref (q 0)), (1, .ref (q b1)), (2, .int x2_)] C dX0_step_93 rfl rfl (Nat.le_of_ble_eq_true rfl) rfl ?_
        refine wr_goto 94 C dX0_step_94 (tgt := 33) (by decide) ?_
        refine wr_sub [(0, .ref (q 0)), (1, .ref (q b1)), (2, .int x2_), (3, .int v21)] [1, 2, 3, 0] rfl ?_
        exact ih v21 μ20 hf
      refine wr_if_eq 59 86 C dX0_step_59 (by decide) (fun c22 => ?_) (fun c22 => ?_)
      · replace hf := o_pos c22 hf
        refine wr_sub [(0, .ref (q 0)), (1, .ref (q b1)), (2, .int x2_), (3, .int x3_)] [1, 2, 3, 4] rfl ?_
        exact hJstep86  μ16 hf
      · replace hf := o_neg c22 hf
        refine wr_aload_n 62 C dX0_step_62 1 rfl rfl ?_
        refine gespX_0_16_X0 63 C dX0_step_63 ?_
        refine wr_iload 66 C dX0_step_66 0 rfl ?_
        obtain ⟨g23, hf⟩ := o_g hf
        refine wr_iald 68 C dX0_step_68 spX_10 g23 ?_
        refine wr_aload_n 69 C dX0_step_69 1 rfl rfl ?_
        refine gespX_0_16_X0 70 C dX0_step_70 ?_
        refine wr_iload_n 73 C dX0_step_73 3 rfl rfl ?_
        obtain ⟨g24, hf⟩ := o_g hf
        refine wr_iald 74 C dX0_step_74 spX_10 g24 ?_
        refine wr_aload_n 75 C dX0_step_75 2 rfl rfl ?_
        refine wr_iload_n 76 C dX0_step_76 4 rfl rfl ?_
        obtain ⟨v27, μ26, h25, hf⟩ := o_bind hf
        refine wr_by 77 N [.int (μ16.1 10 (Int32.toNatClampNeg x2_)), .int (μ16.1 10 (Int32.toNatClampNeg v14))] C dX0_step_77 h25 ⟨Nat.le_of_ble_eq_true rfl, Nat.le_of_ble_eq_true rfl⟩ (Nat.le_of_ble_eq_true rfl) rfl ?_
        refine wr_iadd 80 C dX0_step_80 ?_
        refine wr_icmp_ne 81 86 C dX0_step_81 (by decide) (fun c28 => ?_) (fun c28 => ?_)
        · replace hf := o_neg c28 hf
          refine wr_sub [(0, .ref (q 0)), (1, .ref (q b1)), (2, .int x2_), (3, .int x3_)] [1, 2, 3, 4] rfl ?_
          exact hJstep86  μ26 hf
        · replace hf := o_pos c28 hf
          refine wr_iload_n 84 C dX0_step_84 4 rfl rfl ?_
          exact wr_iret 85 C dX0_step_85 ⟨Nat.zero_le _, Nat.zero_le _⟩ (Option.some.inj hf)
def fX0_step (N : Nat) (b1 : Nat)  (μ : wMem) : Option (Int32 × wMem) :=
  wBind (fX0_state N   μ) fun v3 μ2 => wBind (fX0_isEnd N   μ2) fun v6 μ5 => wLet (fun  (μ7 : wMem) => wBind (fX0_nextAct N  0 μ7) fun v10 μ9 => gX0_step_33 N b1 v3 (fun  (μ29 : wMem) => some ((-1), μ29)) N v10 μ9) fun Jstep27 => if v6 = 0 then Jstep27  μ5 else wG (ok_in v3 100352) (if (μ5.1 10 (Int32.toNatClampNeg v3)) = (μ5.1 0 23) then some ((-1), μ5) else Jstep27  μ5)
set_option maxHeartbeats 4000000 in
set_option maxRecDepth 100000 in
theorem tX0_step (l : Launch) {D : va_G} {E : List wCell} {q : Nat → Nat} {ca : wCA} (N : Nat) (b1 : Nat)   (μ : wMem) (r0 : (Int32 × wMem)) (hf : fX0_step N b1  μ = some r0) : wMi l yX0_step cX0_step 5 (some .int) ({ frames := 5, cells := 0, slots := 0, locals := 111 } : Room) D vwCl (spX ++ E) q ca [.ref (q 0), .ref (q b1)] μ r0 := by
  refine wMi_intro (by decide) (Nat.le_of_ble_eq_true rfl) ?_
  intro p e s m args below meth c A C
  unfold fX0_step at hf
  refine wr_sub [(0, .ref (q 0)), (1, .ref (q b1))] [0, 1] rfl ?_
  refine wr_aload_n 0 C dX0_step_0 0 rfl rfl ?_
  obtain ⟨v3, μ2, h1, hf⟩ := o_bind hf
  refine wr_Vi (kc1 := 0) (ks1 := 0) 1 [] C dX0_step_1 (tX0_state l N    μ (v3, μ2) h1) okX0_state q865 (b := 0) spX_0 rfl ⟨rfl, rfl, Nat.le_of_ble_eq_true rfl, Nat.le_of_ble_eq_true rfl, Nat.zero_le _, Nat.zero_le _⟩ (Nat.le_of_ble_eq_true rfl) rfl ?_
  refine wr_istore_n 4 [(2, .int v3), (0, .ref (q 0)), (1, .ref (q b1))] C dX0_step_4 rfl rfl (Nat.le_of_ble_eq_true rfl) rfl ?_
  refine wr_aload_n 5 C dX0_step_5 1 rfl rfl ?_
  obtain ⟨v6, μ5, h4, hf⟩ := o_bind hf
  refine wr_Vi (kc1 := 0) (ks1 := 0) 6 [] C dX0_step_6 (tX0_isEnd l N    μ2 (v6, μ5) h4) okX0_isEnd q908 (b := 0) spX_0 rfl ⟨rfl, rfl, Nat.le_of_ble_eq_true rfl, Nat.le_of_ble_eq_true rfl, Nat.zero_le _, Nat.zero_le _⟩ (Nat.le_of_ble_eq_true rfl) rfl ?_
  obtain ⟨Jstep27, eJstep27, hf⟩ := o_let hf
  have hJstep27 : ∀  (μ7 : wMem), Jstep27  μ7 = some r0 → wJ p l e ({ frames := 5, cells := 0, slots := 0, locals := 111 } : Room) s m args below meth c 5 D vwCl (spX ++ E) q ca A (wQi ({ frames := 5, cells := 0, slots := 0, locals := 111 } : Room) D vwCl (spX ++ E) q ca below args s A r0) 0 0 μ7 27 [(0, .ref (q 0)), (1, .ref (q b1)), (2, .int v3)] [] := by
    intro  μ7 hf
    rw [eJstep27] at hf
    refine wr_aload_n 27 C dX0_step_27 0 rfl rfl ?_
    refine wr_iconst 28 C dX0_step_28 (v := 0) rfl ?_
    obtain ⟨v10, μ9, h8, hf⟩ := o_bind hf
    refine wr_Vi (kc1 := 0) (ks1 := 0) 29 [] C dX0_step_29 (tX0_nextAct l N   0 μ7 (v10, μ9) h8) okX0_nextAct q834 (b := 0) spX_0 rfl ⟨rfl, rfl, Nat.le_of_ble_eq_true rfl, Nat.le_of_ble_eq_true rfl, Nat.zero_le _, Nat.zero_le _⟩ (Nat.le_of_ble_eq_true rfl) rfl ?_
    refine wr_istore_n 32 [(3, .int v10), (0, .ref (q 0)), (1, .ref (q b1)), (2, .int v3)] C dX0_step_32 rfl rfl (Nat.le_of_ble_eq_true rfl) rfl ?_
    refine wr_sub [(0, .ref (q 0)), (1, .ref (q b1)), (2, .int v3), (3, .int v10)] [1, 2, 3, 0] rfl ?_
    refine tX0_step_33 C N b1  v3 _ r0 (fun  μ29 hf => ?_) N v10 μ9 hf
    · replace hf := hf
      refine wr_iconst 97 C dX0_step_97 (v := (-1)) rfl ?_
      exact wr_iret 98 C dX0_step_98 ⟨Nat.zero_le _, Nat.zero_le _⟩ (Option.some.inj hf)
  refine wr_if_eq 9 27 C dX0_step_9 (by decide) (fun c30 => ?_) (fun c30 => ?_)
  · replace hf := o_pos c30 hf
    refine wr_sub [(0, .ref (q 0)), (1, .ref (q b1)), (2, .int v3)] [1, 2, 0] rfl ?_
    exact hJstep27  μ5 hf
  · replace hf := o_neg c30 hf
    refine wr_aload_n 12 C dX0_step_12 1 rfl rfl ?_
    refine gespX_0_16_X0 13 C dX0_step_13 ?_
    refine wr_iload_n 16 C dX0_step_16 0 rfl rfl ?_
    obtain ⟨g31, hf⟩ := o_g hf
    refine wr_iald 17 C dX0_step_17 spX_10 g31 ?_
    refine wr_aload_n 18 C dX0_step_18 1 rfl rfl ?_
    refine gespX_0_23_X0 19 C dX0_step_19 ?_
    refine wr_icmp_ne 22 27 C dX0_step_22 (by decide) (fun c32 => ?_) (fun c32 => ?_)
    · replace hf := o_neg c32 hf
      refine wr_sub [(0, .ref (q 0)), (1, .ref (q b1)), (2, .int v3)] [1, 2, 0] rfl ?_
      exact hJstep27  μ5 hf
    · replace hf := o_pos c32 hf
      refine wr_iconst 25 C dX0_step_25 (v := (-1)) rfl ?_
      exact wr_iret 26 C dX0_step_26 ⟨Nat.zero_le _, Nat.zero_le _⟩ (Option.some.inj hf)
abbrev cX0_rowAct : ByteArray := prog_1_method_62_code
def yX0_rowAct : MethodName := ⟨RX0, "rowAct", "(LOnePassport$Days;I)I"⟩
def dkwX0_rowAct_2 : List UInt8 := [132, 4, 1, 167, 255, 231, 29, 172]
abbrev dktX0_rowAct_2 : List UInt8 := dkwX0_rowAct_2 ++ []
def dkwX0_rowAct_1 : List UInt8 := [21, 4, 28, 162, 0, 25, 29, 2, 159, 0, 20, 42, 29, 182, 0, 243, 42, 43, 182, 1, 80, 62]
abbrev dktX0_rowAct_1 : List UInt8 := dkwX0_rowAct_1 ++ dktX0_rowAct_2
def dkwX0_rowAct_0 : List UInt8 := [42, 43, 182, 1, 77, 153, 0, 7, 28, 156, 0, 5, 2, 172, 42, 43, 182, 1, 80, 62, 3, 54, 4]
abbrev dktX0_rowAct_0 : List UInt8 := dkwX0_rowAct_0 ++ dktX0_rowAct_1
theorem dksX0_rowAct_0 : cX0_rowAct.data.toList.drop 0 = dktX0_rowAct_0 := by decide +kernel
theorem dksX0_rowAct_1 : cX0_rowAct.data.toList.drop 23 = dktX0_rowAct_1 := dk_seg dksX0_rowAct_0 23 rfl rfl
theorem dksX0_rowAct_2 : cX0_rowAct.data.toList.drop 45 = dktX0_rowAct_2 := dk_seg dksX0_rowAct_1 22 rfl rfl
theorem dX0_rowAct_0 : decode cX0_rowAct 0 = .ok (.aload_n 0, 1) := dk_42 (dk_at dksX0_rowAct_0 0 rfl rfl)
theorem dX0_rowAct_1 : decode cX0_rowAct 1 = .ok (.aload_n 1, 1) := dk_43 (dk_at dksX0_rowAct_0 1 rfl rfl)
theorem dX0_rowAct_2 : decode cX0_rowAct 2 = .ok (.invokevirtual 333, 3) := dk_182 1 77 (dk_at dksX0_rowAct_0 2 rfl rfl)
theorem dX0_rowAct_5 : decode cX0_rowAct 5 = .ok (.ifCond .eq 7, 3) := dk_153 0 7 (dk_at dksX0_rowAct_0 5 rfl rfl)
theorem dX0_rowAct_8 : decode cX0_rowAct 8 = .ok (.iload_n 2, 1) := dk_28 (dk_at dksX0_rowAct_0 8 rfl rfl)
theorem dX0_rowAct_9 : decode cX0_rowAct 9 = .ok (.ifCond .ge 5, 3) := dk_156 0 5 (dk_at dksX0_rowAct_0 9 rfl rfl)
theorem dX0_rowAct_12 : decode cX0_rowAct 12 = .ok (.iconst (-1), 1) := dk_2 (dk_at dksX0_rowAct_0 12 rfl rfl)
theorem dX0_rowAct_13 : decode cX0_rowAct 13 = .ok (.ireturn, 1) := dk_172 (dk_at dksX0_rowAct_0 13 rfl rfl)
theorem dX0_rowAct_14 : decode cX0_rowAct 14 = .ok (.aload_n 0, 1) := dk_42 (dk_at dksX0_rowAct_0 14 rfl rfl)
theorem dX0_rowAct_15 : decode cX0_rowAct 15 = .ok (.aload_n 1, 1) := dk_43 (dk_at dksX0_rowAct_0 15 rfl rfl)
theorem dX0_rowAct_16 : decode cX0_rowAct 16 = .ok (.invokevirtual 336, 3) := dk_182 1 80 (dk_at dksX0_rowAct_0 16 rfl rfl)
theorem dX0_rowAct_19 : decode cX0_rowAct 19 = .ok (.istore_n 3, 1) := dk_62 (dk_at dksX0_rowAct_0 19 rfl rfl)
theorem dX0_rowAct_20 : decode cX0_rowAct 20 = .ok (.iconst 0, 1) := dk_3 (dk_at dksX0_rowAct_0 20 rfl rfl)
theorem dX0_rowAct_21 : decode cX0_rowAct 21 = .ok (.istore 4, 2) := dk_54 4 (dk_at dksX0_rowAct_0 21 rfl rfl)
theorem dX0_rowAct_23 : decode cX0_rowAct 23 = .ok (.iload 4, 2) := dk_21 4 (dk_at dksX0_rowAct_1 0 rfl rfl)
theorem dX0_rowAct_25 : decode cX0_rowAct 25 = .ok (.iload_n 2, 1) := dk_28 (dk_at dksX0_rowAct_1 2 rfl rfl)
theorem dX0_rowAct_26 : decode cX0_rowAct 26 = .ok (.if_icmp .ge 25, 3) := dk_162 0 25 (dk_at dksX0_rowAct_1 3 rfl rfl)
theorem dX0_rowAct_29 : decode cX0_rowAct 29 = .ok (.iload_n 3, 1) := dk_29 (dk_at dksX0_rowAct_1 6 rfl rfl)
theorem dX0_rowAct_30 : decode cX0_rowAct 30 = .ok (.iconst (-1), 1) := dk_2 (dk_at dksX0_rowAct_1 7 rfl rfl)
theorem dX0_rowAct_31 : decode cX0_rowAct 31 = .ok (.if_icmp .eq 20, 3) := dk_159 0 20 (dk_at dksX0_rowAct_1 8 rfl rfl)
theorem dX0_rowAct_34 : decode cX0_rowAct 34 = .ok (.aload_n 0, 1) := dk_42 (dk_at dksX0_rowAct_1 11 rfl rfl)
theorem dX0_rowAct_35 : decode cX0_rowAct 35 = .ok (.iload_n 3, 1) := dk_29 (dk_at dksX0_rowAct_1 12 rfl rfl)
theorem dX0_rowAct_36 : decode cX0_rowAct 36 = .ok (.invokevirtual 243, 3) := dk_182 0 243 (dk_at dksX0_rowAct_1 13 rfl rfl)
theorem dX0_rowAct_39 : decode cX0_rowAct 39 = .ok (.aload_n 0, 1) := dk_42 (dk_at dksX0_rowAct_1 16 rfl rfl)
theorem dX0_rowAct_40 : decode cX0_rowAct 40 = .ok (.aload_n 1, 1) := dk_43 (dk_at dksX0_rowAct_1 17 rfl rfl)
theorem dX0_rowAct_41 : decode cX0_rowAct 41 = .ok (.invokevirtual 336, 3) := dk_182 1 80 (dk_at dksX0_rowAct_1 18 rfl rfl)
theorem dX0_rowAct_44 : decode cX0_rowAct 44 = .ok (.istore_n 3, 1) := dk_62 (dk_at dksX0_rowAct_1 21 rfl rfl)
theorem dX0_rowAct_45 : decode cX0_rowAct 45 = .ok (.iinc 4 1, 3) := dk_132 4 1 (dk_at dksX0_rowAct_2 0 rfl rfl)
theorem dX0_rowAct_48 : decode cX0_rowAct 48 = .ok (.goto (-25), 3) := dk_167 255 231 (dk_at dksX0_rowAct_2 3 rfl rfl)
theorem dX0_rowAct_51 : decode cX0_rowAct 51 = .ok (.iload_n 3, 1) := dk_29 (dk_at dksX0_rowAct_2 6 rfl rfl)
theorem dX0_rowAct_52 : decode cX0_rowAct 52 = .ok (.ireturn, 1) := dk_172 (dk_at dksX0_rowAct_2 7 rfl rfl)

theorem okX0_rowAct : wOkV yX0_rowAct cX0_rowAct 5 (some .int) 2 := ⟨q925, qs44, q136, q926, by decide, by decide, by decide +kernel⟩
def gbX0_rowAct_23 (N : Nat) (b1 : Nat) (x2_ : Int32) (K : (Int32 → wMem → Option (Int32 × wMem))) (rec : (Int32 → Int32 → wMem → Option (Int32 × wMem))) (x3_ : Int32) (x4_ : Int32) (μ : wMem) : Option (Int32 × wMem) :=
  if x2_ ≤ x4_ then K x3_ μ else if x3_ = (-1 : Int32) then K x3_ μ else wBindV (fX0_does N  x3_ μ) fun μ12 => wBind (fX0_step N b1  μ12) fun v15 μ14 => wLet (x4_ + 1 : Int32) fun x16 => rec v15 x16 μ14
def gX0_rowAct_23 (N : Nat) (b1 : Nat) (x2_ : Int32) (K : (Int32 → wMem → Option (Int32 × wMem))) : Nat → (Int32 → Int32 → wMem → Option (Int32 × wMem))
  | 0 => fun _ _ _ => none
  | k + 1 => gbX0_rowAct_23 N b1 x2_ K (gX0_rowAct_23 N b1 x2_ K k)
set_option maxHeartbeats 4000000 in
set_option maxRecDepth 100000 in
theorem tX0_rowAct_23 {p : Program} {l : Launch} {e : Env} {s : State} {m : MethodId} {args : Array Value} {below : List Frame} {meth : Method} {c : Code} {D : va_G} {E : List wCell} {q : Nat → Nat} {ca : wCA} {A : Nat → Prop} (C : wC p ({ frames := 8, cells := 0, slots := 0, locals := 181 } : Room) s m args meth c cX0_rowAct yX0_rowAct.cls 5 (some .int) D vwCl (spX ++ E) q ca A) (N : Nat) (b1 : Nat)  (x2_ : Int32) (K : (Int32 → wMem → Option (Int32 × wMem))) (r0 : (Int32 × wMem)) (hK : ∀ (y3_ : Int32) (μ : wMem), K y3_ μ = some r0 → wJ p l e ({ frames := 8, cells := 0, slots := 0, locals := 181 } : Room) s m args below meth c 5 D vwCl (spX ++ E) q ca A (wQi ({ frames := 8, cells := 0, slots := 0, locals := 181 } : Room) D vwCl (spX ++ E) q ca below args s A r0) 0 0 μ 51 [(3, .int y3_)] []) : ∀ (k : Nat) (x3_ : Int32) (x4_ : Int32) (μ : wMem), gX0_rowAct_23 N b1 x2_ K k x3_ x4_ μ = some r0 → wJ p l e ({ frames := 8, cells := 0, slots := 0, locals := 181 } : Room) s m args below meth c 5 D vwCl (spX ++ E) q ca A (wQi ({ frames := 8, cells := 0, slots := 0, locals := 181 } : Room) D vwCl (spX ++ E) q ca below args s A r0) 0 0 μ 23 [(0, .ref (q 0)), (1, .ref (q b1)), (2, .int x2_), (3, .int x3_), (4, .int x4_)] [] := by
  intro k
  induction k with
  | zero =>
    intro x3_ x4_ μ hf
    cases hf
  | succ k ih =>
    intro x3_ x4_ μ hf
    replace hf : gbX0_rowAct_23 N b1 x2_ K (gX0_rowAct_23 N b1 x2_ K k) x3_ x4_ μ = some r0 := hf
    unfold gbX0_rowAct_23 at hf
    refine wr_iload 23 C dX0_rowAct_23 4 rfl ?_
    refine wr_iload_n 25 C dX0_rowAct_25 2 rfl rfl ?_
    refine wr_icmp_ge 26 51 C dX0_rowAct_26 (by decide) (fun c9 => ?_) (fun c9 => ?_)
    · replace hf := o_pos c9 hf
      refine wr_sub [(3, .int x3_)] [3] rfl ?_
      exact hK x3_ μ hf
    · replace hf := o_neg c9 hf
      refine wr_iload_n 29 C dX0_rowAct_29 3 rfl rfl ?_
      refine wr_iconst 30 C dX0_rowAct_30 (v := (-1)) rfl ?_
      refine wr_icmp_eq 31 51 C dX0_rowAct_31 (by decide) (fun c10 => ?_) (fun c10 => ?_)
      · replace hf := o_pos c10 hf
        refine wr_sub [(3, .int x3_)] [3] rfl ?_
        exact hK x3_ μ hf
      · replace hf := o_neg c10 hf
        refine wr_aload_n 34 C dX0_rowAct_34 0 rfl rfl ?_
        refine wr_iload_n 35 C dX0_rowAct_35 3 rfl rfl ?_
        obtain ⟨μ12, h11, hf⟩ := o_bindV hf
        refine wr_Vv (kc1 := 0) (ks1 := 0) 36 [] C dX0_rowAct_36 (tX0_does l N   x3_ μ μ12 h11) okX0_does q755 (b := 0) spX_0 rfl ⟨rfl, rfl, Nat.le_of_ble_eq_true rfl, Nat.le_of_ble_eq_true rfl, Nat.zero_le _, Nat.zero_le _⟩ (Nat.le_of_ble_eq_true rfl) rfl ?_
        refine wr_aload_n 39 C dX0_rowAct_39 0 rfl rfl ?_
        refine wr_aload_n 40 C dX0_rowAct_40 1 rfl rfl ?_
        obtain ⟨v15, μ14, h13, hf⟩ := o_bind hf
        refine wr_Vi (kc1 := 0) (ks1 := 0) 41 [] C dX0_rowAct_41 (tX0_step l N b1   μ12 (v15, μ14) h13) okX0_step q935 (b := 0) spX_0 rfl ⟨rfl, rfl, Nat.le_of_ble_eq_true rfl, Nat.le_of_ble_eq_true rfl, Nat.zero_le _, Nat.zero_le _⟩ (Nat.le_of_ble_eq_true rfl) rfl ?_
        refine wr_istore_n 44 [(3, .int v15), (0, .ref (q 0)), (1, .ref (q b1)), (2, .int x2_), (4, .int x4_)] C dX0_rowAct_44 rfl rfl (Nat.le_of_ble_eq_true rfl) rfl ?_
        obtain ⟨x16, ex16, hf⟩ := o_let hf
        refine wr_iinc 45 [(4, .int x16), (3, .int v15), (0, .ref (q 0)), (1, .ref (q b1)), (2, .int x2_)] C dX0_rowAct_45 4 rfl (ex16.trans rfl) (Nat.le_of_ble_eq_true rfl) rfl ?_
        refine wr_goto 48 C dX0_rowAct_48 (tgt := 23) (by decide) ?_
        refine wr_sub [(0, .ref (q 0)), (1, .ref (q b1)), (2, .int x2_), (3, .int v15), (4, .int x16)] [2, 3, 4, 1, 0] rfl ?_
        exact ih v15 x16 μ14 hf
def fX0_rowAct (N : Nat) (b1 : Nat) (a2 : Int32) (μ : wMem) : Option (Int32 × wMem) :=
  wBind (fX0_marks N b1  μ) fun v3 μ2 => if v3 = 0 then some ((-1), μ2) else if 0 ≤ a2 then wBind (fX0_step N b1  μ2) fun v8 μ7 => gX0_rowAct_23 N b1 a2 (fun (x18 : Int32) (μ17 : wMem) => some (x18, μ17)) N v8 0 μ7 else some ((-1), μ2)
set_option maxHeartbeats 4000000 in
set_option maxRecDepth 100000 in
theorem tX0_rowAct (l : Launch) {D : va_G} {E : List wCell} {q : Nat → Nat} {ca : wCA} (N : Nat) (b1 : Nat)  (a2 : Int32) (μ : wMem) (r0 : (Int32 × wMem)) (hf : fX0_rowAct N b1 a2 μ = some r0) : wMi l yX0_rowAct cX0_rowAct 5 (some .int) ({ frames := 8, cells := 0, slots := 0, locals := 181 } : Room) D vwCl (spX ++ E) q ca [.ref (q 0), .ref (q b1), .int a2] μ r0 := by
  refine wMi_intro (by decide) (Nat.le_of_ble_eq_true rfl) ?_
  intro p e s m args below meth c A C
  unfold fX0_rowAct at hf
  refine wr_sub [(0, .ref (q 0)), (1, .ref (q b1)), (2, .int a2)] [0, 1, 2] rfl ?_
  refine wr_aload_n 0 C dX0_rowAct_0 0 rfl rfl ?_
  refine wr_aload_n 1 C dX0_rowAct_1 1 rfl rfl ?_
  obtain ⟨v3, μ2, h1, hf⟩ := o_bind hf
  refine wr_Vi (kc1 := 0) (ks1 := 0) 2 [] C dX0_rowAct_2 (tX0_marks l N b1   μ (v3, μ2) h1) okX0_marks q927 (b := 0) spX_0 rfl ⟨rfl, rfl, Nat.le_of_ble_eq_true rfl, Nat.le_of_ble_eq_true rfl, Nat.zero_le _, Nat.zero_le _⟩ (Nat.le_of_ble_eq_true rfl) rfl ?_
  refine wr_if_eq 5 12 C dX0_rowAct_5 (by decide) (fun c4 => ?_) (fun c4 => ?_)
  · replace hf := o_pos c4 hf
    refine wr_iconst 12 C dX0_rowAct_12 (v := (-1)) rfl ?_
    exact wr_iret 13 C dX0_rowAct_13 ⟨Nat.zero_le _, Nat.zero_le _⟩ (Option.some.inj hf)
  · replace hf := o_neg c4 hf
    refine wr_iload_n 8 C dX0_rowAct_8 2 rfl rfl ?_
    refine wr_if_ge 9 14 C dX0_rowAct_9 (by decide) (fun c5 => ?_) (fun c5 => ?_)
    · replace hf := o_pos c5 hf
      refine wr_aload_n 14 C dX0_rowAct_14 0 rfl rfl ?_
      refine wr_aload_n 15 C dX0_rowAct_15 1 rfl rfl ?_
      obtain ⟨v8, μ7, h6, hf⟩ := o_bind hf
      refine wr_Vi (kc1 := 0) (ks1 := 0) 16 [] C dX0_rowAct_16 (tX0_step l N b1   μ2 (v8, μ7) h6) okX0_step q935 (b := 0) spX_0 rfl ⟨rfl, rfl, Nat.le_of_ble_eq_true rfl, Nat.le_of_ble_eq_true rfl, Nat.zero_le _, Nat.zero_le _⟩ (Nat.le_of_ble_eq_true rfl) rfl ?_
      refine wr_istore_n 19 [(3, .int v8), (0, .ref (q 0)), (1, .ref (q b1)), (2, .int a2)] C dX0_rowAct_19 rfl rfl (Nat.le_of_ble_eq_true rfl) rfl ?_
      refine wr_iconst 20 C dX0_rowAct_20 (v := 0) rfl ?_
      refine wr_istore 21 [(4, .int 0), (3, .int v8), (0, .ref (q 0)), (1, .ref (q b1)), (2, .int a2)] C dX0_rowAct_21 rfl (Nat.le_of_ble_eq_true rfl) rfl ?_
      refine wr_sub [(0, .ref (q 0)), (1, .ref (q b1)), (2, .int a2), (3, .int v8), (4, .int 0)] [2, 3, 4, 1, 0] rfl ?_
      refine tX0_rowAct_23 C N b1  a2 _ r0 (fun x18 μ17 hf => ?_) N v8 0 μ7 hf
      · replace hf := hf
        refine wr_iload_n 51 C dX0_rowAct_51 0 rfl rfl ?_
        exact wr_iret 52 C dX0_rowAct_52 ⟨Nat.zero_le _, Nat.zero_le _⟩ (Option.some.inj hf)
    · replace hf := o_neg c5 hf
      refine wr_iconst 12 C dX0_rowAct_12 (v := (-1)) rfl ?_
      exact wr_iret 13 C dX0_rowAct_13 ⟨Nat.zero_le _, Nat.zero_le _⟩ (Option.some.inj hf)
abbrev cX0_plan : ByteArray := prog_1_method_65_code
def yX0_plan : MethodName := ⟨RX0, "plan", "(I)I"⟩
def dkwX0_plan_0 : List UInt8 := [42, 182, 0, 252, 153, 0, 15, 42, 42, 180, 0, 33, 27, 182, 1, 86, 167, 0, 5, 16, 254, 172]
abbrev dktX0_plan_0 : List UInt8 := dkwX0_plan_0 ++ []
theorem dksX0_plan_0 : cX0_plan.data.toList.drop 0 = dktX0_plan_0 := by decide +kernel
theorem dX0_plan_0 : decode cX0_plan 0 = .ok (.aload_n 0, 1) := dk_42 (dk_at dksX0_plan_0 0 rfl rfl)
theorem dX0_plan_1 : decode cX0_plan 1 = .ok (.invokevirtual 252, 3) := dk_182 0 252 (dk_at dksX0_plan_0 1 rfl rfl)
theorem dX0_plan_4 : decode cX0_plan 4 = .ok (.ifCond .eq 15, 3) := dk_153 0 15 (dk_at dksX0_plan_0 4 rfl rfl)
theorem dX0_plan_7 : decode cX0_plan 7 = .ok (.aload_n 0, 1) := dk_42 (dk_at dksX0_plan_0 7 rfl rfl)
theorem dX0_plan_8 : decode cX0_plan 8 = .ok (.aload_n 0, 1) := dk_42 (dk_at dksX0_plan_0 8 rfl rfl)
theorem dX0_plan_9 : decode cX0_plan 9 = .ok (.getfield 33, 3) := dk_180 0 33 (dk_at dksX0_plan_0 9 rfl rfl)
theorem dX0_plan_12 : decode cX0_plan 12 = .ok (.iload_n 1, 1) := dk_27 (dk_at dksX0_plan_0 12 rfl rfl)
theorem dX0_plan_13 : decode cX0_plan 13 = .ok (.invokevirtual 342, 3) := dk_182 1 86 (dk_at dksX0_plan_0 13 rfl rfl)
theorem dX0_plan_16 : decode cX0_plan 16 = .ok (.goto 5, 3) := dk_167 0 5 (dk_at dksX0_plan_0 16 rfl rfl)
theorem dX0_plan_19 : decode cX0_plan 19 = .ok (.bipush (-2), 2) := dk_16 254 (dk_at dksX0_plan_0 19 rfl rfl)
theorem dX0_plan_21 : decode cX0_plan 21 = .ok (.ireturn, 1) := dk_172 (dk_at dksX0_plan_0 21 rfl rfl)

theorem okX0_plan : wOkV yX0_plan cX0_plan 2 (some .int) 1 := ⟨q920, q921, q136, q922, by decide, by decide, by decide +kernel⟩
def fX0_plan (N : Nat)  (a1 : Int32) (μ : wMem) : Option (Int32 × wMem) :=
  wBind (fX0_isFamily N   μ) fun v3 μ2 => if v3 = 0 then some ((-2), μ2) else wBind (fX0_rowAct N 19 a1 μ2) fun v7 μ6 => some (v7, μ6)
set_option maxHeartbeats 4000000 in
set_option maxRecDepth 100000 in
theorem tX0_plan (l : Launch) {D : va_G} {E : List wCell} {q : Nat → Nat} {ca : wCA} (N : Nat)   (a1 : Int32) (μ : wMem) (r0 : (Int32 × wMem)) (hf : fX0_plan N  a1 μ = some r0) : wMi l yX0_plan cX0_plan 2 (some .int) ({ frames := 9, cells := 0, slots := 0, locals := 205 } : Room) D vwCl (spX ++ E) q ca [.ref (q 0), .int a1] μ r0 := by
  refine wMi_intro (by decide) (Nat.le_of_ble_eq_true rfl) ?_
  intro p e s m args below meth c A C
  unfold fX0_plan at hf
  refine wr_sub [(0, .ref (q 0)), (1, .int a1)] [0, 1] rfl ?_
  refine wr_aload_n 0 C dX0_plan_0 0 rfl rfl ?_
  obtain ⟨v3, μ2, h1, hf⟩ := o_bind hf
  refine wr_Vi (kc1 := 0) (ks1 := 0) 1 [] C dX0_plan_1 (tX0_isFamily l N    μ (v3, μ2) h1) okX0_isFamily q770 (b := 0) spX_0 rfl ⟨rfl, rfl, Nat.le_of_ble_eq_true rfl, Nat.le_of_ble_eq_true rfl, Nat.zero_le _, Nat.zero_le _⟩ (Nat.le_of_ble_eq_true rfl) rfl ?_
  refine wr_if_eq 4 19 C dX0_plan_4 (by decide) (fun c4 => ?_) (fun c4 => ?_)
  · replace hf := o_pos c4 hf
    refine wr_bipush 19 C dX0_plan_19 (v := (-2)) rfl ?_
    exact wr_iret 21 C dX0_plan_21 ⟨Nat.zero_le _, Nat.zero_le _⟩ (Option.some.inj hf)
  · replace hf := o_neg c4 hf
    refine wr_aload_n 7 C dX0_plan_7 0 rfl rfl ?_
    refine wr_aload_n 8 C dX0_plan_8 0 rfl rfl ?_
    refine gespX_0_13_X0 9 C dX0_plan_9 ?_
    refine wr_iload_n 12 C dX0_plan_12 1 rfl rfl ?_
    obtain ⟨v7, μ6, h5, hf⟩ := o_bind hf
    refine wr_Vi (kc1 := 0) (ks1 := 0) 13 [] C dX0_plan_13 (tX0_rowAct l N 19  a1 μ2 (v7, μ6) h5) okX0_rowAct q923 (b := 0) spX_0 rfl ⟨rfl, rfl, Nat.le_of_ble_eq_true rfl, Nat.le_of_ble_eq_true rfl, Nat.zero_le _, Nat.zero_le _⟩ (Nat.le_of_ble_eq_true rfl) rfl ?_
    refine wr_goto 16 C dX0_plan_16 (tgt := 21) (by decide) ?_
    exact wr_iret 21 C dX0_plan_21 ⟨Nat.zero_le _, Nat.zero_le _⟩ (Option.some.inj hf)
abbrev cX0_surestNow : ByteArray := prog_1_method_66_code
def yX0_surestNow : MethodName := ⟨RX0, "surestNow", "()I"⟩
def dkwX0_surestNow_1 : List UInt8 := [108, 172]
abbrev dktX0_surestNow_1 : List UInt8 := dkwX0_surestNow_1 ++ []
def dkwX0_surestNow_0 : List UInt8 := [42, 42, 180, 0, 40, 182, 1, 67, 60, 27, 19, 1, 35, 160, 0, 7, 2, 167, 0, 8, 27, 17, 3, 232]
abbrev dktX0_surestNow_0 : List UInt8 := dkwX0_surestNow_0 ++ dktX0_surestNow_1
theorem dksX0_surestNow_0 : cX0_surestNow.data.toList.drop 0 = dktX0_surestNow_0 := by decide +kernel
theorem dksX0_surestNow_1 : cX0_surestNow.data.toList.drop 24 = dktX0_surestNow_1 := dk_seg dksX0_surestNow_0 24 rfl rfl
theorem dX0_surestNow_0 : decode cX0_surestNow 0 = .ok (.aload_n 0, 1) := dk_42 (dk_at dksX0_surestNow_0 0 rfl rfl)
theorem dX0_surestNow_1 : decode cX0_surestNow 1 = .ok (.aload_n 0, 1) := dk_42 (dk_at dksX0_surestNow_0 1 rfl rfl)
theorem dX0_surestNow_2 : decode cX0_surestNow 2 = .ok (.getfield 40, 3) := dk_180 0 40 (dk_at dksX0_surestNow_0 2 rfl rfl)
theorem dX0_surestNow_5 : decode cX0_surestNow 5 = .ok (.invokevirtual 323, 3) := dk_182 1 67 (dk_at dksX0_surestNow_0 5 rfl rfl)
theorem dX0_surestNow_8 : decode cX0_surestNow 8 = .ok (.istore_n 1, 1) := dk_60 (dk_at dksX0_surestNow_0 8 rfl rfl)
theorem dX0_surestNow_9 : decode cX0_surestNow 9 = .ok (.iload_n 1, 1) := dk_27 (dk_at dksX0_surestNow_0 9 rfl rfl)
theorem dX0_surestNow_10 : decode cX0_surestNow 10 = .ok (.ldc_w 291, 3) := dk_19 1 35 (dk_at dksX0_surestNow_0 10 rfl rfl)
theorem dX0_surestNow_13 : decode cX0_surestNow 13 = .ok (.if_icmp .ne 7, 3) := dk_160 0 7 (dk_at dksX0_surestNow_0 13 rfl rfl)
theorem dX0_surestNow_16 : decode cX0_surestNow 16 = .ok (.iconst (-1), 1) := dk_2 (dk_at dksX0_surestNow_0 16 rfl rfl)
theorem dX0_surestNow_17 : decode cX0_surestNow 17 = .ok (.goto 8, 3) := dk_167 0 8 (dk_at dksX0_surestNow_0 17 rfl rfl)
theorem dX0_surestNow_20 : decode cX0_surestNow 20 = .ok (.iload_n 1, 1) := dk_27 (dk_at dksX0_surestNow_0 20 rfl rfl)
theorem dX0_surestNow_21 : decode cX0_surestNow 21 = .ok (.sipush 1000, 3) := dk_17 3 232 (dk_at dksX0_surestNow_0 21 rfl rfl)
theorem dX0_surestNow_24 : decode cX0_surestNow 24 = .ok (.idiv, 1) := dk_108 (dk_at dksX0_surestNow_1 0 rfl rfl)
theorem dX0_surestNow_25 : decode cX0_surestNow 25 = .ok (.ireturn, 1) := dk_172 (dk_at dksX0_surestNow_1 1 rfl rfl)
theorem gespX_0_14_X0 {p : Program} {l : Launch} {e : Env} {R : Room} {s : State} {m : MethodId} {args : Array Value} {below : List Frame} {meth : Method} {c : Code} {cc : ByteArray} {nL : Nat} {ret : Option FieldType} {D : va_G} {E : List wCell} {q : Nat → Nat} {ca : wCA} {A : Nat → Prop} {Q : State → Prop} {kc ks : Nat} {μ : wMem} {lv : List (Nat × Value)} {st : List Value} (pc : Nat) (C : wC p R s m args meth c cc "OnePassport" nL ret D vwCl (spX ++ E) q ca A) (hd : decode cc pc = .ok (.getfield 40, 3)) (k : wJ p l e R s m args below meth c nL D vwCl (spX ++ E) q ca A Q kc ks μ (pc + 3) lv (.ref (q 20) :: st)) : wJ p l e R s m args below meth c nL D vwCl (spX ++ E) q ca A Q kc ks μ pc lv (.ref (q 0) :: st) := wr_getR pc 14 C hd spX_0 rfl in_X0 (by decide) rfl q345 k
theorem okX0_surestNow : wOkV yX0_surestNow cX0_surestNow 2 (some .int) 0 := ⟨q945, qs48, q136, q946, by decide, by decide, by decide +kernel⟩
def fX0_surestNow (N : Nat)   (μ : wMem) : Option (Int32 × wMem) :=
  wBind (fX0_costNow N 20  μ) fun v3 μ2 => if v3 = (1000000000 : Int32) then some ((-1), μ2) else some (v3 / (1000 : Int32), μ2)
set_option maxHeartbeats 4000000 in
set_option maxRecDepth 100000 in
theorem tX0_surestNow (l : Launch) {D : va_G} {E : List wCell} {q : Nat → Nat} {ca : wCA} (N : Nat)    (μ : wMem) (r0 : (Int32 × wMem)) (hf : fX0_surestNow N   μ = some r0) : wMi l yX0_surestNow cX0_surestNow 2 (some .int) ({ frames := 7, cells := 0, slots := 0, locals := 155 } : Room) D vwCl (spX ++ E) q ca [.ref (q 0)] μ r0 := by
  refine wMi_intro (by decide) (Nat.le_of_ble_eq_true rfl) ?_
  intro p e s m args below meth c A C
  unfold fX0_surestNow at hf
  refine wr_sub [(0, .ref (q 0))] [0] rfl ?_
  refine wr_aload_n 0 C dX0_surestNow_0 0 rfl rfl ?_
  refine wr_aload_n 1 C dX0_surestNow_1 0 rfl rfl ?_
  refine gespX_0_14_X0 2 C dX0_surestNow_2 ?_
  obtain ⟨v3, μ2, h1, hf⟩ := o_bind hf
  refine wr_Vi (kc1 := 0) (ks1 := 0) 5 [] C dX0_surestNow_5 (tX0_costNow l N 20   μ (v3, μ2) h1) okX0_costNow q856 (b := 0) spX_0 rfl ⟨rfl, rfl, Nat.le_of_ble_eq_true rfl, Nat.le_of_ble_eq_true rfl, Nat.zero_le _, Nat.zero_le _⟩ (Nat.le_of_ble_eq_true rfl) rfl ?_
  refine wr_istore_n 8 [(1, .int v3), (0, .ref (q 0))] C dX0_surestNow_8 rfl rfl (Nat.le_of_ble_eq_true rfl) rfl ?_
  refine wr_iload_n 9 C dX0_surestNow_9 0 rfl rfl ?_
  refine wr_ldcw 10 C dX0_surestNow_10 q864 ?_
  refine wr_icmp_ne 13 20 C dX0_surestNow_13 (by decide) (fun c4 => ?_) (fun c4 => ?_)
  · replace hf := o_neg c4 hf
    refine wr_iload_n 20 C dX0_surestNow_20 0 rfl rfl ?_
    refine wr_sipush 21 C dX0_surestNow_21 (v := 1000) rfl ?_
    refine wr_idiv 24 C dX0_surestNow_24 (by decide) ?_
    exact wr_iret 25 C dX0_surestNow_25 ⟨Nat.zero_le _, Nat.zero_le _⟩ (Option.some.inj hf)
  · replace hf := o_pos c4 hf
    refine wr_iconst 16 C dX0_surestNow_16 (v := (-1)) rfl ?_
    refine wr_goto 17 C dX0_surestNow_17 (tgt := 25) (by decide) ?_
    exact wr_iret 25 C dX0_surestNow_25 ⟨Nat.zero_le _, Nat.zero_le _⟩ (Option.some.inj hf)
abbrev cX0_surest : ByteArray := prog_1_method_67_code
def yX0_surest : MethodName := ⟨RX0, "surest", "()I"⟩
def dkwX0_surest_0 : List UInt8 := [42, 182, 0, 252, 153, 0, 10, 42, 182, 1, 90, 167, 0, 5, 16, 254, 172]
abbrev dktX0_surest_0 : List UInt8 := dkwX0_surest_0 ++ []
theorem dksX0_surest_0 : cX0_surest.data.toList.drop 0 = dktX0_surest_0 := by decide +kernel
theorem dX0_surest_0 : decode cX0_surest 0 = .ok (.aload_n 0, 1) := dk_42 (dk_at dksX0_surest_0 0 rfl rfl)
theorem dX0_surest_1 : decode cX0_surest 1 = .ok (.invokevirtual 252, 3) := dk_182 0 252 (dk_at dksX0_surest_0 1 rfl rfl)
theorem dX0_surest_4 : decode cX0_surest 4 = .ok (.ifCond .eq 10, 3) := dk_153 0 10 (dk_at dksX0_surest_0 4 rfl rfl)
theorem dX0_surest_7 : decode cX0_surest 7 = .ok (.aload_n 0, 1) := dk_42 (dk_at dksX0_surest_0 7 rfl rfl)
theorem dX0_surest_8 : decode cX0_surest 8 = .ok (.invokevirtual 346, 3) := dk_182 1 90 (dk_at dksX0_surest_0 8 rfl rfl)
theorem dX0_surest_11 : decode cX0_surest 11 = .ok (.goto 5, 3) := dk_167 0 5 (dk_at dksX0_surest_0 11 rfl rfl)
theorem dX0_surest_14 : decode cX0_surest 14 = .ok (.bipush (-2), 2) := dk_16 254 (dk_at dksX0_surest_0 14 rfl rfl)
theorem dX0_surest_16 : decode cX0_surest 16 = .ok (.ireturn, 1) := dk_172 (dk_at dksX0_surest_0 16 rfl rfl)

theorem okX0_surest : wOkV yX0_surest cX0_surest 1 (some .int) 0 := ⟨q940, q941, q136, q942, by decide, by decide, by decide +kernel⟩
def fX0_surest (N : Nat)   (μ : wMem) : Option (Int32 × wMem) :=
  wBind (fX0_isFamily N   μ) fun v3 μ2 => if v3 = 0 then some ((-2), μ2) else wBind (fX0_surestNow N   μ2) fun v7 μ6 => some (v7, μ6)
set_option maxHeartbeats 4000000 in
set_option maxRecDepth 100000 in
theorem tX0_surest (l : Launch) {D : va_G} {E : List wCell} {q : Nat → Nat} {ca : wCA} (N : Nat)    (μ : wMem) (r0 : (Int32 × wMem)) (hf : fX0_surest N   μ = some r0) : wMi l yX0_surest cX0_surest 1 (some .int) ({ frames := 8, cells := 0, slots := 0, locals := 176 } : Room) D vwCl (spX ++ E) q ca [.ref (q 0)] μ r0 := by
  refine wMi_intro (by decide) (Nat.le_of_ble_eq_true rfl) ?_
  intro p e s m args below meth c A C
  unfold fX0_surest at hf
  refine wr_sub [(0, .ref (q 0))] [0] rfl ?_
  refine wr_aload_n 0 C dX0_surest_0 0 rfl rfl ?_
  obtain ⟨v3, μ2, h1, hf⟩ := o_bind hf
  refine wr_Vi (kc1 := 0) (ks1 := 0) 1 [] C dX0_surest_1 (tX0_isFamily l N    μ (v3, μ2) h1) okX0_isFamily q770 (b := 0) spX_0 rfl ⟨rfl, rfl, Nat.le_of_ble_eq_true rfl, Nat.le_of_ble_eq_true rfl, Nat.zero_le _, Nat.zero_le _⟩ (Nat.le_of_ble_eq_true rfl) rfl ?_
  refine wr_if_eq 4 14 C dX0_surest_4 (by decide) (fun c4 => ?_) (fun c4 => ?_)
  · replace hf := o_pos c4 hf
    refine wr_bipush 14 C dX0_surest_14 (v := (-2)) rfl ?_
    exact wr_iret 16 C dX0_surest_16 ⟨Nat.zero_le _, Nat.zero_le _⟩ (Option.some.inj hf)
  · replace hf := o_neg c4 hf
    refine wr_aload_n 7 C dX0_surest_7 0 rfl rfl ?_
    obtain ⟨v7, μ6, h5, hf⟩ := o_bind hf
    refine wr_Vi (kc1 := 0) (ks1 := 0) 8 [] C dX0_surest_8 (tX0_surestNow l N    μ2 (v7, μ6) h5) okX0_surestNow q943 (b := 0) spX_0 rfl ⟨rfl, rfl, Nat.le_of_ble_eq_true rfl, Nat.le_of_ble_eq_true rfl, Nat.zero_le _, Nat.zero_le _⟩ (Nat.le_of_ble_eq_true rfl) rfl ?_
    refine wr_goto 11 C dX0_surest_11 (tgt := 16) (by decide) ?_
    exact wr_iret 16 C dX0_surest_16 ⟨Nat.zero_le _, Nat.zero_le _⟩ (Option.some.inj hf)
abbrev cX0_surely : ByteArray := prog_1_method_68_code
def yX0_surely : MethodName := ⟨RX0, "surely", "(I)I"⟩
def dkwX0_surely_0 : List UInt8 := [42, 182, 0, 252, 153, 0, 15, 42, 42, 180, 0, 40, 27, 182, 1, 86, 167, 0, 5, 16, 254, 172]
abbrev dktX0_surely_0 : List UInt8 := dkwX0_surely_0 ++ []
theorem dksX0_surely_0 : cX0_surely.data.toList.drop 0 = dktX0_surely_0 := by decide +kernel
theorem dX0_surely_0 : decode cX0_surely 0 = .ok (.aload_n 0, 1) := dk_42 (dk_at dksX0_surely_0 0 rfl rfl)
theorem dX0_surely_1 : decode cX0_surely 1 = .ok (.invokevirtual 252, 3) := dk_182 0 252 (dk_at dksX0_surely_0 1 rfl rfl)
theorem dX0_surely_4 : decode cX0_surely 4 = .ok (.ifCond .eq 15, 3) := dk_153 0 15 (dk_at dksX0_surely_0 4 rfl rfl)
theorem dX0_surely_7 : decode cX0_surely 7 = .ok (.aload_n 0, 1) := dk_42 (dk_at dksX0_surely_0 7 rfl rfl)
theorem dX0_surely_8 : decode cX0_surely 8 = .ok (.aload_n 0, 1) := dk_42 (dk_at dksX0_surely_0 8 rfl rfl)
theorem dX0_surely_9 : decode cX0_surely 9 = .ok (.getfield 40, 3) := dk_180 0 40 (dk_at dksX0_surely_0 9 rfl rfl)
theorem dX0_surely_12 : decode cX0_surely 12 = .ok (.iload_n 1, 1) := dk_27 (dk_at dksX0_surely_0 12 rfl rfl)
theorem dX0_surely_13 : decode cX0_surely 13 = .ok (.invokevirtual 342, 3) := dk_182 1 86 (dk_at dksX0_surely_0 13 rfl rfl)
theorem dX0_surely_16 : decode cX0_surely 16 = .ok (.goto 5, 3) := dk_167 0 5 (dk_at dksX0_surely_0 16 rfl rfl)
theorem dX0_surely_19 : decode cX0_surely 19 = .ok (.bipush (-2), 2) := dk_16 254 (dk_at dksX0_surely_0 19 rfl rfl)
theorem dX0_surely_21 : decode cX0_surely 21 = .ok (.ireturn, 1) := dk_172 (dk_at dksX0_surely_0 21 rfl rfl)

theorem okX0_surely : wOkV yX0_surely cX0_surely 2 (some .int) 1 := ⟨q948, q949, q136, q950, by decide, by decide, by decide +kernel⟩
def fX0_surely (N : Nat)  (a1 : Int32) (μ : wMem) : Option (Int32 × wMem) :=
  wBind (fX0_isFamily N   μ) fun v3 μ2 => if v3 = 0 then some ((-2), μ2) else wBind (fX0_rowAct N 20 a1 μ2) fun v7 μ6 => some (v7, μ6)
set_option maxHeartbeats 4000000 in
set_option maxRecDepth 100000 in
theorem tX0_surely (l : Launch) {D : va_G} {E : List wCell} {q : Nat → Nat} {ca : wCA} (N : Nat)   (a1 : Int32) (μ : wMem) (r0 : (Int32 × wMem)) (hf : fX0_surely N  a1 μ = some r0) : wMi l yX0_surely cX0_surely 2 (some .int) ({ frames := 9, cells := 0, slots := 0, locals := 205 } : Room) D vwCl (spX ++ E) q ca [.ref (q 0), .int a1] μ r0 := by
  refine wMi_intro (by decide) (Nat.le_of_ble_eq_true rfl) ?_
  intro p e s m args below meth c A C
  unfold fX0_surely at hf
  refine wr_sub [(0, .ref (q 0)), (1, .int a1)] [0, 1] rfl ?_
  refine wr_aload_n 0 C dX0_surely_0 0 rfl rfl ?_
  obtain ⟨v3, μ2, h1, hf⟩ := o_bind hf
  refine wr_Vi (kc1 := 0) (ks1 := 0) 1 [] C dX0_surely_1 (tX0_isFamily l N    μ (v3, μ2) h1) okX0_isFamily q770 (b := 0) spX_0 rfl ⟨rfl, rfl, Nat.le_of_ble_eq_true rfl, Nat.le_of_ble_eq_true rfl, Nat.zero_le _, Nat.zero_le _⟩ (Nat.le_of_ble_eq_true rfl) rfl ?_
  refine wr_if_eq 4 19 C dX0_surely_4 (by decide) (fun c4 => ?_) (fun c4 => ?_)
  · replace hf := o_pos c4 hf
    refine wr_bipush 19 C dX0_surely_19 (v := (-2)) rfl ?_
    exact wr_iret 21 C dX0_surely_21 ⟨Nat.zero_le _, Nat.zero_le _⟩ (Option.some.inj hf)
  · replace hf := o_neg c4 hf
    refine wr_aload_n 7 C dX0_surely_7 0 rfl rfl ?_
    refine wr_aload_n 8 C dX0_surely_8 0 rfl rfl ?_
    refine gespX_0_14_X0 9 C dX0_surely_9 ?_
    refine wr_iload_n 12 C dX0_surely_12 1 rfl rfl ?_
    obtain ⟨v7, μ6, h5, hf⟩ := o_bind hf
    refine wr_Vi (kc1 := 0) (ks1 := 0) 13 [] C dX0_surely_13 (tX0_rowAct l N 20  a1 μ2 (v7, μ6) h5) okX0_rowAct q923 (b := 0) spX_0 rfl ⟨rfl, rfl, Nat.le_of_ble_eq_true rfl, Nat.le_of_ble_eq_true rfl, Nat.zero_le _, Nat.zero_le _⟩ (Nat.le_of_ble_eq_true rfl) rfl ?_
    refine wr_goto 16 C dX0_surely_16 (tgt := 21) (by decide) ?_
    exact wr_iret 21 C dX0_surely_21 ⟨Nat.zero_le _, Nat.zero_le _⟩ (Option.some.inj hf)
abbrev cX0_slowly : ByteArray := prog_1_method_69_code
def yX0_slowly : MethodName := ⟨RX0, "slowly", "()I"⟩
def dkwX0_slowly_1 : List UInt8 := [160, 0, 7, 2, 167, 0, 8, 27, 17, 3, 232, 112, 172]
abbrev dktX0_slowly_1 : List UInt8 := dkwX0_slowly_1 ++ []
def dkwX0_slowly_0 : List UInt8 := [42, 182, 0, 252, 154, 0, 6, 16, 254, 172, 42, 42, 180, 0, 40, 182, 1, 67, 60, 27, 19, 1, 35]
abbrev dktX0_slowly_0 : List UInt8 := dkwX0_slowly_0 ++ dktX0_slowly_1
theorem dksX0_slowly_0 : cX0_slowly.data.toList.drop 0 = dktX0_slowly_0 := by decide +kernel
theorem dksX0_slowly_1 : cX0_slowly.data.toList.drop 23 = dktX0_slowly_1 := dk_seg dksX0_slowly_0 23 rfl rfl
theorem dX0_slowly_0 : decode cX0_slowly 0 = .ok (.aload_n 0, 1) := dk_42 (dk_at dksX0_slowly_0 0 rfl rfl)
theorem dX0_slowly_1 : decode cX0_slowly 1 = .ok (.invokevirtual 252, 3) := dk_182 0 252 (dk_at dksX0_slowly_0 1 rfl rfl)
theorem dX0_slowly_4 : decode cX0_slowly 4 = .ok (.ifCond .ne 6, 3) := dk_154 0 6 (dk_at dksX0_slowly_0 4 rfl rfl)
theorem dX0_slowly_7 : decode cX0_slowly 7 = .ok (.bipush (-2), 2) := dk_16 254 (dk_at dksX0_slowly_0 7 rfl rfl)
theorem dX0_slowly_9 : decode cX0_slowly 9 = .ok (.ireturn, 1) := dk_172 (dk_at dksX0_slowly_0 9 rfl rfl)
theorem dX0_slowly_10 : decode cX0_slowly 10 = .ok (.aload_n 0, 1) := dk_42 (dk_at dksX0_slowly_0 10 rfl rfl)
theorem dX0_slowly_11 : decode cX0_slowly 11 = .ok (.aload_n 0, 1) := dk_42 (dk_at dksX0_slowly_0 11 rfl rfl)
theorem dX0_slowly_12 : decode cX0_slowly 12 = .ok (.getfield 40, 3) := dk_180 0 40 (dk_at dksX0_slowly_0 12 rfl rfl)
theorem dX0_slowly_15 : decode cX0_slowly 15 = .ok (.invokevirtual 323, 3) := dk_182 1 67 (dk_at dksX0_slowly_0 15 rfl rfl)
theorem dX0_slowly_18 : decode cX0_slowly 18 = .ok (.istore_n 1, 1) := dk_60 (dk_at dksX0_slowly_0 18 rfl rfl)
theorem dX0_slowly_19 : decode cX0_slowly 19 = .ok (.iload_n 1, 1) := dk_27 (dk_at dksX0_slowly_0 19 rfl rfl)
theorem dX0_slowly_20 : decode cX0_slowly 20 = .ok (.ldc_w 291, 3) := dk_19 1 35 (dk_at dksX0_slowly_0 20 rfl rfl)
theorem dX0_slowly_23 : decode cX0_slowly 23 = .ok (.if_icmp .ne 7, 3) := dk_160 0 7 (dk_at dksX0_slowly_1 0 rfl rfl)
theorem dX0_slowly_26 : decode cX0_slowly 26 = .ok (.iconst (-1), 1) := dk_2 (dk_at dksX0_slowly_1 3 rfl rfl)
theorem dX0_slowly_27 : decode cX0_slowly 27 = .ok (.goto 8, 3) := dk_167 0 8 (dk_at dksX0_slowly_1 4 rfl rfl)
theorem dX0_slowly_30 : decode cX0_slowly 30 = .ok (.iload_n 1, 1) := dk_27 (dk_at dksX0_slowly_1 7 rfl rfl)
theorem dX0_slowly_31 : decode cX0_slowly 31 = .ok (.sipush 1000, 3) := dk_17 3 232 (dk_at dksX0_slowly_1 8 rfl rfl)
theorem dX0_slowly_34 : decode cX0_slowly 34 = .ok (.irem, 1) := dk_112 (dk_at dksX0_slowly_1 11 rfl rfl)
theorem dX0_slowly_35 : decode cX0_slowly 35 = .ok (.ireturn, 1) := dk_172 (dk_at dksX0_slowly_1 12 rfl rfl)

theorem okX0_slowly : wOkV yX0_slowly cX0_slowly 2 (some .int) 0 := ⟨q952, q953, q136, q954, by decide, by decide, by decide +kernel⟩
def fX0_slowly (N : Nat)   (μ : wMem) : Option (Int32 × wMem) :=
  wBind (fX0_isFamily N   μ) fun v3 μ2 => if v3 = 0 then some ((-2), μ2) else wBind (fX0_costNow N 20  μ2) fun v7 μ6 => if v7 = (1000000000 : Int32) then some ((-1), μ6) else some (v7 - v7 / (1000 : Int32) * (1000 : Int32), μ6)
set_option maxHeartbeats 4000000 in
set_option maxRecDepth 100000 in
theorem tX0_slowly (l : Launch) {D : va_G} {E : List wCell} {q : Nat → Nat} {ca : wCA} (N : Nat)    (μ : wMem) (r0 : (Int32 × wMem)) (hf : fX0_slowly N   μ = some r0) : wMi l yX0_slowly cX0_slowly 2 (some .int) ({ frames := 7, cells := 0, slots := 0, locals := 155 } : Room) D vwCl (spX ++ E) q ca [.ref (q 0)] μ r0 := by
  refine wMi_intro (by decide) (Nat.le_of_ble_eq_true rfl) ?_
  intro p e s m args below meth c A C
  unfold fX0_slowly at hf
  refine wr_sub [(0, .ref (q 0))] [0] rfl ?_
  refine wr_aload_n 0 C dX0_slowly_0 0 rfl rfl ?_
  obtain ⟨v3, μ2, h1, hf⟩ := o_bind hf
  refine wr_Vi (kc1 := 0) (ks1 := 0) 1 [] C dX0_slowly_1 (tX0_isFamily l N    μ (v3, μ2) h1) okX0_isFamily q770 (b := 0) spX_0 rfl ⟨rfl, rfl, Nat.le_of_ble_eq_true rfl, Nat.le_of_ble_eq_true rfl, Nat.zero_le _, Nat.zero_le _⟩ (Nat.le_of_ble_eq_true rfl) rfl ?_
  refine wr_if_ne 4 10 C dX0_slowly_4 (by decide) (fun c4 => ?_) (fun c4 => ?_)
  · replace hf := o_neg c4 hf
    refine wr_aload_n 10 C dX0_slowly_10 0 rfl rfl ?_
    refine wr_aload_n 11 C dX0_slowly_11 0 rfl rfl ?_
    refine gespX_0_14_X0 12 C dX0_slowly_12 ?_
    obtain ⟨v7, μ6, h5, hf⟩ := o_bind hf
    refine wr_Vi (kc1 := 0) (ks1 := 0) 15 [] C dX0_slowly_15 (tX0_costNow l N 20   μ2 (v7, μ6) h5) okX0_costNow q856 (b := 0) spX_0 rfl ⟨rfl, rfl, Nat.le_of_ble_eq_true rfl, Nat.le_of_ble_eq_true rfl, Nat.zero_le _, Nat.zero_le _⟩ (Nat.le_of_ble_eq_true rfl) rfl ?_
    refine wr_istore_n 18 [(1, .int v7), (0, .ref (q 0))] C dX0_slowly_18 rfl rfl (Nat.le_of_ble_eq_true rfl) rfl ?_
    refine wr_iload_n 19 C dX0_slowly_19 0 rfl rfl ?_
    refine wr_ldcw 20 C dX0_slowly_20 q864 ?_
    refine wr_icmp_ne 23 30 C dX0_slowly_23 (by decide) (fun c8 => ?_) (fun c8 => ?_)
    · replace hf := o_neg c8 hf
      refine wr_iload_n 30 C dX0_slowly_30 0 rfl rfl ?_
      refine wr_sipush 31 C dX0_slowly_31 (v := 1000) rfl ?_
      refine wr_irem 34 C dX0_slowly_34 (by decide) ?_
      exact wr_iret 35 C dX0_slowly_35 ⟨Nat.zero_le _, Nat.zero_le _⟩ (Option.some.inj hf)
    · replace hf := o_pos c8 hf
      refine wr_iconst 26 C dX0_slowly_26 (v := (-1)) rfl ?_
      refine wr_goto 27 C dX0_slowly_27 (tgt := 35) (by decide) ?_
      exact wr_iret 35 C dX0_slowly_35 ⟨Nat.zero_le _, Nat.zero_le _⟩ (Option.some.inj hf)
  · replace hf := o_pos c4 hf
    refine wr_bipush 7 C dX0_slowly_7 (v := (-2)) rfl ?_
    exact wr_iret 9 C dX0_slowly_9 ⟨Nat.zero_le _, Nat.zero_le _⟩ (Option.some.inj hf)
abbrev cX0_crossings : ByteArray := prog_1_method_70_code
def yX0_crossings : MethodName := ⟨RX0, "crossings", "()I"⟩
def dkwX0_crossings_1 : List UInt8 := [160, 0, 7, 2, 167, 0, 8, 27, 17, 3, 232, 108, 172]
abbrev dktX0_crossings_1 : List UInt8 := dkwX0_crossings_1 ++ []
def dkwX0_crossings_0 : List UInt8 := [42, 182, 0, 252, 154, 0, 6, 16, 254, 172, 42, 42, 180, 0, 47, 182, 1, 67, 60, 27, 19, 1, 35]
abbrev dktX0_crossings_0 : List UInt8 := dkwX0_crossings_0 ++ dktX0_crossings_1
theorem dksX0_crossings_0 : cX0_crossings.data.toList.drop 0 = dktX0_crossings_0 := by decide +kernel
theorem dksX0_crossings_1 : cX0_crossings.data.toList.drop 23 = dktX0_crossings_1 := dk_seg dksX0_crossings_0 23 rfl rfl
theorem dX0_crossings_0 : decode cX0_crossings 0 = .ok (.aload_n 0, 1) := dk_42 (dk_at dksX0_crossings_0 0 rfl rfl)
theorem dX0_crossings_1 : decode cX0_crossings 1 = .ok (.invokevirtual 252, 3) := dk_182 0 252 (dk_at dksX0_crossings_0 1 rfl rfl)
theorem dX0_crossings_4 : decode cX0_crossings 4 = .ok (.ifCond .ne 6, 3) := dk_154 0 6 (dk_at dksX0_crossings_0 4 rfl rfl)
theorem dX0_crossings_7 : decode cX0_crossings 7 = .ok (.bipush (-2), 2) := dk_16 254 (dk_at dksX0_crossings_0 7 rfl rfl)
theorem dX0_crossings_9 : decode cX0_crossings 9 = .ok (.ireturn, 1) := dk_172 (dk_at dksX0_crossings_0 9 rfl rfl)
theorem dX0_crossings_10 : decode cX0_crossings 10 = .ok (.aload_n 0, 1) := dk_42 (dk_at dksX0_crossings_0 10 rfl rfl)
theorem dX0_crossings_11 : decode cX0_crossings 11 = .ok (.aload_n 0, 1) := dk_42 (dk_at dksX0_crossings_0 11 rfl rfl)
theorem dX0_crossings_12 : decode cX0_crossings 12 = .ok (.getfield 47, 3) := dk_180 0 47 (dk_at dksX0_crossings_0 12 rfl rfl)
theorem dX0_crossings_15 : decode cX0_crossings 15 = .ok (.invokevirtual 323, 3) := dk_182 1 67 (dk_at dksX0_crossings_0 15 rfl rfl)
theorem dX0_crossings_18 : decode cX0_crossings 18 = .ok (.istore_n 1, 1) := dk_60 (dk_at dksX0_crossings_0 18 rfl rfl)
theorem dX0_crossings_19 : decode cX0_crossings 19 = .ok (.iload_n 1, 1) := dk_27 (dk_at dksX0_crossings_0 19 rfl rfl)
theorem dX0_crossings_20 : decode cX0_crossings 20 = .ok (.ldc_w 291, 3) := dk_19 1 35 (dk_at dksX0_crossings_0 20 rfl rfl)
theorem dX0_crossings_23 : decode cX0_crossings 23 = .ok (.if_icmp .ne 7, 3) := dk_160 0 7 (dk_at dksX0_crossings_1 0 rfl rfl)
theorem dX0_crossings_26 : decode cX0_crossings 26 = .ok (.iconst (-1), 1) := dk_2 (dk_at dksX0_crossings_1 3 rfl rfl)
theorem dX0_crossings_27 : decode cX0_crossings 27 = .ok (.goto 8, 3) := dk_167 0 8 (dk_at dksX0_crossings_1 4 rfl rfl)
theorem dX0_crossings_30 : decode cX0_crossings 30 = .ok (.iload_n 1, 1) := dk_27 (dk_at dksX0_crossings_1 7 rfl rfl)
theorem dX0_crossings_31 : decode cX0_crossings 31 = .ok (.sipush 1000, 3) := dk_17 3 232 (dk_at dksX0_crossings_1 8 rfl rfl)
theorem dX0_crossings_34 : decode cX0_crossings 34 = .ok (.idiv, 1) := dk_108 (dk_at dksX0_crossings_1 11 rfl rfl)
theorem dX0_crossings_35 : decode cX0_crossings 35 = .ok (.ireturn, 1) := dk_172 (dk_at dksX0_crossings_1 12 rfl rfl)
theorem gespX_0_15_X0 {p : Program} {l : Launch} {e : Env} {R : Room} {s : State} {m : MethodId} {args : Array Value} {below : List Frame} {meth : Method} {c : Code} {cc : ByteArray} {nL : Nat} {ret : Option FieldType} {D : va_G} {E : List wCell} {q : Nat → Nat} {ca : wCA} {A : Nat → Prop} {Q : State → Prop} {kc ks : Nat} {μ : wMem} {lv : List (Nat × Value)} {st : List Value} (pc : Nat) (C : wC p R s m args meth c cc "OnePassport" nL ret D vwCl (spX ++ E) q ca A) (hd : decode cc pc = .ok (.getfield 47, 3)) (k : wJ p l e R s m args below meth c nL D vwCl (spX ++ E) q ca A Q kc ks μ (pc + 3) lv (.ref (q 21) :: st)) : wJ p l e R s m args below meth c nL D vwCl (spX ++ E) q ca A Q kc ks μ pc lv (.ref (q 0) :: st) := wr_getR pc 15 C hd spX_0 rfl in_X0 (by decide) rfl q346 k
theorem okX0_crossings : wOkV yX0_crossings cX0_crossings 2 (some .int) 0 := ⟨q956, q957, q136, q958, by decide, by decide, by decide +kernel⟩
def fX0_crossings (N : Nat)   (μ : wMem) : Option (Int32 × wMem) :=
  wBind (fX0_isFamily N   μ) fun v3 μ2 => if v3 = 0 then some ((-2), μ2) else wBind (fX0_costNow N 21  μ2) fun v7 μ6 => if v7 = (1000000000 : Int32) then some ((-1), μ6) else some (v7 / (1000 : Int32), μ6)
set_option maxHeartbeats 4000000 in
set_option maxRecDepth 100000 in
theorem tX0_crossings (l : Launch) {D : va_G} {E : List wCell} {q : Nat → Nat} {ca : wCA} (N : Nat)    (μ : wMem) (r0 : (Int32 × wMem)) (hf : fX0_crossings N   μ = some r0) : wMi l yX0_crossings cX0_crossings 2 (some .int) ({ frames := 7, cells := 0, slots := 0, locals := 155 } : Room) D vwCl (spX ++ E) q ca [.ref (q 0)] μ r0 := by
  refine wMi_intro (by decide) (Nat.le_of_ble_eq_true rfl) ?_
  intro p e s m args below meth c A C
  unfold fX0_crossings at hf
  refine wr_sub [(0, .ref (q 0))] [0] rfl ?_
  refine wr_aload_n 0 C dX0_crossings_0 0 rfl rfl ?_
  obtain ⟨v3, μ2, h1, hf⟩ := o_bind hf
  refine wr_Vi (kc1 := 0) (ks1 := 0) 1 [] C dX0_crossings_1 (tX0_isFamily l N    μ (v3, μ2) h1) okX0_isFamily q770 (b := 0) spX_0 rfl ⟨rfl, rfl, Nat.le_of_ble_eq_true rfl, Nat.le_of_ble_eq_true rfl, Nat.zero_le _, Nat.zero_le _⟩ (Nat.le_of_ble_eq_true rfl) rfl ?_
  refine wr_if_ne 4 10 C dX0_crossings_4 (by decide) (fun c4 => ?_) (fun c4 => ?_)
  · replace hf := o_neg c4 hf
    refine wr_aload_n 10 C dX0_crossings_10 0 rfl rfl ?_
    refine wr_aload_n 11 C dX0_crossings_11 0 rfl rfl ?_
    refine gespX_0_15_X0 12 C dX0_crossings_12 ?_
    obtain ⟨v7, μ6, h5, hf⟩ := o_bind hf
    refine wr_Vi (kc1 := 0) (ks1 := 0) 15 [] C dX0_crossings_15 (tX0_costNow l N 21   μ2 (v7, μ6) h5) okX0_costNow q856 (b := 0) spX_0 rfl ⟨rfl, rfl, Nat.le_of_ble_eq_true rfl, Nat.le_of_ble_eq_true rfl, Nat.zero_le _, Nat.zero_le _⟩ (Nat.le_of_ble_eq_true rfl) rfl ?_
    refine wr_istore_n 18 [(1, .int v7), (0, .ref (q 0))] C dX0_crossings_18 rfl rfl (Nat.le_of_ble_eq_true rfl) rfl ?_
    refine wr_iload_n 19 C dX0_crossings_19 0 rfl rfl ?_
    refine wr_ldcw 20 C dX0_crossings_20 q864 ?_
    refine wr_icmp_ne 23 30 C dX0_crossings_23 (by decide) (fun c8 => ?_) (fun c8 => ?_)
    · replace hf := o_neg c8 hf
      refine wr_iload_n 30 C dX0_crossings_30 0 rfl rfl ?_
      refine wr_sipush 31 C dX0_crossings_31 (v := 1000) rfl ?_
      refine wr_idiv 34 C dX0_crossings_34 (by decide) ?_
      exact wr_iret 35 C dX0_crossings_35 ⟨Nat.zero_le _, Nat.zero_le _⟩ (Option.some.inj hf)
    · replace hf := o_pos c8 hf
      refine wr_iconst 26 C dX0_crossings_26 (v := (-1)) rfl ?_
      refine wr_goto 27 C dX0_crossings_27 (tgt := 35) (by decide) ?_
      exact wr_iret 35 C dX0_crossings_35 ⟨Nat.zero_le _, Nat.zero_le _⟩ (Option.some.inj hf)
  · replace hf := o_pos c4 hf
    refine wr_bipush 7 C dX0_crossings_7 (v := (-2)) rfl ?_
    exact wr_iret 9 C dX0_crossings_9 ⟨Nat.zero_le _, Nat.zero_le _⟩ (Option.some.inj hf)
abbrev cX0_moves : ByteArray := prog_1_method_71_code
def yX0_moves : MethodName := ⟨RX0, "moves", "()I"⟩
def dkwX0_moves_1 : List UInt8 := [160, 0, 7, 2, 167, 0, 8, 27, 17, 3, 232, 112, 172]
abbrev dktX0_moves_1 : List UInt8 := dkwX0_moves_1 ++ []
def dkwX0_moves_0 : List UInt8 := [42, 182, 0, 252, 154, 0, 6, 16, 254, 172, 42, 42, 180, 0, 47, 182, 1, 67, 60, 27, 19, 1, 35]
abbrev dktX0_moves_0 : List UInt8 := dkwX0_moves_0 ++ dktX0_moves_1
theorem dksX0_moves_0 : cX0_moves.data.toList.drop 0 = dktX0_moves_0 := by decide +kernel
theorem dksX0_moves_1 : cX0_moves.data.toList.drop 23 = dktX0_moves_1 := dk_seg dksX0_moves_0 23 rfl rfl
theorem dX0_moves_0 : decode cX0_moves 0 = .ok (.aload_n 0, 1) := dk_42 (dk_at dksX0_moves_0 0 rfl rfl)
theorem dX0_moves_1 : decode cX0_moves 1 = .ok (.invokevirtual 252, 3) := dk_182 0 252 (dk_at dksX0_moves_0 1 rfl rfl)
theorem dX0_moves_4 : decode cX0_moves 4 = .ok (.ifCond .ne 6, 3) := dk_154 0 6 (dk_at dksX0_moves_0 4 rfl rfl)
theorem dX0_moves_7 : decode cX0_moves 7 = .ok (.bipush (-2), 2) := dk_16 254 (dk_at dksX0_moves_0 7 rfl rfl)
theorem dX0_moves_9 : decode cX0_moves 9 = .ok (.ireturn, 1) := dk_172 (dk_at dksX0_moves_0 9 rfl rfl)
theorem dX0_moves_10 : decode cX0_moves 10 = .ok (.aload_n 0, 1) := dk_42 (dk_at dksX0_moves_0 10 rfl rfl)
theorem dX0_moves_11 : decode cX0_moves 11 = .ok (.aload_n 0, 1) := dk_42 (dk_at dksX0_moves_0 11 rfl rfl)
theorem dX0_moves_12 : decode cX0_moves 12 = .ok (.getfield 47, 3) := dk_180 0 47 (dk_at dksX0_moves_0 12 rfl rfl)
theorem dX0_moves_15 : decode cX0_moves 15 = .ok (.invokevirtual 323, 3) := dk_182 1 67 (dk_at dksX0_moves_0 15 rfl rfl)
theorem dX0_moves_18 : decode cX0_moves 18 = .ok (.istore_n 1, 1) := dk_60 (dk_at dksX0_moves_0 18 rfl rfl)
theorem dX0_moves_19 : decode cX0_moves 19 = .ok (.iload_n 1, 1) := dk_27 (dk_at dksX0_moves_0 19 rfl rfl)
theorem dX0_moves_20 : decode cX0_moves 20 = .ok (.ldc_w 291, 3) := dk_19 1 35 (dk_at dksX0_moves_0 20 rfl rfl)
theorem dX0_moves_23 : decode cX0_moves 23 = .ok (.if_icmp .ne 7, 3) := dk_160 0 7 (dk_at dksX0_moves_1 0 rfl rfl)
theorem dX0_moves_26 : decode cX0_moves 26 = .ok (.iconst (-1), 1) := dk_2 (dk_at dksX0_moves_1 3 rfl rfl)
theorem dX0_moves_27 : decode cX0_moves 27 = .ok (.goto 8, 3) := dk_167 0 8 (dk_at dksX0_moves_1 4 rfl rfl)
theorem dX0_moves_30 : decode cX0_moves 30 = .ok (.iload_n 1, 1) := dk_27 (dk_at dksX0_moves_1 7 rfl rfl)
theorem dX0_moves_31 : decode cX0_moves 31 = .ok (.sipush 1000, 3) := dk_17 3 232 (dk_at dksX0_moves_1 8 rfl rfl)
theorem dX0_moves_34 : decode cX0_moves 34 = .ok (.irem, 1) := dk_112 (dk_at dksX0_moves_1 11 rfl rfl)
theorem dX0_moves_35 : decode cX0_moves 35 = .ok (.ireturn, 1) := dk_172 (dk_at dksX0_moves_1 12 rfl rfl)

theorem okX0_moves : wOkV yX0_moves cX0_moves 2 (some .int) 0 := ⟨q960, q961, q136, q962, by decide, by decide, by decide +kernel⟩
def fX0_moves (N : Nat)   (μ : wMem) : Option (Int32 × wMem) :=
  wBind (fX0_isFamily N   μ) fun v3 μ2 => if v3 = 0 then some ((-2), μ2) else wBind (fX0_costNow N 21  μ2) fun v7 μ6 => if v7 = (1000000000 : Int32) then some ((-1), μ6) else some (v7 - v7 / (1000 : Int32) * (1000 : Int32), μ6)
set_option maxHeartbeats 4000000 in
set_option maxRecDepth 100000 in
theorem tX0_moves (l : Launch) {D : va_G} {E : List wCell} {q : Nat → Nat} {ca : wCA} (N : Nat)    (μ : wMem) (r0 : (Int32 × wMem)) (hf : fX0_moves N   μ = some r0) : wMi l yX0_moves cX0_moves 2 (some .int) ({ frames := 7, cells := 0, slots := 0, locals := 155 } : Room) D vwCl (spX ++ E) q ca [.ref (q 0)] μ r0 := by
  refine wMi_intro (by decide) (Nat.le_of_ble_eq_true rfl) ?_
  intro p e s m args below meth c A C
  unfold fX0_moves at hf
  refine wr_sub [(0, .ref (q 0))] [0] rfl ?_
  refine wr_aload_n 0 C dX0_moves_0 0 rfl rfl ?_
  obtain ⟨v3, μ2, h1, hf⟩ := o_bind hf
  refine wr_Vi (kc1 := 0) (ks1 := 0) 1 [] C dX0_moves_1 (tX0_isFamily l N    μ (v3, μ2) h1) okX0_isFamily q770 (b := 0) spX_0 rfl ⟨rfl, rfl, Nat.le_of_ble_eq_true rfl, Nat.le_of_ble_eq_true rfl, Nat.zero_le _, Nat.zero_le _⟩ (Nat.le_of_ble_eq_true rfl) rfl ?_
  refine wr_if_ne 4 10 C dX0_moves_4 (by decide) (fun c4 => ?_) (fun c4 => ?_)
  · replace hf := o_neg c4 hf
    refine wr_aload_n 10 C dX0_moves_10 0 rfl rfl ?_
    refine wr_aload_n 11 C dX0_moves_11 0 rfl rfl ?_
    refine gespX_0_15_X0 12 C dX0_moves_12 ?_
    obtain ⟨v7, μ6, h5, hf⟩ := o_bind hf
    refine wr_Vi (kc1 := 0) (ks1 := 0) 15 [] C dX0_moves_15 (tX0_costNow l N 21   μ2 (v7, μ6) h5) okX0_costNow q856 (b := 0) spX_0 rfl ⟨rfl, rfl, Nat.le_of_ble_eq_true rfl, Nat.le_of_ble_eq_true rfl, Nat.zero_le _, Nat.zero_le _⟩ (Nat.le_of_ble_eq_true rfl) rfl ?_
    refine wr_istore_n 18 [(1, .int v7), (0, .ref (q 0))] C dX0_moves_18 rfl rfl (Nat.le_of_ble_eq_true rfl) rfl ?_
    refine wr_iload_n 19 C dX0_moves_19 0 rfl rfl ?_
    refine wr_ldcw 20 C dX0_moves_20 q864 ?_
    refine wr_icmp_ne 23 30 C dX0_moves_23 (by decide) (fun c8 => ?_) (fun c8 => ?_)
    · replace hf := o_neg c8 hf
      refine wr_iload_n 30 C dX0_moves_30 0 rfl rfl ?_
      refine wr_sipush 31 C dX0_moves_31 (v := 1000) rfl ?_
      refine wr_irem 34 C dX0_moves_34 (by decide) ?_
      exact wr_iret 35 C dX0_moves_35 ⟨Nat.zero_le _, Nat.zero_le _⟩ (Option.some.inj hf)
    · replace hf := o_pos c8 hf
      refine wr_iconst 26 C dX0_moves_26 (v := (-1)) rfl ?_
      refine wr_goto 27 C dX0_moves_27 (tgt := 35) (by decide) ?_
      exact wr_iret 35 C dX0_moves_35 ⟨Nat.zero_le _, Nat.zero_le _⟩ (Option.some.inj hf)
  · replace hf := o_pos c4 hf
    refine wr_bipush 7 C dX0_moves_7 (v := (-2)) rfl ?_
    exact wr_iret 9 C dX0_moves_9 ⟨Nat.zero_le _, Nat.zero_le _⟩ (Option.some.inj hf)
abbrev cX0_divisor : ByteArray := prog_1_method_72_code
def yX0_divisor : MethodName := ⟨RX0, "divisor", "(JJ)J"⟩
def dkwX0_divisor_1 : List UInt8 := [22, 8, 55, 6, 167, 255, 234, 22, 4, 173]
abbrev dktX0_divisor_1 : List UInt8 := dkwX0_divisor_1 ++ []
def dkwX0_divisor_0 : List UInt8 := [30, 55, 4, 32, 55, 6, 22, 6, 9, 148, 153, 0, 21, 22, 4, 22, 6, 113, 55, 8, 22, 6, 55, 4]
abbrev dktX0_divisor_0 : List UInt8 := dkwX0_divisor_0 ++ dktX0_divisor_1
theorem dksX0_divisor_0 : cX0_divisor.data.toList.drop 0 = dktX0_divisor_0 := by decide +kernel
theorem dksX0_divisor_1 : cX0_divisor.data.toList.drop 24 = dktX0_divisor_1 := dk_seg dksX0_divisor_0 24 rfl rfl
theorem dX0_divisor_0 : decode cX0_divisor 0 = .ok (.lload_n 0, 1) := dk_30 (dk_at dksX0_divisor_0 0 rfl rfl)
theorem dX0_divisor_1 : decode cX0_divisor 1 = .ok (.lstore 4, 2) := dk_55 4 (dk_at dksX0_divisor_0 1 rfl rfl)
theorem dX0_divisor_3 : decode cX0_divisor 3 = .ok (.lload_n 2, 1) := dk_32 (dk_at dksX0_divisor_0 3 rfl rfl)
theorem dX0_divisor_4 : decode cX0_divisor 4 = .ok (.lstore 6, 2) := dk_55 6 (dk_at dksX0_divisor_0 4 rfl rfl)
theorem dX0_divisor_6 : decode cX0_divisor 6 = .ok (.lload 6, 2) := dk_22 6 (dk_at dksX0_divisor_0 6 rfl rfl)
theorem dX0_divisor_8 : decode cX0_divisor 8 = .ok (.lconst 0, 1) := dk_9 (dk_at dksX0_divisor_0 8 rfl rfl)
theorem dX0_divisor_9 : decode cX0_divisor 9 = .ok (.lcmp, 1) := dk_148 (dk_at dksX0_divisor_0 9 rfl rfl)
theorem dX0_divisor_10 : decode cX0_divisor 10 = .ok (.ifCond .eq 21, 3) := dk_153 0 21 (dk_at dksX0_divisor_0 10 rfl rfl)
theorem dX0_divisor_13 : decode cX0_divisor 13 = .ok (.lload 4, 2) := dk_22 4 (dk_at dksX0_divisor_0 13 rfl rfl)
theorem dX0_divisor_15 : decode cX0_divisor 15 = .ok (.lload 6, 2) := dk_22 6 (dk_at dksX0_divisor_0 15 rfl rfl)
theorem dX0_divisor_17 : decode cX0_divisor 17 = .ok (.lrem, 1) := dk_113 (dk_at dksX0_divisor_0 17 rfl rfl)
theorem dX0_divisor_18 : decode cX0_divisor 18 = .ok (.lstore 8, 2) := dk_55 8 (dk_at dksX0_divisor_0 18 rfl rfl)
theorem dX0_divisor_20 : decode cX0_divisor 20 = .ok (.lload 6, 2) := dk_22 6 (dk_at dksX0_divisor_0 20 rfl rfl)
theorem dX0_divisor_22 : decode cX0_divisor 22 = .ok (.lstore 4, 2) := dk_55 4 (dk_at dksX0_divisor_0 22 rfl rfl)
theorem dX0_divisor_24 : decode cX0_divisor 24 = .ok (.lload 8, 2) := dk_22 8 (dk_at dksX0_divisor_1 0 rfl rfl)
theorem dX0_divisor_26 : decode cX0_divisor 26 = .ok (.lstore 6, 2) := dk_55 6 (dk_at dksX0_divisor_1 2 rfl rfl)
theorem dX0_divisor_28 : decode cX0_divisor 28 = .ok (.goto (-22), 3) := dk_167 255 234 (dk_at dksX0_divisor_1 4 rfl rfl)
theorem dX0_divisor_31 : decode cX0_divisor 31 = .ok (.lload 4, 2) := dk_22 4 (dk_at dksX0_divisor_1 7 rfl rfl)
theorem dX0_divisor_33 : decode cX0_divisor 33 = .ok (.lreturn, 1) := dk_173 (dk_at dksX0_divisor_1 9 rfl rfl)

theorem okX0_divisor : wOkS yX0_divisor cX0_divisor 10 (some .long) 2 := ⟨q971, q136, q972, by decide, by decide, by decide +kernel⟩
def gbX0_divisor_6 (N : Nat)   (K : (Int64 → wMem → Option (Int64 × wMem))) (rec : (Int64 → Int64 → wMem → Option (Int64 × wMem))) (x4_ : Int64) (x6_ : Int64) (μ : wMem) : Option (Int64 × wMem) :=
  if x6_ = (0 : Int64) then K x4_ μ else wG (ok_nzL x6_) (wLet (x4_ - x4_ / x6_ * x6_ : Int64) fun x3 => rec x6_ x3 μ)
def gX0_divisor_6 (N : Nat)   (K : (Int64 → wMem → Option (Int64 × wMem))) : Nat → (Int64 → Int64 → wMem → Option (Int64 × wMem))
  | 0 => fun _ _ _ => none
  | k + 1 => gbX0_divisor_6 N   K (gX0_divisor_6 N   K k)
set_option maxHeartbeats 4000000 in
set_option maxRecDepth 100000 in
theorem tX0_divisor_6 {p : Program} {l : Launch} {e : Env} {s : State} {m : MethodId} {args : Array Value} {below : List Frame} {meth : Method} {c : Code} {D : va_G} {E : List wCell} {q : Nat → Nat} {ca : wCA} {A : Nat → Prop} (C : wC p ({ frames := 0, cells := 0, slots := 0, locals := 0 } : Room) s m args meth c cX0_divisor yX0_divisor.cls 10 (some .long) D vwCl (spX ++ E) q ca A) (N : Nat)    (K : (Int64 → wMem → Option (Int64 × wMem))) (r0 : (Int64 × wMem)) (hK : ∀ (y4_ : Int64) (μ : wMem), K y4_ μ = some r0 → wJ p l e ({ frames := 0, cells := 0, slots := 0, locals := 0 } : Room) s m args below meth c 10 D vwCl (spX ++ E) q ca A (wQl ({ frames := 0, cells := 0, slots := 0, locals := 0 } : Room) D vwCl (spX ++ E) q ca below args s A r0) 0 0 μ 31 [(4, .long y4_)] []) : ∀ (k : Nat) (x4_ : Int64) (x6_ : Int64) (μ : wMem), gX0_divisor_6 N   K k x4_ x6_ μ = some r0 → wJ p l e ({ frames := 0, cells := 0, slots := 0, locals := 0 } : Room) s m args below meth c 10 D vwCl (spX ++ E) q ca A (wQl ({ frames := 0, cells := 0, slots := 0, locals := 0 } : Room) D vwCl (spX ++ E) q ca below args s A r0) 0 0 μ 6 [(4, .long x4_), (6, .long x6_)] [] := by
  intro k
  induction k with
  | zero =>
    intro x4_ x6_ μ hf
    cases hf
  | succ k ih =>
    intro x4_ x6_ μ hf
    replace hf : gbX0_divisor_6 N   K (gX0_divisor_6 N   K k) x4_ x6_ μ = some r0 := hf
    unfold gbX0_divisor_6 at hf
    refine wr_lload 6 C dX0_divisor_6 1 rfl ?_
    refine wr_lconst 8 C dX0_divisor_8 (v := 0) rfl ?_
    refine wr_lcmp_eq 9 31 C dX0_divisor_9 dX0_divisor_10 (by decide) (fun c1 => ?_) (fun c1 => ?_)
    · replace hf := o_pos c1 hf
      refine wr_sub [(4, .long x4_)] [0] rfl ?_
      exact hK x4_ μ hf
    · replace hf := o_neg c1 hf
      refine wr_lload 13 C dX0_divisor_13 0 rfl ?_
      refine wr_lload 15 C dX0_divisor_15 1 rfl ?_
      obtain ⟨g2, hf⟩ := o_g hf
      refine wr_lrem 17 C dX0_divisor_17 (ok_nzL_ne g2) ?_
      obtain ⟨x3, ex3, hf⟩ := o_let hf
      refine wr_lstore 18 [(8, .long x3), (4, .long x4_), (6, .long x6_)] C dX0_divisor_18 ex3 (Nat.le_of_ble_eq_true rfl) rfl ?_
      refine wr_lload 20 C dX0_divisor_20 2 rfl ?_
      refine wr_lstore 22 [(4, .long x6_), (8, .long x3), (6, .long x6_)] C dX0_divisor_22 rfl (Nat.le_of_ble_eq_true rfl) rfl ?_
      refine wr_lload 24 C dX0_divisor_24 1 rfl ?_
      refine wr_lstore 26 [(6, .long x3), (4, .long x6_), (8, .long x3)] C dX0_divisor_26 rfl (Nat.le_of_ble_eq_true rfl) rfl ?_
      refine wr_goto 28 C dX0_divisor_28 (tgt := 6) (by decide) ?_
      refine wr_sub [(4, .long x6_), (6, .long x3)] [1, 0] rfl ?_
      exact ih x6_ x3 μ hf
def fX0_divisor (N : Nat)  (a0 : Int64) (a2 : Int64) (μ : wMem) : Option (Int64 × wMem) :=
  gX0_divisor_6 N   (fun (x5 : Int64) (μ4 : wMem) => some (x5, μ4)) N a0 a2 μ
set_option maxHeartbeats 4000000 in
set_option maxRecDepth 100000 in
theorem tX0_divisor (l : Launch) {D : va_G} {E : List wCell} {q : Nat → Nat} {ca : wCA} (N : Nat)   (a0 : Int64) (a2 : Int64) (μ : wMem) (r0 : (Int64 × wMem)) (hf : fX0_divisor N  a0 a2 μ = some r0) : wMl l yX0_divisor cX0_divisor 10 (some .long) ({ frames := 0, cells := 0, slots := 0, locals := 0 } : Room) D vwCl (spX ++ E) q ca [.long a0, .long a2] μ r0 := by
  refine wMl_intro (by decide) (Nat.le_of_ble_eq_true rfl) ?_
  intro p e s m args below meth c A C
  unfold fX0_divisor at hf
  refine wr_sub [(0, .long a0), (2, .long a2)] [0, 1] rfl ?_
  refine wr_lload_n 0 C dX0_divisor_0 0 rfl rfl ?_
  refine wr_lstore 1 [(4, .long a0), (0, .long a0), (2, .long a2)] C dX0_divisor_1 rfl (Nat.le_of_ble_eq_true rfl) rfl ?_
  refine wr_lload_n 3 C dX0_divisor_3 2 rfl rfl ?_
  refine wr_lstore 4 [(6, .long a2), (4, .long a0), (0, .long a0), (2, .long a2)] C dX0_divisor_4 rfl (Nat.le_of_ble_eq_true rfl) rfl ?_
  refine wr_sub [(4, .long a0), (6, .long a2)] [1, 0] rfl ?_
  refine tX0_divisor_6 C N    _ r0 (fun x5 μ4 hf => ?_) N a0 a2 μ hf
  · replace hf := hf
    refine wr_lload 31 C dX0_divisor_31 0 rfl ?_
    exact wr_lret 33 C dX0_divisor_33 ⟨Nat.zero_le _, Nat.zero_le _⟩ (Option.some.inj hf)
