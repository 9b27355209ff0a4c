set_option maxRecDepth 100000
abbrev cX0_swaps : ByteArray := prog_1_method_52_code
def yX0_swaps : MethodName := ⟨RX0, "swaps", "(II)V"⟩
def dkwX0_swaps_2 : List UInt8 := [28, 79, 177]
abbrev dktX0_swaps_2 : List UInt8 := dkwX0_swaps_2 ++ []
def dkwX0_swaps_1 : List UInt8 := [29, 79, 42, 180, 0, 58, 42, 180, 0, 55, 27, 46, 27, 79, 42, 180, 0, 58, 42, 180, 0, 55, 28, 46]
abbrev dktX0_swaps_1 : List UInt8 := dkwX0_swaps_1 ++ dktX0_swaps_2
def dkwX0_swaps_0 : List UInt8 := [42, 180, 0, 55, 27, 46, 62, 42, 180, 0, 55, 27, 42, 180, 0, 55, 28, 46, 79, 42, 180, 0, 55, 28]
abbrev dktX0_swaps_0 : List UInt8 := dkwX0_swaps_0 ++ dktX0_swaps_1
theorem dksX0_swaps_0 : cX0_swaps.data.toList.drop 0 = dktX0_swaps_0 := by decide +kernel
theorem dksX0_swaps_1 : cX0_swaps.data.toList.drop 24 = dktX0_swaps_1 := dk_seg dksX0_swaps_0 24 rfl rfl
theorem dksX0_swaps_2 : cX0_swaps.data.toList.drop 48 = dktX0_swaps_2 := dk_seg dksX0_swaps_1 24 rfl rfl
theorem dX0_swaps_0 : decode cX0_swaps 0 = .ok (.aload_n 0, 1) := dk_42 (dk_at dksX0_swaps_0 0 rfl rfl)
theorem dX0_swaps_1 : decode cX0_swaps 1 = .ok (.getfield 55, 3) := dk_180 0 55 (dk_at dksX0_swaps_0 1 rfl rfl)
theorem dX0_swaps_4 : decode cX0_swaps 4 = .ok (.iload_n 1, 1) := dk_27 (dk_at dksX0_swaps_0 4 rfl rfl)
theorem dX0_swaps_5 : decode cX0_swaps 5 = .ok (.iaload, 1) := dk_46 (dk_at dksX0_swaps_0 5 rfl rfl)
theorem dX0_swaps_6 : decode cX0_swaps 6 = .ok (.istore_n 3, 1) := dk_62 (dk_at dksX0_swaps_0 6 rfl rfl)
theorem dX0_swaps_7 : decode cX0_swaps 7 = .ok (.aload_n 0, 1) := dk_42 (dk_at dksX0_swaps_0 7 rfl rfl)
theorem dX0_swaps_8 : decode cX0_swaps 8 = .ok (.getfield 55, 3) := dk_180 0 55 (dk_at dksX0_swaps_0 8 rfl rfl)
theorem dX0_swaps_11 : decode cX0_swaps 11 = .ok (.iload_n 1, 1) := dk_27 (dk_at dksX0_swaps_0 11 rfl rfl)
theorem dX0_swaps_12 : decode cX0_swaps 12 = .ok (.aload_n 0, 1) := dk_42 (dk_at dksX0_swaps_0 12 rfl rfl)
theorem dX0_swaps_13 : decode cX0_swaps 13 = .ok (.getfield 55, 3) := dk_180 0 55 (dk_at dksX0_swaps_0 13 rfl rfl)
theorem dX0_swaps_16 : decode cX0_swaps 16 = .ok (.iload_n 2, 1) := dk_28 (dk_at dksX0_swaps_0 16 rfl rfl)
theorem dX0_swaps_17 : decode cX0_swaps 17 = .ok (.iaload, 1) := dk_46 (dk_at dksX0_swaps_0 17 rfl rfl)
theorem dX0_swaps_18 : decode cX0_swaps 18 = .ok (.iastore, 1) := dk_79 (dk_at dksX0_swaps_0 18 rfl rfl)
theorem dX0_swaps_19 : decode cX0_swaps 19 = .ok (.aload_n 0, 1) := dk_42 (dk_at dksX0_swaps_0 19 rfl rfl)
theorem dX0_swaps_20 : decode cX0_swaps 20 = .ok (.getfield 55, 3) := dk_180 0 55 (dk_at dksX0_swaps_0 20 rfl rfl)
theorem dX0_swaps_23 : decode cX0_swaps 23 = .ok (.iload_n 2, 1) := dk_28 (dk_at dksX0_swaps_0 23 rfl rfl)
theorem dX0_swaps_24 : decode cX0_swaps 24 = .ok (.iload_n 3, 1) := dk_29 (dk_at dksX0_swaps_1 0 rfl rfl)
theorem dX0_swaps_25 : decode cX0_swaps 25 = .ok (.iastore, 1) := dk_79 (dk_at dksX0_swaps_1 1 rfl rfl)
theorem dX0_swaps_26 : decode cX0_swaps 26 = .ok (.aload_n 0, 1) := dk_42 (dk_at dksX0_swaps_1 2 rfl rfl)
theorem dX0_swaps_27 : decode cX0_swaps 27 = .ok (.getfield 58, 3) := dk_180 0 58 (dk_at dksX0_swaps_1 3 rfl rfl)
theorem dX0_swaps_30 : decode cX0_swaps 30 = .ok (.aload_n 0, 1) := dk_42 (dk_at dksX0_swaps_1 6 rfl rfl)
theorem dX0_swaps_31 : decode cX0_swaps 31 = .ok (.getfield 55, 3) := dk_180 0 55 (dk_at dksX0_swaps_1 7 rfl rfl)
theorem dX0_swaps_34 : decode cX0_swaps 34 = .ok (.iload_n 1, 1) := dk_27 (dk_at dksX0_swaps_1 10 rfl rfl)
theorem dX0_swaps_35 : decode cX0_swaps 35 = .ok (.iaload, 1) := dk_46 (dk_at dksX0_swaps_1 11 rfl rfl)
theorem dX0_swaps_36 : decode cX0_swaps 36 = .ok (.iload_n 1, 1) := dk_27 (dk_at dksX0_swaps_1 12 rfl rfl)
theorem dX0_swaps_37 : decode cX0_swaps 37 = .ok (.iastore, 1) := dk_79 (dk_at dksX0_swaps_1 13 rfl rfl)
theorem dX0_swaps_38 : decode cX0_swaps 38 = .ok (.aload_n 0, 1) := dk_42 (dk_at dksX0_swaps_1 14 rfl rfl)
theorem dX0_swaps_39 : decode cX0_swaps 39 = .ok (.getfield 58, 3) := dk_180 0 58 (dk_at dksX0_swaps_1 15 rfl rfl)
theorem dX0_swaps_42 : decode cX0_swaps 42 = .ok (.aload_n 0, 1) := dk_42 (dk_at dksX0_swaps_1 18 rfl rfl)
theorem dX0_swaps_43 : decode cX0_swaps 43 = .ok (.getfield 55, 3) := dk_180 0 55 (dk_at dksX0_swaps_1 19 rfl rfl)
theorem dX0_swaps_46 : decode cX0_swaps 46 = .ok (.iload_n 2, 1) := dk_28 (dk_at dksX0_swaps_1 22 rfl rfl)
theorem dX0_swaps_47 : decode cX0_swaps 47 = .ok (.iaload, 1) := dk_46 (dk_at dksX0_swaps_1 23 rfl rfl)
theorem dX0_swaps_48 : decode cX0_swaps 48 = .ok (.iload_n 2, 1) := dk_28 (dk_at dksX0_swaps_2 0 rfl rfl)
theorem dX0_swaps_49 : decode cX0_swaps 49 = .ok (.iastore, 1) := dk_79 (dk_at dksX0_swaps_2 1 rfl rfl)
theorem dX0_swaps_50 : decode cX0_swaps 50 = .ok (.return_, 1) := dk_177 (dk_at dksX0_swaps_2 2 rfl rfl)
theorem gespX_0_17_X0 {p : Program} {l : Launch} {e : Env} {R : Room} {s : State} {m : MethodId} {args : Array Value} {below : List Frame} {meth : Method} {c : Code} {cc : ByteArray} {nL : Nat} {ret : Option FieldType} {D : va_G} {E : List wCell} {q : Nat → Nat} {ca : wCA} {A : Nat → Prop} {Q : State → Prop} {kc ks : Nat} {μ : wMem} {lv : List (Nat × Value)} {st : List Value} (pc : Nat) (C : wC p R s m args meth c cc "OnePassport" nL ret D vwCl (spX ++ E) q ca A) (hd : decode cc pc = .ok (.getfield 55, 3)) (k : wJ p l e R s m args below meth c nL D vwCl (spX ++ E) q ca A Q kc ks μ (pc + 3) lv (.ref (q 11) :: st)) : wJ p l e R s m args below meth c nL D vwCl (spX ++ E) q ca A Q kc ks μ pc lv (.ref (q 0) :: st) := wr_getR pc 17 C hd spX_0 rfl in_X0 (by decide) rfl q348 k
theorem gespX_0_18_X0 {p : Program} {l : Launch} {e : Env} {R : Room} {s : State} {m : MethodId} {args : Array Value} {below : List Frame} {meth : Method} {c : Code} {cc : ByteArray} {nL : Nat} {ret : Option FieldType} {D : va_G} {E : List wCell} {q : Nat → Nat} {ca : wCA} {A : Nat → Prop} {Q : State → Prop} {kc ks : Nat} {μ : wMem} {lv : List (Nat × Value)} {st : List Value} (pc : Nat) (C : wC p R s m args meth c cc "OnePassport" nL ret D vwCl (spX ++ E) q ca A) (hd : decode cc pc = .ok (.getfield 58, 3)) (k : wJ p l e R s m args below meth c nL D vwCl (spX ++ E) q ca A Q kc ks μ (pc + 3) lv (.ref (q 12) :: st)) : wJ p l e R s m args below meth c nL D vwCl (spX ++ E) q ca A Q kc ks μ pc lv (.ref (q 0) :: st) := wr_getR pc 18 C hd spX_0 rfl in_X0 (by decide) rfl q349 k
theorem okX0_swaps : wOkV yX0_swaps cX0_swaps 4 none 2 := ⟨q879, qs38, q136, q880, by decide, by decide, by decide +kernel⟩
def fX0_swaps (N : Nat)  (a1 : Int32) (a2 : Int32) (μ : wMem) : Option wMem :=
  wG (ok_in a1 100352) (wLet (μ.1 11 (Int32.toNatClampNeg a1) : Int32) fun x2 => wG (ok_in a2 100352) (wG (ok_in a1 100352) (wLet (wSI μ 11 (Int32.toNatClampNeg a1) (μ.1 11 (Int32.toNatClampNeg a2))) fun μ5 => wG (ok_in a2 100352) (wLet (wSI μ5 11 (Int32.toNatClampNeg a2) x2) fun μ7 => wG (ok_in a1 100352) (wG (ok_in (μ7.1 11 (Int32.toNatClampNeg a1)) 100352) (wLet (wSI μ7 12 (Int32.toNatClampNeg (μ7.1 11 (Int32.toNatClampNeg a1))) a1) fun μ10 => wG (ok_in a2 100352) (wG (ok_in (μ10.1 11 (Int32.toNatClampNeg a2)) 100352) (wLet (wSI μ10 12 (Int32.toNatClampNeg (μ10.1 11 (Int32.toNatClampNeg a2))) a2) fun μ13 => some μ13))))))))
set_option maxHeartbeats 4000000 in
set_option maxRecDepth 100000 in
theorem tX0_swaps (l : Launch) {D : va_G} {E : List wCell} {q : Nat → Nat} {ca : wCA} (N : Nat)   (a1 : Int32) (a2 : Int32) (μ : wMem) (r0 : wMem) (hf : fX0_swaps N  a1 a2 μ = some r0) : wMv l yX0_swaps cX0_swaps 4 none ({ frames := 0, cells := 0, slots := 0, locals := 0 } : Room) D vwCl (spX ++ E) q ca [.ref (q 0), .int a1, .int a2] μ r0 := by
  refine wMv_intro (by decide) (Nat.le_of_ble_eq_true rfl) ?_
  intro p e s m args below meth c A C
  unfold fX0_swaps at hf
  refine wr_sub [(0, .ref (q 0)), (1, .int a1), (2, .int a2)] [0, 1, 2] rfl ?_
  refine wr_aload_n 0 C dX0_swaps_0 0 rfl rfl ?_
  refine gespX_0_17_X0 1 C dX0_swaps_1 ?_
  refine wr_iload_n 4 C dX0_swaps_4 1 rfl rfl ?_
  obtain ⟨g1, hf⟩ := o_g hf
  refine wr_iald 5 C dX0_swaps_5 spX_11 g1 ?_
  obtain ⟨x2, ex2, hf⟩ := o_let hf
  refine wr_istore_n 6 [(3, .int x2), (0, .ref (q 0)), (1, .int a1), (2, .int a2)] C dX0_swaps_6 ex2 rfl (Nat.le_of_ble_eq_true rfl) rfl ?_
  refine wr_aload_n 7 C dX0_swaps_7 1 rfl rfl ?_
  refine gespX_0_17_X0 8 C dX0_swaps_8 ?_
  refine wr_iload_n 11 C dX0_swaps_11 2 rfl rfl ?_
  refine wr_aload_n 12 C dX0_swaps_12 1 rfl rfl ?_
  refine gespX_0_17_X0 13 C dX0_swaps_13 ?_
  refine wr_iload_n 16 C dX0_swaps_16 3 rfl rfl ?_
  obtain ⟨g3, hf⟩ := o_g hf
  refine wr_iald 17 C dX0_swaps_17 spX_11 g3 ?_
  obtain ⟨g4, hf⟩ := o_g hf
  obtain ⟨μ5, eμ5, hf⟩ := o_let hf
  refine wr_iast 18 C dX0_swaps_18 spX_11 g4 eμ5 ?_
  refine wr_aload_n 19 C dX0_swaps_19 1 rfl rfl ?_
  refine gespX_0_17_X0 20 C dX0_swaps_20 ?_
  refine wr_iload_n 23 C dX0_swaps_23 3 rfl rfl ?_
  refine wr_iload_n 24 C dX0_swaps_24 0 rfl rfl ?_
  obtain ⟨g6, hf⟩ := o_g hf
  obtain ⟨μ7, eμ7, hf⟩ := o_let hf
  refine wr_iast 25 C dX0_swaps_25 spX_11 g6 eμ7 ?_
  refine wr_aload_n 26 C dX0_swaps_26 1 rfl rfl ?_
  refine gespX_0_18_X0 27 C dX0_swaps_27 ?_
  refine wr_aload_n 30 C dX0_swaps_30 1 rfl rfl ?_
  refine gespX_0_17_X0 31 C dX0_swaps_31 ?_
  refine wr_iload_n 34 C dX0_swaps_34 2 rfl rfl ?_
  obtain ⟨g8, hf⟩ := o_g hf
  refine wr_iald 35 C dX0_swaps_35 spX_11 g8 ?_
  refine wr_iload_n 36 C dX0_swaps_36 2 rfl rfl ?_
  obtain ⟨g9, hf⟩ := o_g hf
  obtain ⟨μ10, eμ10, hf⟩ := o_let hf
  refine wr_iast 37 C dX0_swaps_37 spX_12 g9 eμ10 ?_
  refine wr_aload_n 38 C dX0_swaps_38 1 rfl rfl ?_
  refine gespX_0_18_X0 39 C dX0_swaps_39 ?_
  refine wr_aload_n 42 C dX0_swaps_42 1 rfl rfl ?_
  refine gespX_0_17_X0 43 C dX0_swaps_43 ?_
  refine wr_iload_n 46 C dX0_swaps_46 3 rfl rfl ?_
  obtain ⟨g11, hf⟩ := o_g hf
  refine wr_iald 47 C dX0_swaps_47 spX_11 g11 ?_
  refine wr_iload_n 48 C dX0_swaps_48 3 rfl rfl ?_
  obtain ⟨g12, hf⟩ := o_g hf
  obtain ⟨μ13, eμ13, hf⟩ := o_let hf
  refine wr_iast 49 C dX0_swaps_49 spX_12 g12 eμ13 ?_
  exact wr_vret 50 C dX0_swaps_50 ⟨Nat.zero_le _, Nat.zero_le _⟩ (Option.some.inj hf)
abbrev cX0_rises : ByteArray := prog_1_method_53_code
def yX0_rises : MethodName := ⟨RX0, "rises", "(I)V"⟩
def dkwX0_rises_2 : List UInt8 := [4, 100, 5, 108, 61, 167, 255, 207, 177]
abbrev dktX0_rises_2 : List UInt8 := dkwX0_rises_2 ++ []
def dkwX0_rises_1 : List UInt8 := [180, 0, 55, 28, 4, 100, 5, 108, 46, 46, 162, 0, 22, 42, 28, 28, 4, 100, 5, 108, 182, 1, 28, 28]
abbrev dktX0_rises_1 : List UInt8 := dkwX0_rises_1 ++ dktX0_rises_2
def dkwX0_rises_0 : List UInt8 := [27, 61, 28, 158, 0, 51, 42, 180, 0, 52, 42, 180, 0, 55, 28, 46, 46, 42, 180, 0, 52, 42]
abbrev dktX0_rises_0 : List UInt8 := dkwX0_rises_0 ++ dktX0_rises_1
theorem dksX0_rises_0 : cX0_rises.data.toList.drop 0 = dktX0_rises_0 := by decide +kernel
theorem dksX0_rises_1 : cX0_rises.data.toList.drop 22 = dktX0_rises_1 := dk_seg dksX0_rises_0 22 rfl rfl
theorem dksX0_rises_2 : cX0_rises.data.toList.drop 46 = dktX0_rises_2 := dk_seg dksX0_rises_1 24 rfl rfl
theorem dX0_rises_0 : decode cX0_rises 0 = .ok (.iload_n 1, 1) := dk_27 (dk_at dksX0_rises_0 0 rfl rfl)
theorem dX0_rises_1 : decode cX0_rises 1 = .ok (.istore_n 2, 1) := dk_61 (dk_at dksX0_rises_0 1 rfl rfl)
theorem dX0_rises_2 : decode cX0_rises 2 = .ok (.iload_n 2, 1) := dk_28 (dk_at dksX0_rises_0 2 rfl rfl)
theorem dX0_rises_3 : decode cX0_rises 3 = .ok (.ifCond .le 51, 3) := dk_158 0 51 (dk_at dksX0_rises_0 3 rfl rfl)
theorem dX0_rises_6 : decode cX0_rises 6 = .ok (.aload_n 0, 1) := dk_42 (dk_at dksX0_rises_0 6 rfl rfl)
theorem dX0_rises_7 : decode cX0_rises 7 = .ok (.getfield 52, 3) := dk_180 0 52 (dk_at dksX0_rises_0 7 rfl rfl)
theorem dX0_rises_10 : decode cX0_rises 10 = .ok (.aload_n 0, 1) := dk_42 (dk_at dksX0_rises_0 10 rfl rfl)
theorem dX0_rises_11 : decode cX0_rises 11 = .ok (.getfield 55, 3) := dk_180 0 55 (dk_at dksX0_rises_0 11 rfl rfl)
theorem dX0_rises_14 : decode cX0_rises 14 = .ok (.iload_n 2, 1) := dk_28 (dk_at dksX0_rises_0 14 rfl rfl)
theorem dX0_rises_15 : decode cX0_rises 15 = .ok (.iaload, 1) := dk_46 (dk_at dksX0_rises_0 15 rfl rfl)
theorem dX0_rises_16 : decode cX0_rises 16 = .ok (.iaload, 1) := dk_46 (dk_at dksX0_rises_0 16 rfl rfl)
theorem dX0_rises_17 : decode cX0_rises 17 = .ok (.aload_n 0, 1) := dk_42 (dk_at dksX0_rises_0 17 rfl rfl)
theorem dX0_rises_18 : decode cX0_rises 18 = .ok (.getfield 52, 3) := dk_180 0 52 (dk_at dksX0_rises_0 18 rfl rfl)
theorem dX0_rises_21 : decode cX0_rises 21 = .ok (.aload_n 0, 1) := dk_42 (dk_at dksX0_rises_0 21 rfl rfl)
theorem dX0_rises_22 : decode cX0_rises 22 = .ok (.getfield 55, 3) := dk_180 0 55 (dk_at dksX0_rises_1 0 rfl rfl)
theorem dX0_rises_25 : decode cX0_rises 25 = .ok (.iload_n 2, 1) := dk_28 (dk_at dksX0_rises_1 3 rfl rfl)
theorem dX0_rises_26 : decode cX0_rises 26 = .ok (.iconst 1, 1) := dk_4 (dk_at dksX0_rises_1 4 rfl rfl)
theorem dX0_rises_27 : decode cX0_rises 27 = .ok (.isub, 1) := dk_100 (dk_at dksX0_rises_1 5 rfl rfl)
theorem dX0_rises_28 : decode cX0_rises 28 = .ok (.iconst 2, 1) := dk_5 (dk_at dksX0_rises_1 6 rfl rfl)
theorem dX0_rises_29 : decode cX0_rises 29 = .ok (.idiv, 1) := dk_108 (dk_at dksX0_rises_1 7 rfl rfl)
theorem dX0_rises_30 : decode cX0_rises 30 = .ok (.iaload, 1) := dk_46 (dk_at dksX0_rises_1 8 rfl rfl)
theorem dX0_rises_31 : decode cX0_rises 31 = .ok (.iaload, 1) := dk_46 (dk_at dksX0_rises_1 9 rfl rfl)
theorem dX0_rises_32 : decode cX0_rises 32 = .ok (.if_icmp .ge 22, 3) := dk_162 0 22 (dk_at dksX0_rises_1 10 rfl rfl)
theorem dX0_rises_35 : decode cX0_rises 35 = .ok (.aload_n 0, 1) := dk_42 (dk_at dksX0_rises_1 13 rfl rfl)
theorem dX0_rises_36 : decode cX0_rises 36 = .ok (.iload_n 2, 1) := dk_28 (dk_at dksX0_rises_1 14 rfl rfl)
theorem dX0_rises_37 : decode cX0_rises 37 = .ok (.iload_n 2, 1) := dk_28 (dk_at dksX0_rises_1 15 rfl rfl)
theorem dX0_rises_38 : decode cX0_rises 38 = .ok (.iconst 1, 1) := dk_4 (dk_at dksX0_rises_1 16 rfl rfl)
theorem dX0_rises_39 : decode cX0_rises 39 = .ok (.isub, 1) := dk_100 (dk_at dksX0_rises_1 17 rfl rfl)
theorem dX0_rises_40 : decode cX0_rises 40 = .ok (.iconst 2, 1) := dk_5 (dk_at dksX0_rises_1 18 rfl rfl)
theorem dX0_rises_41 : decode cX0_rises 41 = .ok (.idiv, 1) := dk_108 (dk_at dksX0_rises_1 19 rfl rfl)
theorem dX0_rises_42 : decode cX0_rises 42 = .ok (.invokevirtual 284, 3) := dk_182 1 28 (dk_at dksX0_rises_1 20 rfl rfl)
theorem dX0_rises_45 : decode cX0_rises 45 = .ok (.iload_n 2, 1) := dk_28 (dk_at dksX0_rises_1 23 rfl rfl)
theorem dX0_rises_46 : decode cX0_rises 46 = .ok (.iconst 1, 1) := dk_4 (dk_at dksX0_rises_2 0 rfl rfl)
theorem dX0_rises_47 : decode cX0_rises 47 = .ok (.isub, 1) := dk_100 (dk_at dksX0_rises_2 1 rfl rfl)
theorem dX0_rises_48 : decode cX0_rises 48 = .ok (.iconst 2, 1) := dk_5 (dk_at dksX0_rises_2 2 rfl rfl)
theorem dX0_rises_49 : decode cX0_rises 49 = .ok (.idiv, 1) := dk_108 (dk_at dksX0_rises_2 3 rfl rfl)
theorem dX0_rises_50 : decode cX0_rises 50 = .ok (.istore_n 2, 1) := dk_61 (dk_at dksX0_rises_2 4 rfl rfl)
theorem dX0_rises_51 : decode cX0_rises 51 = .ok (.goto (-49), 3) := dk_167 255 207 (dk_at dksX0_rises_2 5 rfl rfl)
theorem dX0_rises_54 : decode cX0_rises 54 = .ok (.return_, 1) := dk_177 (dk_at dksX0_rises_2 8 rfl rfl)
theorem gespX_0_16_X0 {p : Program} {l : Launch} {e : Env} {R : Room} {s : State} {m : MethodId} {args : Array Value} {below : List Frame} {meth : Method} {c : Code} {cc : ByteArray} {nL : Nat} {ret : Option FieldType} {D : va_G} {E : List wCell} {q : Nat → Nat} {ca : wCA} {A : Nat → Prop} {Q : State → Prop} {kc ks : Nat} {μ : wMem} {lv : List (Nat × Value)} {st : List Value} (pc : Nat) (C : wC p R s m args meth c cc "OnePassport" nL ret D vwCl (spX ++ E) q ca A) (hd : decode cc pc = .ok (.getfield 52, 3)) (k : wJ p l e R s m args below meth c nL D vwCl (spX ++ E) q ca A Q kc ks μ (pc + 3) lv (.ref (q 10) :: st)) : wJ p l e R s m args below meth c nL D vwCl (spX ++ E) q ca A Q kc ks μ pc lv (.ref (q 0) :: st) := wr_getR pc 16 C hd spX_0 rfl in_X0 (by decide) rfl q347 k
theorem okX0_rises : wOkV yX0_rises cX0_rises 3 none 1 := ⟨q875, qs37, q136, q876, by decide, by decide, by decide +kernel⟩
def gbX0_rises_2 (N : Nat)   (K : (wMem → Option wMem)) (rec : (Int32 → wMem → Option wMem)) (x2_ : Int32) (μ : wMem) : Option wMem :=
  if x2_ ≤ 0 then K  μ else wG (ok_in x2_ 100352) (wG (ok_in (μ.1 11 (Int32.toNatClampNeg x2_)) 100352) (wG (ok_in ((x2_ - (1 : Int32)) / (2 : Int32)) 100352) (wG (ok_in (μ.1 11 (Int32.toNatClampNeg ((x2_ - (1 : Int32)) / (2 : Int32)))) 100352) (if (μ.1 10 (Int32.toNatClampNeg (μ.1 11 (Int32.toNatClampNeg ((x2_ - (1 : Int32)) / (2 : Int32)))))) ≤ (μ.1 10 (Int32.toNatClampNeg (μ.1 11 (Int32.toNatClampNeg x2_)))) then K  μ else wBindV (fX0_swaps N  x2_ ((x2_ - (1 : Int32)) / (2 : Int32)) μ) fun μ8 => wLet ((x2_ - (1 : Int32)) / (2 : Int32) : Int32) fun x9 => rec x9 μ8))))
def gX0_rises_2 (N : Nat)   (K : (wMem → Option wMem)) : Nat → (Int32 → wMem → Option wMem)
  | 0 => fun _ _ => none
  | k + 1 => gbX0_rises_2 N   K (gX0_rises_2 N   K k)
set_option maxHeartbeats 4000000 in
set_option maxRecDepth 100000 in
theorem tX0_rises_2 {p : Program} {l : Launch} {e : Env} {s : State} {m : MethodId} {args : Array Value} {below : List Frame} {meth : Method} {c : Code} {D : va_G} {E : List wCell} {q : Nat → Nat} {ca : wCA} {A : Nat → Prop} (C : wC p ({ frames := 1, cells := 0, slots := 0, locals := 23 } : Room) s m args meth c cX0_rises yX0_rises.cls 3 none D vwCl (spX ++ E) q ca A) (N : Nat)    (K : (wMem → Option wMem)) (r0 : wMem) (hK : ∀  (μ : wMem), K  μ = some r0 → wJ p l e ({ frames := 1, cells := 0, slots := 0, locals := 23 } : Room) s m args below meth c 3 D vwCl (spX ++ E) q ca A (wQv ({ frames := 1, cells := 0, slots := 0, locals := 23 } : Room) D vwCl (spX ++ E) q ca below args s A r0) 0 0 μ 54 [] []) : ∀ (k : Nat) (x2_ : Int32) (μ : wMem), gX0_rises_2 N   K k x2_ μ = some r0 → wJ p l e ({ frames := 1, cells := 0, slots := 0, locals := 23 } : Room) s m args below meth c 3 D vwCl (spX ++ E) q ca A (wQv ({ frames := 1, cells := 0, slots := 0, locals := 23 } : Room) D vwCl (spX ++ E) q ca below args s A r0) 0 0 μ 2 [(0, .ref (q 0)), (2, .int x2_)] [] := by
  intro k
  induction k with
  | zero =>
    intro x2_ μ hf
    cases hf
  | succ k ih =>
    intro x2_ μ hf
    replace hf : gbX0_rises_2 N   K (gX0_rises_2 N   K k) x2_ μ = some r0 := hf
    unfold gbX0_rises_2 at hf
    refine wr_iload_n 2 C dX0_rises_2 1 rfl rfl ?_
    refine wr_if_le 3 54 C dX0_rises_3 (by decide) (fun c1 => ?_) (fun c1 => ?_)
    · replace hf := o_pos c1 hf
      refine wr_sub [] [] rfl ?_
      exact hK  μ hf
    · replace hf := o_neg c1 hf
      refine wr_aload_n 6 C dX0_rises_6 0 rfl rfl ?_
      refine gespX_0_16_X0 7 C dX0_rises_7 ?_
      refine wr_aload_n 10 C dX0_rises_10 0 rfl rfl ?_
      refine gespX_0_17_X0 11 C dX0_rises_11 ?_
      refine wr_iload_n 14 C dX0_rises_14 1 rfl rfl ?_
      obtain ⟨g2, hf⟩ := o_g hf
      refine wr_iald 15 C dX0_rises_15 spX_11 g2 ?_
      obtain ⟨g3, hf⟩ := o_g hf
      refine wr_iald 16 C dX0_rises_16 spX_10 g3 ?_
      refine wr_aload_n 17 C dX0_rises_17 0 rfl rfl ?_
      refine gespX_0_16_X0 18 C dX0_rises_18 ?_
      refine wr_aload_n 21 C dX0_rises_21 0 rfl rfl ?_
      refine gespX_0_17_X0 22 C dX0_rises_22 ?_
      refine wr_iload_n 25 C dX0_rises_25 1 rfl rfl ?_
      refine wr_iconst 26 C dX0_rises_26 (v := 1) rfl ?_
      refine wr_isub 27 C dX0_rises_27 ?_
      refine wr_iconst 28 C dX0_rises_28 (v := 2) rfl ?_
      refine wr_idiv 29 C dX0_rises_29 (by decide) ?_
      obtain ⟨g4, hf⟩ := o_g hf
      refine wr_iald 30 C dX0_rises_30 spX_11 g4 ?_
      obtain ⟨g5, hf⟩ := o_g hf
      refine wr_iald 31 C dX0_rises_31 spX_10 g5 ?_
      refine wr_icmp_ge 32 54 C dX0_rises_32 (by decide) (fun c6 => ?_) (fun c6 => ?_)
      · replace hf := o_pos c6 hf
        refine wr_sub [] [] rfl ?_
        exact hK  μ hf
      · replace hf := o_neg c6 hf
        refine wr_aload_n 35 C dX0_rises_35 0 rfl rfl ?_
        refine wr_iload_n 36 C dX0_rises_36 1 rfl rfl ?_
        refine wr_iload_n 37 C dX0_rises_37 1 rfl rfl ?_
        refine wr_iconst 38 C dX0_rises_38 (v := 1) rfl ?_
        refine wr_isub 39 C dX0_rises_39 ?_
        refine wr_iconst 40 C dX0_rises_40 (v := 2) rfl ?_
        refine wr_idiv 41 C dX0_rises_41 (by decide) ?_
        obtain ⟨μ8, h7, hf⟩ := o_bindV hf
        refine wr_Vv (kc1 := 0) (ks1 := 0) 42 [] C dX0_rises_42 (tX0_swaps l N   x2_ ((x2_ - (1 : Int32)) / (2 : Int32)) μ μ8 h7) okX0_swaps q877 (b := 0) spX_0 rfl ⟨rfl, rfl, Nat.le_of_ble_eq_true rfl, Nat.le_of_ble_eq_true rfl, Nat.zero_le _, Nat.zero_le _⟩ (Nat.le_of_ble_eq_true rfl) rfl ?_
        refine wr_iload_n 45 C dX0_rises_45 1 rfl rfl ?_
        refine wr_iconst 46 C dX0_rises_46 (v := 1) rfl ?_
        refine wr_isub 47 C dX0_rises_47 ?_
        refine wr_iconst 48 C dX0_rises_48 (v := 2) rfl ?_
        refine wr_idiv 49 C dX0_rises_49 (by decide) ?_
        obtain ⟨x9, ex9, hf⟩ := o_let hf
        refine wr_istore_n 50 [(2, .int x9), (0, .ref (q 0))] C dX0_rises_50 ex9 rfl (Nat.le_of_ble_eq_true rfl) rfl ?_
        refine wr_goto 51 C dX0_rises_51 (tgt := 2) (by decide) ?_
        refine wr_sub [(0, .ref (q 0)), (2, .int x9)] [1, 0] rfl ?_
        exact ih x9 μ8 hf
def fX0_rises (N : Nat)  (a1 : Int32) (μ : wMem) : Option wMem :=
  gX0_rises_2 N   (fun  (μ10 : wMem) => some μ10) N a1 μ
set_option maxHeartbeats 4000000 in
set_option maxRecDepth 100000 in
theorem tX0_rises (l : Launch) {D : va_G} {E : List wCell} {q : Nat → Nat} {ca : wCA} (N : Nat)   (a1 : Int32) (μ : wMem) (r0 : wMem) (hf : fX0_rises N  a1 μ = some r0) : wMv l yX0_rises cX0_rises 3 none ({ frames := 1, cells := 0, slots := 0, locals := 23 } : Room) D vwCl (spX ++ E) q ca [.ref (q 0), .int a1] μ r0 := by
  refine wMv_intro (by decide) (Nat.le_of_ble_eq_true rfl) ?_
  intro p e s m args below meth c A C
  unfold fX0_rises at hf
  refine wr_sub [(0, .ref (q 0)), (1, .int a1)] [0, 1] rfl ?_
  refine wr_iload_n 0 C dX0_rises_0 1 rfl rfl ?_
  refine wr_istore_n 1 [(2, .int a1), (0, .ref (q 0)), (1, .int a1)] C dX0_rises_1 rfl rfl (Nat.le_of_ble_eq_true rfl) rfl ?_
  refine wr_sub [(0, .ref (q 0)), (2, .int a1)] [1, 0] rfl ?_
  refine tX0_rises_2 C N    _ r0 (fun  μ10 hf => ?_) N a1 μ hf
  · replace hf := hf
    exact wr_vret 54 C dX0_rises_54 ⟨Nat.zero_le _, Nat.zero_le _⟩ (Option.some.inj hf)
abbrev cX0_comes : ByteArray := prog_1_method_55_code
def yX0_comes : MethodName := ⟨RX0, "comes", "(II)V"⟩
def dkwX0_comes_2 : List UInt8 := [4, 96, 181, 1, 32, 42, 180, 0, 52, 27, 28, 79, 42, 42, 180, 0, 58, 27, 46, 182, 1, 36, 177]
abbrev dktX0_comes_2 : List UInt8 := dkwX0_comes_2 ++ []
def dkwX0_comes_1 : List UInt8 := [180, 0, 55, 42, 180, 1, 32, 27, 79, 42, 180, 0, 58, 27, 42, 180, 1, 32, 79, 42, 89, 180, 1, 32]
abbrev dktX0_comes_1 : List UInt8 := dkwX0_comes_1 ++ dktX0_comes_2
def dkwX0_comes_0 : List UInt8 := [28, 42, 180, 0, 52, 27, 46, 161, 0, 4, 177, 42, 180, 0, 52, 27, 46, 19, 1, 35, 160, 0, 33, 42]
abbrev dktX0_comes_0 : List UInt8 := dkwX0_comes_0 ++ dktX0_comes_1
theorem dksX0_comes_0 : cX0_comes.data.toList.drop 0 = dktX0_comes_0 := by decide +kernel
theorem dksX0_comes_1 : cX0_comes.data.toList.drop 24 = dktX0_comes_1 := dk_seg dksX0_comes_0 24 rfl rfl
theorem dksX0_comes_2 : cX0_comes.data.toList.drop 48 = dktX0_comes_2 := dk_seg dksX0_comes_1 24 rfl rfl
theorem dX0_comes_0 : decode cX0_comes 0 = .ok (.iload_n 2, 1) := dk_28 (dk_at dksX0_comes_0 0 rfl rfl)
theorem dX0_comes_1 : decode cX0_comes 1 = .ok (.aload_n 0, 1) := dk_42 (dk_at dksX0_comes_0 1 rfl rfl)
theorem dX0_comes_2 : decode cX0_comes 2 = .ok (.getfield 52, 3) := dk_180 0 52 (dk_at dksX0_comes_0 2 rfl rfl)
theorem dX0_comes_5 : decode cX0_comes 5 = .ok (.iload_n 1, 1) := dk_27 (dk_at dksX0_comes_0 5 rfl rfl)
theorem dX0_comes_6 : decode cX0_comes 6 = .ok (.iaload, 1) := dk_46 (dk_at dksX0_comes_0 6 rfl rfl)
theorem dX0_comes_7 : decode cX0_comes 7 = .ok (.if_icmp .lt 4, 3) := dk_161 0 4 (dk_at dksX0_comes_0 7 rfl rfl)
theorem dX0_comes_10 : decode cX0_comes 10 = .ok (.return_, 1) := dk_177 (dk_at dksX0_comes_0 10 rfl rfl)
theorem dX0_comes_11 : decode cX0_comes 11 = .ok (.aload_n 0, 1) := dk_42 (dk_at dksX0_comes_0 11 rfl rfl)
theorem dX0_comes_12 : decode cX0_comes 12 = .ok (.getfield 52, 3) := dk_180 0 52 (dk_at dksX0_comes_0 12 rfl rfl)
theorem dX0_comes_15 : decode cX0_comes 15 = .ok (.iload_n 1, 1) := dk_27 (dk_at dksX0_comes_0 15 rfl rfl)
theorem dX0_comes_16 : decode cX0_comes 16 = .ok (.iaload, 1) := dk_46 (dk_at dksX0_comes_0 16 rfl rfl)
theorem dX0_comes_17 : decode cX0_comes 17 = .ok (.ldc_w 291, 3) := dk_19 1 35 (dk_at dksX0_comes_0 17 rfl rfl)
theorem dX0_comes_20 : decode cX0_comes 20 = .ok (.if_icmp .ne 33, 3) := dk_160 0 33 (dk_at dksX0_comes_0 20 rfl rfl)
theorem dX0_comes_23 : decode cX0_comes 23 = .ok (.aload_n 0, 1) := dk_42 (dk_at dksX0_comes_0 23 rfl rfl)
theorem dX0_comes_24 : decode cX0_comes 24 = .ok (.getfield 55, 3) := dk_180 0 55 (dk_at dksX0_comes_1 0 rfl rfl)
theorem dX0_comes_27 : decode cX0_comes 27 = .ok (.aload_n 0, 1) := dk_42 (dk_at dksX0_comes_1 3 rfl rfl)
theorem dX0_comes_28 : decode cX0_comes 28 = .ok (.getfield 288, 3) := dk_180 1 32 (dk_at dksX0_comes_1 4 rfl rfl)
theorem dX0_comes_31 : decode cX0_comes 31 = .ok (.iload_n 1, 1) := dk_27 (dk_at dksX0_comes_1 7 rfl rfl)
theorem dX0_comes_32 : decode cX0_comes 32 = .ok (.iastore, 1) := dk_79 (dk_at dksX0_comes_1 8 rfl rfl)
theorem dX0_comes_33 : decode cX0_comes 33 = .ok (.aload_n 0, 1) := dk_42 (dk_at dksX0_comes_1 9 rfl rfl)
theorem dX0_comes_34 : decode cX0_comes 34 = .ok (.getfield 58, 3) := dk_180 0 58 (dk_at dksX0_comes_1 10 rfl rfl)
theorem dX0_comes_37 : decode cX0_comes 37 = .ok (.iload_n 1, 1) := dk_27 (dk_at dksX0_comes_1 13 rfl rfl)
theorem dX0_comes_38 : decode cX0_comes 38 = .ok (.aload_n 0, 1) := dk_42 (dk_at dksX0_comes_1 14 rfl rfl)
theorem dX0_comes_39 : decode cX0_comes 39 = .ok (.getfield 288, 3) := dk_180 1 32 (dk_at dksX0_comes_1 15 rfl rfl)
theorem dX0_comes_42 : decode cX0_comes 42 = .ok (.iastore, 1) := dk_79 (dk_at dksX0_comes_1 18 rfl rfl)
theorem dX0_comes_43 : decode cX0_comes 43 = .ok (.aload_n 0, 1) := dk_42 (dk_at dksX0_comes_1 19 rfl rfl)
theorem dX0_comes_44 : decode cX0_comes 44 = .ok (.dup, 1) := dk_89 (dk_at dksX0_comes_1 20 rfl rfl)
theorem dX0_comes_45 : decode cX0_comes 45 = .ok (.getfield 288, 3) := dk_180 1 32 (dk_at dksX0_comes_1 21 rfl rfl)
theorem dX0_comes_48 : decode cX0_comes 48 = .ok (.iconst 1, 1) := dk_4 (dk_at dksX0_comes_2 0 rfl rfl)
theorem dX0_comes_49 : decode cX0_comes 49 = .ok (.iadd, 1) := dk_96 (dk_at dksX0_comes_2 1 rfl rfl)
theorem dX0_comes_50 : decode cX0_comes 50 = .ok (.putfield 288, 3) := dk_181 1 32 (dk_at dksX0_comes_2 2 rfl rfl)
theorem dX0_comes_53 : decode cX0_comes 53 = .ok (.aload_n 0, 1) := dk_42 (dk_at dksX0_comes_2 5 rfl rfl)
theorem dX0_comes_54 : decode cX0_comes 54 = .ok (.getfield 52, 3) := dk_180 0 52 (dk_at dksX0_comes_2 6 rfl rfl)
theorem dX0_comes_57 : decode cX0_comes 57 = .ok (.iload_n 1, 1) := dk_27 (dk_at dksX0_comes_2 9 rfl rfl)
theorem dX0_comes_58 : decode cX0_comes 58 = .ok (.iload_n 2, 1) := dk_28 (dk_at dksX0_comes_2 10 rfl rfl)
theorem dX0_comes_59 : decode cX0_comes 59 = .ok (.iastore, 1) := dk_79 (dk_at dksX0_comes_2 11 rfl rfl)
theorem dX0_comes_60 : decode cX0_comes 60 = .ok (.aload_n 0, 1) := dk_42 (dk_at dksX0_comes_2 12 rfl rfl)
theorem dX0_comes_61 : decode cX0_comes 61 = .ok (.aload_n 0, 1) := dk_42 (dk_at dksX0_comes_2 13 rfl rfl)
theorem dX0_comes_62 : decode cX0_comes 62 = .ok (.getfield 58, 3) := dk_180 0 58 (dk_at dksX0_comes_2 14 rfl rfl)
theorem dX0_comes_65 : decode cX0_comes 65 = .ok (.iload_n 1, 1) := dk_27 (dk_at dksX0_comes_2 17 rfl rfl)
theorem dX0_comes_66 : decode cX0_comes 66 = .ok (.iaload, 1) := dk_46 (dk_at dksX0_comes_2 18 rfl rfl)
theorem dX0_comes_67 : decode cX0_comes 67 = .ok (.invokevirtual 292, 3) := dk_182 1 36 (dk_at dksX0_comes_2 19 rfl rfl)
theorem dX0_comes_70 : decode cX0_comes 70 = .ok (.return_, 1) := dk_177 (dk_at dksX0_comes_2 22 rfl rfl)
theorem gespX_0_20_X0 {p : Program} {l : Launch} {e : Env} {R : Room} {s : State} {m : MethodId} {args : Array Value} {below : List Frame} {meth : Method} {c : Code} {cc : ByteArray} {nL : Nat} {ret : Option FieldType} {D : va_G} {E : List wCell} {q : Nat → Nat} {ca : wCA} {A : Nat → Prop} {Q : State → Prop} {kc ks : Nat} {μ : wMem} {lv : List (Nat × Value)} {st : List Value} (pc : Nat) (C : wC p R s m args meth c cc "OnePassport" nL ret D vwCl (spX ++ E) q ca A) (hd : decode cc pc = .ok (.getfield 288, 3)) (k : wJ p l e R s m args below meth c nL D vwCl (spX ++ E) q ca A Q kc ks μ (pc + 3) lv (.int (μ.1 0 20) :: st)) : wJ p l e R s m args below meth c nL D vwCl (spX ++ E) q ca A Q kc ks μ pc lv (.ref (q 0) :: st) := wr_getI pc 20 C hd spX_0 rfl in_X0 (by decide) rfl q351 k
theorem puspX_0_20_X0 {p : Program} {l : Launch} {e : Env} {R : Room} {s : State} {m : MethodId} {args : Array Value} {below : List Frame} {meth : Method} {c : Code} {cc : ByteArray} {nL : Nat} {ret : Option FieldType} {D : va_G} {E : List wCell} {q : Nat → Nat} {ca : wCA} {A : Nat → Prop} {Q : State → Prop} {kc ks : Nat} {μ : wMem} {lv : List (Nat × Value)} {st : List Value} {v : Int32} {μ1 : wMem} (pc : Nat) (C : wC p R s m args meth c cc "OnePassport" nL ret D vwCl (spX ++ E) q ca A) (hd : decode cc pc = .ok (.putfield 288, 3)) (hμ : μ1 = wSI μ 0 20 v) (k : wJ p l e R s m args below meth c nL D vwCl (spX ++ E) q ca A Q kc ks μ1 (pc + 3) lv st) : wJ p l e R s m args below meth c nL D vwCl (spX ++ E) q ca A Q kc ks μ pc lv (.int v :: .ref (q 0) :: st) := wr_putI pc 20 C hd spX_0 rfl in_X0 tyX0 tyX0_ok nmX0 (by decide) rfl q351 rfl rfl hμ k
theorem okX0_comes : wOkV yX0_comes cX0_comes 3 none 2 := ⟨q871, qs36, q136, q872, by decide, by decide, by decide +kernel⟩
def fX0_comes (N : Nat)  (a1 : Int32) (a2 : Int32) (μ : wMem) : Option wMem :=
  wG (ok_in a1 100352) (if a2 < (μ.1 10 (Int32.toNatClampNeg a1)) then wG (ok_in a1 100352) (wLet (fun  (μ4 : wMem) => wG (ok_in a1 100352) (wLet (wSI μ4 10 (Int32.toNatClampNeg a1) a2) fun μ6 => wG (ok_in a1 100352) (wBindV (fX0_rises N  (μ6.1 12 (Int32.toNatClampNeg a1)) μ6) fun μ9 => some μ9))) fun Jcomes53 => if (μ.1 10 (Int32.toNatClampNeg a1)) = (1000000000 : Int32) then wG (ok_in (μ.1 0 20) 100352) (wLet (wSI μ 11 (Int32.toNatClampNeg (μ.1 0 20)) a1) fun μ12 => wG (ok_in a1 100352) (wLet (wSI μ12 12 (Int32.toNatClampNeg a1) (μ12.1 0 20)) fun μ14 => wLet (wSI μ14 0 20 ((μ14.1 0 20) + (1 : Int32))) fun μ15 => Jcomes53  μ15)) else Jcomes53  μ) else some μ)
set_option maxHeartbeats 4000000 in
set_option maxRecDepth 100000 in
theorem tX0_comes (l : Launch) {D : va_G} {E : List wCell} {q : Nat → Nat} {ca : wCA} (N : Nat)   (a1 : Int32) (a2 : Int32) (μ : wMem) (r0 : wMem) (hf : fX0_comes N  a1 a2 μ = some r0) : wMv l yX0_comes cX0_comes 3 none ({ frames := 2, cells := 0, slots := 0, locals := 45 } : Room) D vwCl (spX ++ E) q ca [.ref (q 0), .int a1, .int a2] μ r0 := by
  refine wMv_intro (by decide) (Nat.le_of_ble_eq_true rfl) ?_
  intro p e s m args below meth c A C
  unfold fX0_comes at hf
  refine wr_sub [(0, .ref (q 0)), (1, .int a1), (2, .int a2)] [0, 1, 2] rfl ?_
  refine wr_iload_n 0 C dX0_comes_0 2 rfl rfl ?_
  refine wr_aload_n 1 C dX0_comes_1 0 rfl rfl ?_
  refine gespX_0_16_X0 2 C dX0_comes_2 ?_
  refine wr_iload_n 5 C dX0_comes_5 1 rfl rfl ?_
  obtain ⟨g1, hf⟩ := o_g hf
  refine wr_iald 6 C dX0_comes_6 spX_10 g1 ?_
  refine wr_icmp_lt 7 11 C dX0_comes_7 (by decide) (fun c2 => ?_) (fun c2 => ?_)
  · replace hf := o_pos c2 hf
    refine wr_aload_n 11 C dX0_comes_11 0 rfl rfl ?_
    refine gespX_0_16_X0 12 C dX0_comes_12 ?_
    refine wr_iload_n 15 C dX0_comes_15 1 rfl rfl ?_
    obtain ⟨g3, hf⟩ := o_g hf
    refine wr_iald 16 C dX0_comes_16 spX_10 g3 ?_
    refine wr_ldcw 17 C dX0_comes_17 q864 ?_
    obtain ⟨Jcomes53, eJcomes53, hf⟩ := o_let hf
    have hJcomes53 : ∀  (μ4 : wMem), Jcomes53  μ4 = some r0 → wJ p l e ({ frames := 2, cells := 0, slots := 0, locals := 45 } : Room) s m args below meth c 3 D vwCl (spX ++ E) q ca A (wQv ({ frames := 2, cells := 0, slots := 0, locals := 45 } : Room) D vwCl (spX ++ E) q ca below args s A r0) 0 0 μ4 53 [(0, .ref (q 0)), (1, .int a1), (2, .int a2)] [] := by
      intro  μ4 hf
      rw [eJcomes53] at hf
      refine wr_aload_n 53 C dX0_comes_53 0 rfl rfl ?_
      refine gespX_0_16_X0 54 C dX0_comes_54 ?_
      refine wr_iload_n 57 C dX0_comes_57 1 rfl rfl ?_
      refine wr_iload_n 58 C dX0_comes_58 2 rfl rfl ?_
      obtain ⟨g5, hf⟩ := o_g hf
      obtain ⟨μ6, eμ6, hf⟩ := o_let hf
      refine wr_iast 59 C dX0_comes_59 spX_10 g5 eμ6 ?_
      refine wr_aload_n 60 C dX0_comes_60 0 rfl rfl ?_
      refine wr_aload_n 61 C dX0_comes_61 0 rfl rfl ?_
      refine gespX_0_18_X0 62 C dX0_comes_62 ?_
      refine wr_iload_n 65 C dX0_comes_65 1 rfl rfl ?_
      obtain ⟨g7, hf⟩ := o_g hf
      refine wr_iald 66 C dX0_comes_66 spX_12 g7 ?_
      obtain ⟨μ9, h8, hf⟩ := o_bindV hf
      refine wr_Vv (kc1 := 0) (ks1 := 0) 67 [] C dX0_comes_67 (tX0_rises l N   (μ6.1 12 (Int32.toNatClampNeg a1)) μ6 μ9 h8) okX0_rises q873 (b := 0) spX_0 rfl ⟨rfl, rfl, Nat.le_of_ble_eq_true rfl, Nat.le_of_ble_eq_true rfl, Nat.zero_le _, Nat.zero_le _⟩ (Nat.le_of_ble_eq_true rfl) rfl ?_
      exact wr_vret 70 C dX0_comes_70 ⟨Nat.zero_le _, Nat.zero_le _⟩ (Option.some.inj hf)
    refine wr_icmp_ne 20 53 C dX0_comes_20 (by decide) (fun c10 => ?_) (fun c10 => ?_)
    · replace hf := o_neg c10 hf
      exact hJcomes53  μ hf
    · replace hf := o_pos c10 hf
      refine wr_aload_n 23 C dX0_comes_23 0 rfl rfl ?_
      refine gespX_0_17_X0 24 C dX0_comes_24 ?_
      refine wr_aload_n 27 C dX0_comes_27 0 rfl rfl ?_
      refine gespX_0_20_X0 28 C dX0_comes_28 ?_
      refine wr_iload_n 31 C dX0_comes_31 1 rfl rfl ?_
      obtain ⟨g11, hf⟩ := o_g hf
      obtain ⟨μ12, eμ12, hf⟩ := o_let hf
      refine wr_iast 32 C dX0_comes_32 spX_11 g11 eμ12 ?_
      refine wr_aload_n 33 C dX0_comes_33 0 rfl rfl ?_
      refine gespX_0_18_X0 34 C dX0_comes_34 ?_
      refine wr_iload_n 37 C dX0_comes_37 1 rfl rfl ?_
      refine wr_aload_n 38 C dX0_comes_38 0 rfl rfl ?_
      refine gespX_0_20_X0 39 C dX0_comes_39 ?_
      obtain ⟨g13, hf⟩ := o_g hf
      obtain ⟨μ14, eμ14, hf⟩ := o_let hf
      refine wr_iast 42 C dX0_comes_42 spX_12 g13 eμ14 ?_
      refine wr_aload_n 43 C dX0_comes_43 0 rfl rfl ?_
      refine wr_dup 44 C dX0_comes_44 rfl ?_
      refine gespX_0_20_X0 45 C dX0_comes_45 ?_
      refine wr_iconst 48 C dX0_comes_48 (v := 1) rfl ?_
      refine wr_iadd 49 C dX0_comes_49 ?_
      obtain ⟨μ15, eμ15, hf⟩ := o_let hf
      refine puspX_0_20_X0 50 C dX0_comes_50 eμ15 ?_
      exact hJcomes53  μ15 hf
  · replace hf := o_neg c2 hf
    exact wr_vret 10 C dX0_comes_10 ⟨Nat.zero_le _, Nat.zero_le _⟩ (Option.some.inj hf)
abbrev cX0_sinks : ByteArray := prog_1_method_54_code
def yX0_sinks : MethodName := ⟨RX0, "sinks", "()V"⟩
def dkwX0_sinks_4 : List UInt8 := [167, 255, 164, 177]
abbrev dktX0_sinks_4 : List UInt8 := dkwX0_sinks_4 ++ []
def dkwX0_sinks_3 : List UInt8 := [180, 0, 52, 42, 180, 0, 55, 27, 46, 46, 161, 0, 4, 177, 42, 27, 28, 182, 1, 28, 28, 60]
abbrev dktX0_sinks_3 : List UInt8 := dkwX0_sinks_3 ++ dktX0_sinks_4
def dkwX0_sinks_2 : List UInt8 := [180, 0, 55, 28, 46, 46, 162, 0, 6, 132, 2, 1, 42, 180, 0, 52, 42, 180, 0, 55, 28, 46, 46, 42]
abbrev dktX0_sinks_2 : List UInt8 := dkwX0_sinks_2 ++ dktX0_sinks_3
def dkwX0_sinks_1 : List UInt8 := [180, 1, 32, 162, 0, 33, 42, 180, 0, 52, 42, 180, 0, 55, 28, 4, 96, 46, 46, 42, 180, 0, 52, 42]
abbrev dktX0_sinks_1 : List UInt8 := dkwX0_sinks_1 ++ dktX0_sinks_2
def dkwX0_sinks_0 : List UInt8 := [3, 60, 5, 27, 104, 4, 96, 42, 180, 1, 32, 162, 0, 86, 5, 27, 104, 4, 96, 61, 28, 4, 96, 42]
abbrev dktX0_sinks_0 : List UInt8 := dkwX0_sinks_0 ++ dktX0_sinks_1
theorem dksX0_sinks_0 : cX0_sinks.data.toList.drop 0 = dktX0_sinks_0 := by decide +kernel
theorem dksX0_sinks_1 : cX0_sinks.data.toList.drop 24 = dktX0_sinks_1 := dk_seg dksX0_sinks_0 24 rfl rfl
theorem dksX0_sinks_2 : cX0_sinks.data.toList.drop 48 = dktX0_sinks_2 := dk_seg dksX0_sinks_1 24 rfl rfl
theorem dksX0_sinks_3 : cX0_sinks.data.toList.drop 72 = dktX0_sinks_3 := dk_seg dksX0_sinks_2 24 rfl rfl
theorem dksX0_sinks_4 : cX0_sinks.data.toList.drop 94 = dktX0_sinks_4 := dk_seg dksX0_sinks_3 22 rfl rfl
theorem dX0_sinks_0 : decode cX0_sinks 0 = .ok (.iconst 0, 1) := dk_3 (dk_at dksX0_sinks_0 0 rfl rfl)
theorem dX0_sinks_1 : decode cX0_sinks 1 = .ok (.istore_n 1, 1) := dk_60 (dk_at dksX0_sinks_0 1 rfl rfl)
theorem dX0_sinks_2 : decode cX0_sinks 2 = .ok (.iconst 2, 1) := dk_5 (dk_at dksX0_sinks_0 2 rfl rfl)
theorem dX0_sinks_3 : decode cX0_sinks 3 = .ok (.iload_n 1, 1) := dk_27 (dk_at dksX0_sinks_0 3 rfl rfl)
theorem dX0_sinks_4 : decode cX0_sinks 4 = .ok (.imul, 1) := dk_104 (dk_at dksX0_sinks_0 4 rfl rfl)
theorem dX0_sinks_5 : decode cX0_sinks 5 = .ok (.iconst 1, 1) := dk_4 (dk_at dksX0_sinks_0 5 rfl rfl)
theorem dX0_sinks_6 : decode cX0_sinks 6 = .ok (.iadd, 1) := dk_96 (dk_at dksX0_sinks_0 6 rfl rfl)
theorem dX0_sinks_7 : decode cX0_sinks 7 = .ok (.aload_n 0, 1) := dk_42 (dk_at dksX0_sinks_0 7 rfl rfl)
theorem dX0_sinks_8 : decode cX0_sinks 8 = .ok (.getfield 288, 3) := dk_180 1 32 (dk_at dksX0_sinks_0 8 rfl rfl)
theorem dX0_sinks_11 : decode cX0_sinks 11 = .ok (.if_icmp .ge 86, 3) := dk_162 0 86 (dk_at dksX0_sinks_0 11 rfl rfl)
theorem dX0_sinks_14 : decode cX0_sinks 14 = .ok (.iconst 2, 1) := dk_5 (dk_at dksX0_sinks_0 14 rfl rfl)
theorem dX0_sinks_15 : decode cX0_sinks 15 = .ok (.iload_n 1, 1) := dk_27 (dk_at dksX0_sinks_0 15 rfl rfl)
theorem dX0_sinks_16 : decode cX0_sinks 16 = .ok (.imul, 1) := dk_104 (dk_at dksX0_sinks_0 16 rfl rfl)
theorem dX0_sinks_17 : decode cX0_sinks 17 = .ok (.iconst 1, 1) := dk_4 (dk_at dksX0_sinks_0 17 rfl rfl)
theorem dX0_sinks_18 : decode cX0_sinks 18 = .ok (.iadd, 1) := dk_96 (dk_at dksX0_sinks_0 18 rfl rfl)
theorem dX0_sinks_19 : decode cX0_sinks 19 = .ok (.istore_n 2, 1) := dk_61 (dk_at dksX0_sinks_0 19 rfl rfl)
theorem dX0_sinks_20 : decode cX0_sinks 20 = .ok (.iload_n 2, 1) := dk_28 (dk_at dksX0_sinks_0 20 rfl rfl)
theorem dX0_sinks_21 : decode cX0_sinks 21 = .ok (.iconst 1, 1) := dk_4 (dk_at dksX0_sinks_0 21 rfl rfl)
theorem dX0_sinks_22 : decode cX0_sinks 22 = .ok (.iadd, 1) := dk_96 (dk_at dksX0_sinks_0 22 rfl rfl)
theorem dX0_sinks_23 : decode cX0_sinks 23 = .ok (.aload_n 0, 1) := dk_42 (dk_at dksX0_sinks_0 23 rfl rfl)
theorem dX0_sinks_24 : decode cX0_sinks 24 = .ok (.getfield 288, 3) := dk_180 1 32 (dk_at dksX0_sinks_1 0 rfl rfl)
theorem dX0_sinks_27 : decode cX0_sinks 27 = .ok (.if_icmp .ge 33, 3) := dk_162 0 33 (dk_at dksX0_sinks_1 3 rfl rfl)
theorem dX0_sinks_30 : decode cX0_sinks 30 = .ok (.aload_n 0, 1) := dk_42 (dk_at dksX0_sinks_1 6 rfl rfl)
theorem dX0_sinks_31 : decode cX0_sinks 31 = .ok (.getfield 52, 3) := dk_180 0 52 (dk_at dksX0_sinks_1 7 rfl rfl)
theorem dX0_sinks_34 : decode cX0_sinks 34 = .ok (.aload_n 0, 1) := dk_42 (dk_at dksX0_sinks_1 10 rfl rfl)
theorem dX0_sinks_35 : decode cX0_sinks 35 = .ok (.getfield 55, 3) := dk_180 0 55 (dk_at dksX0_sinks_1 11 rfl rfl)
theorem dX0_sinks_38 : decode cX0_sinks 38 = .ok (.iload_n 2, 1) := dk_28 (dk_at dksX0_sinks_1 14 rfl rfl)
theorem dX0_sinks_39 : decode cX0_sinks 39 = .ok (.iconst 1, 1) := dk_4 (dk_at dksX0_sinks_1 15 rfl rfl)
theorem dX0_sinks_40 : decode cX0_sinks 40 = .ok (.iadd, 1) := dk_96 (dk_at dksX0_sinks_1 16 rfl rfl)
theorem dX0_sinks_41 : decode cX0_sinks 41 = .ok (.iaload, 1) := dk_46 (dk_at dksX0_sinks_1 17 rfl rfl)
theorem dX0_sinks_42 : decode cX0_sinks 42 = .ok (.iaload, 1) := dk_46 (dk_at dksX0_sinks_1 18 rfl rfl)
theorem dX0_sinks_43 : decode cX0_sinks 43 = .ok (.aload_n 0, 1) := dk_42 (dk_at dksX0_sinks_1 19 rfl rfl)
theorem dX0_sinks_44 : decode cX0_sinks 44 = .ok (.getfield 52, 3) := dk_180 0 52 (dk_at dksX0_sinks_1 20 rfl rfl)
theorem dX0_sinks_47 : decode cX0_sinks 47 = .ok (.aload_n 0, 1) := dk_42 (dk_at dksX0_sinks_1 23 rfl rfl)
theorem dX0_sinks_48 : decode cX0_sinks 48 = .ok (.getfield 55, 3) := dk_180 0 55 (dk_at dksX0_sinks_2 0 rfl rfl)
theorem dX0_sinks_51 : decode cX0_sinks 51 = .ok (.iload_n 2, 1) := dk_28 (dk_at dksX0_sinks_2 3 rfl rfl)
theorem dX0_sinks_52 : decode cX0_sinks 52 = .ok (.iaload, 1) := dk_46 (dk_at dksX0_sinks_2 4 rfl rfl)
theorem dX0_sinks_53 : decode cX0_sinks 53 = .ok (.iaload, 1) := dk_46 (dk_at dksX0_sinks_2 5 rfl rfl)
theorem dX0_sinks_54 : decode cX0_sinks 54 = .ok (.if_icmp .ge 6, 3) := dk_162 0 6 (dk_at dksX0_sinks_2 6 rfl rfl)
theorem dX0_sinks_57 : decode cX0_sinks 57 = .ok (.iinc 2 1, 3) := dk_132 2 1 (dk_at dksX0_sinks_2 9 rfl rfl)
theorem dX0_sinks_60 : decode cX0_sinks 60 = .ok (.aload_n 0, 1) := dk_42 (dk_at dksX0_sinks_2 12 rfl rfl)
theorem dX0_sinks_61 : decode cX0_sinks 61 = .ok (.getfield 52, 3) := dk_180 0 52 (dk_at dksX0_sinks_2 13 rfl rfl)
theorem dX0_sinks_64 : decode cX0_sinks 64 = .ok (.aload_n 0, 1) := dk_42 (dk_at dksX0_sinks_2 16 rfl rfl)
theorem dX0_sinks_65 : decode cX0_sinks 65 = .ok (.getfield 55, 3) := dk_180 0 55 (dk_at dksX0_sinks_2 17 rfl rfl)
theorem dX0_sinks_68 : decode cX0_sinks 68 = .ok (.iload_n 2, 1) := dk_28 (dk_at dksX0_sinks_2 20 rfl rfl)
theorem dX0_sinks_69 : decode cX0_sinks 69 = .ok (.iaload, 1) := dk_46 (dk_at dksX0_sinks_2 21 rfl rfl)
theorem dX0_sinks_70 : decode cX0_sinks 70 = .ok (.iaload, 1) := dk_46 (dk_at dksX0_sinks_2 22 rfl rfl)
theorem dX0_sinks_71 : decode cX0_sinks 71 = .ok (.aload_n 0, 1) := dk_42 (dk_at dksX0_sinks_2 23 rfl rfl)
theorem dX0_sinks_72 : decode cX0_sinks 72 = .ok (.getfield 52, 3) := dk_180 0 52 (dk_at dksX0_sinks_3 0 rfl rfl)
theorem dX0_sinks_75 : decode cX0_sinks 75 = .ok (.aload_n 0, 1) := dk_42 (dk_at dksX0_sinks_3 3 rfl rfl)
theorem dX0_sinks_76 : decode cX0_sinks 76 = .ok (.getfield 55, 3) := dk_180 0 55 (dk_at dksX0_sinks_3 4 rfl rfl)
theorem dX0_sinks_79 : decode cX0_sinks 79 = .ok (.iload_n 1, 1) := dk_27 (dk_at dksX0_sinks_3 7 rfl rfl)
theorem dX0_sinks_80 : decode cX0_sinks 80 = .ok (.iaload, 1) := dk_46 (dk_at dksX0_sinks_3 8 rfl rfl)
theorem dX0_sinks_81 : decode cX0_sinks 81 = .ok (.iaload, 1) := dk_46 (dk_at dksX0_sinks_3 9 rfl rfl)
theorem dX0_sinks_82 : decode cX0_sinks 82 = .ok (.if_icmp .lt 4, 3) := dk_161 0 4 (dk_at dksX0_sinks_3 10 rfl rfl)
theorem dX0_sinks_85 : decode cX0_sinks 85 = .ok (.return_, 1) := dk_177 (dk_at dksX0_sinks_3 13 rfl rfl)
theorem dX0_sinks_86 : decode cX0_sinks 86 = .ok (.aload_n 0, 1) := dk_42 (dk_at dksX0_sinks_3 14 rfl rfl)
theorem dX0_sinks_87 : decode cX0_sinks 87 = .ok (.iload_n 1, 1) := dk_27 (dk_at dksX0_sinks_3 15 rfl rfl)
theorem dX0_sinks_88 : decode cX0_sinks 88 = .ok (.iload_n 2, 1) := dk_28 (dk_at dksX0_sinks_3 16 rfl rfl)
theorem dX0_sinks_89 : decode cX0_sinks 89 = .ok (.invokevirtual 284, 3) := dk_182 1 28 (dk_at dksX0_sinks_3 17 rfl rfl)
theorem dX0_sinks_92 : decode cX0_sinks 92 = .ok (.iload_n 2, 1) := dk_28 (dk_at dksX0_sinks_3 20 rfl rfl)
theorem dX0_sinks_93 : decode cX0_sinks 93 = .ok (.istore_n 1, 1) := dk_60 (dk_at dksX0_sinks_3 21 rfl rfl)
theorem dX0_sinks_94 : decode cX0_sinks 94 = .ok (.goto (-92), 3) := dk_167 255 164 (dk_at dksX0_sinks_4 0 rfl rfl)
theorem dX0_sinks_97 : decode cX0_sinks 97 = .ok (.return_, 1) := dk_177 (dk_at dksX0_sinks_4 3 rfl rfl)

theorem okX0_sinks : wOkV yX0_sinks cX0_sinks 3 none 0 := ⟨q883, qs39, q136, q884, by decide, by decide, by decide +kernel⟩
def gbX0_sinks_2 (N : Nat)   (K : (wMem → Option wMem)) (rec : (Int32 → wMem → Option wMem)) (x1_ : Int32) (μ : wMem) : Option wMem :=
  if (μ.1 0 20) ≤ (((2 : Int32) * x1_) + (1 : Int32)) then K  μ else wLet (((2 : Int32) * x1_) + (1 : Int32) : Int32) fun x2 => wLet (fun (x4 : Int32) (μ3 : wMem) => wG (ok_in x4 100352) (wG (ok_in (μ3.1 11 (Int32.toNatClampNeg x4)) 100352) (wG (ok_in x1_ 100352) (wG (ok_in (μ3.1 11 (Int32.toNatClampNeg x1_)) 100352) (if (μ3.1 10 (Int32.toNatClampNeg (μ3.1 11 (Int32.toNatClampNeg x4)))) < (μ3.1 10 (Int32.toNatClampNeg (μ3.1 11 (Int32.toNatClampNeg x1_)))) then wBindV (fX0_swaps N  x1_ x4 μ3) fun μ11 => rec x4 μ11 else some μ3))))) fun Jsinks60 => if (μ.1 0 20) ≤ (x2 + (1 : Int32)) then Jsinks60 x2 μ else wG (ok_in (x2 + (1 : Int32)) 100352) (wG (ok_in (μ.1 11 (Int32.toNatClampNeg (x2 + (1 : Int32)))) 100352) (wG (ok_in x2 100352) (wG (ok_in (μ.1 11 (Int32.toNatClampNeg x2)) 100352) (if (μ.1 10 (Int32.toNatClampNeg (μ.1 11 (Int32.toNatClampNeg x2)))) ≤ (μ.1 10 (Int32.toNatClampNeg (μ.1 11 (Int32.toNatClampNeg (x2 + (1 : Int32)))))) then Jsinks60 x2 μ else wLet (x2 + 1 : Int32) fun x18 => Jsinks60 x18 μ))))
def gX0_sinks_2 (N : Nat)   (K : (wMem → Option wMem)) : Nat → (Int32 → wMem → Option wMem)
  | 0 => fun _ _ => none
  | k + 1 => gbX0_sinks_2 N   K (gX0_sinks_2 N   K k)
set_option maxHeartbeats 4000000 in
set_option maxRecDepth 100000 in
theorem tX0_sinks_2 {p : Program} {l : Launch} {e : Env} {s : State} {m : MethodId} {args : Array Value} {below : List Frame} {meth : Method} {c : Code} {D : va_G} {E : List wCell} {q : Nat → Nat} {ca : wCA} {A : Nat → Prop} (C : wC p ({ frames := 1, cells := 0, slots := 0, locals := 23 } : Room) s m args meth c cX0_sinks yX0_sinks.cls 3 none D vwCl (spX ++ E) q ca A) (N : Nat)    (K : (wMem → Option wMem)) (r0 : wMem) (hK : ∀  (μ : wMem), K  μ = some r0 → wJ p l e ({ frames := 1, cells := 0, slots := 0, locals := 23 } : Room) s m args below meth c 3 D vwCl (spX ++ E) q ca A (wQv ({ frames := 1, cells := 0, slots := 0, locals := 23 } : Room) D vwCl (spX ++ E) q ca below args s A r0) 0 0 μ 97 [] []) : ∀ (k : Nat) (x1_ : Int32) (μ : wMem), gX0_sinks_2 N   K k x1_ μ = some r0 → wJ p l e ({ frames := 1, cells := 0, slots := 0, locals := 23 } : Room) s m args below meth c 3 D vwCl (spX ++ E) q ca A (wQv ({ frames := 1, cells := 0, slots := 0, locals := 23 } : Room) D vwCl (spX ++ E) q ca below args s A r0) 0 0 μ 2 [(0, .ref (q 0)), (1, .int x1_)] [] := by
  intro k
  induction k with
  | zero =>
    intro x1_ μ hf
    cases hf
  | succ k ih =>
    intro x1_ μ hf
    replace hf : gbX0_sinks_2 N   K (gX0_sinks_2 N   K k) x1_ μ = some r0 := hf
    unfold gbX0_sinks_2 at hf
    refine wr_iconst 2 C dX0_sinks_2 (v := 2) rfl ?_
    refine wr_iload_n 3 C dX0_sinks_3 1 rfl rfl ?_
    refine wr_imul 4 C dX0_sinks_4 ?_
    refine wr_iconst 5 C dX0_sinks_5 (v := 1) rfl ?_
    refine wr_iadd 6 C dX0_sinks_6 ?_
    refine wr_aload_n 7 C dX0_sinks_7 0 rfl rfl ?_
    refine gespX_0_20_X0 8 C dX0_sinks_8 ?_
    refine wr_icmp_ge 11 97 C dX0_sinks_11 (by decide) (fun c1 => ?_) (fun c1 => ?_)
    · replace hf := o_pos c1 hf
      refine wr_sub [] [] rfl ?_
      exact hK  μ hf
    · replace hf := o_neg c1 hf
      refine wr_iconst 14 C dX0_sinks_14 (v := 2) rfl ?_
      refine wr_iload_n 15 C dX0_sinks_15 1 rfl rfl ?_
      refine wr_imul 16 C dX0_sinks_16 ?_
      refine wr_iconst 17 C dX0_sinks_17 (v := 1) rfl ?_
      refine wr_iadd 18 C dX0_sinks_18 ?_
      obtain ⟨x2, ex2, hf⟩ := o_let hf
      refine wr_istore_n 19 [(2, .int x2), (0, .ref (q 0)), (1, .int x1_)] C dX0_sinks_19 ex2 rfl (Nat.le_of_ble_eq_true rfl) rfl ?_
      refine wr_iload_n 20 C dX0_sinks_20 0 rfl rfl ?_
      refine wr_iconst 21 C dX0_sinks_21 (v := 1) rfl ?_
      refine wr_iadd 22 C dX0_sinks_22 ?_
      refine wr_aload_n 23 C dX0_sinks_23 1 rfl rfl ?_
      refine gespX_0_20_X0 24 C dX0_sinks_24 ?_
      obtain ⟨Jsinks60, eJsinks60, hf⟩ := o_let hf
      have hJsinks60 : ∀ (x4 : Int32) (μ3 : wMem), Jsinks60 x4 μ3 = some r0 → wJ p l e ({ frames := 1, cells := 0, slots := 0, locals := 23 } : Room) s m args below meth c 3 D vwCl (spX ++ E) q ca A (wQv ({ frames := 1, cells := 0, slots := 0, locals := 23 } : Room) D vwCl (spX ++ E) q ca below args s A r0) 0 0 μ3 60 [(0, .ref (q 0)), (1, .int x1_), (2, .int x4)] [] := by
        intro x4 μ3 hf
        rw [eJsinks60] at hf
        refine wr_aload_n 60 C dX0_sinks_60 0 rfl rfl ?_
        refine gespX_0_16_X0 61 C dX0_sinks_61 ?_
        refine wr_aload_n 64 C dX0_sinks_64 0 rfl rfl ?_
        refine gespX_0_17_X0 65 C dX0_sinks_65 ?_
        refine wr_iload_n 68 C dX0_sinks_68 2 rfl rfl ?_
        obtain ⟨g5, hf⟩ := o_g hf
        refine wr_iald 69 C dX0_sinks_69 spX_11 g5 ?_
        obtain ⟨g6, hf⟩ := o_g hf
        refine wr_iald 70 C dX0_sinks_70 spX_10 g6 ?_
        refine wr_aload_n 71 C dX0_sinks_71 0 rfl rfl ?_
        refine gespX_0_16_X0 72 C dX0_sinks_72 ?_
        refine wr_aload_n 75 C dX0_sinks_75 0 rfl rfl ?_
        refine gespX_0_17_X0 76 C dX0_sinks_76 ?_
        refine wr_iload_n 79 C dX0_sinks_79 1 rfl rfl ?_
        obtain ⟨g7, hf⟩ := o_g hf
        refine wr_iald 80 C dX0_sinks_80 spX_11 g7 ?_
        obtain ⟨g8, hf⟩ := o_g hf
        refine wr_iald 81 C dX0_sinks_81 spX_10 g8 ?_
        refine wr_icmp_lt 82 86 C dX0_sinks_82 (by decide) (fun c9 => ?_) (fun c9 => ?_)
        · replace hf := o_pos c9 hf
          refine wr_aload_n 86 C dX0_sinks_86 0 rfl rfl ?_
          refine wr_iload_n 87 C dX0_sinks_87 1 rfl rfl ?_
          refine wr_iload_n 88 C dX0_sinks_88 2 rfl rfl ?_
          obtain ⟨μ11, h10, hf⟩ := o_bindV hf
          refine wr_Vv (kc1 := 0) (ks1 := 0) 89 [] C dX0_sinks_89 (tX0_swaps l N   x1_ x4 μ3 μ11 h10) okX0_swaps q877 (b := 0) spX_0 rfl ⟨rfl, rfl, Nat.le_of_ble_eq_true rfl, Nat.le_of_ble_eq_true rfl, Nat.zero_le _, Nat.zero_le _⟩ (Nat.le_of_ble_eq_true rfl) rfl ?_
          refine wr_iload_n 92 C dX0_sinks_92 2 rfl rfl ?_
          refine wr_istore_n 93 [(1, .int x4), (0, .ref (q 0)), (2, .int x4)] C dX0_sinks_93 rfl rfl (Nat.le_of_ble_eq_true rfl) rfl ?_
          refine wr_goto 94 C dX0_sinks_94 (tgt := 2) (by decide) ?_
          refine wr_sub [(0, .ref (q 0)), (1, .int x4)] [1, 0] rfl ?_
          exact ih x4 μ11 hf
        · replace hf := o_neg c9 hf
          exact wr_vret 85 C dX0_sinks_85 ⟨Nat.zero_le _, Nat.zero_le _⟩ (Option.some.inj hf)
      refine wr_icmp_ge 27 60 C dX0_sinks_27 (by decide) (fun c12 => ?_) (fun c12 => ?_)
      · replace hf := o_pos c12 hf
        refine wr_sub [(0, .ref (q 0)), (1, .int x1_), (2, .int x2)] [1, 2, 0] rfl ?_
        exact hJsinks60 x2 μ hf
      · replace hf := o_neg c12 hf
        refine wr_aload_n 30 C dX0_sinks_30 1 rfl rfl ?_
        refine gespX_0_16_X0 31 C dX0_sinks_31 ?_
        refine wr_aload_n 34 C dX0_sinks_34 1 rfl rfl ?_
        refine gespX_0_17_X0 35 C dX0_sinks_35 ?_
        refine wr_iload_n 38 C dX0_sinks_38 0 rfl rfl ?_
        refine wr_iconst 39 C dX0_sinks_39 (v := 1) rfl ?_
        refine wr_iadd 40 C dX0_sinks_40 ?_
        obtain ⟨g13, hf⟩ := o_g hf
        refine wr_iald 41 C dX0_sinks_41 spX_11 g13 ?_
        obtain ⟨g14, hf⟩ := o_g hf
        refine wr_iald 42 C dX0_sinks_42 spX_10 g14 ?_
        refine wr_aload_n 43 C dX0_sinks_43 1 rfl rfl ?_
        refine gespX_0_16_X0 44 C dX0_sinks_44 ?_
        refine wr_aload_n 47 C dX0_sinks_47 1 rfl rfl ?_
        refine gespX_0_17_X0 48 C dX0_sinks_48 ?_
        refine wr_iload_n 51 C dX0_sinks_51 0 rfl rfl ?_
        obtain ⟨g15, hf⟩ := o_g hf
        refine wr_iald 52 C dX0_sinks_52 spX_11 g15 ?_
        obtain ⟨g16, hf⟩ := o_g hf
        refine wr_iald 53 C dX0_sinks_53 spX_10 g16 ?_
        refine wr_icmp_ge 54 60 C dX0_sinks_54 (by decide) (fun c17 => ?_) (fun c17 => ?_)
        · replace hf := o_pos c17 hf
          refine wr_sub [(0, .ref (q 0)), (1, .int x1_), (2, .int x2)] [1, 2, 0] rfl ?_
          exact hJsinks60 x2 μ hf
        · replace hf := o_neg c17 hf
          obtain ⟨x18, ex18, hf⟩ := o_let hf
          refine wr_iinc 57 [(2, .int x18), (0, .ref (q 0)), (1, .int x1_)] C dX0_sinks_57 0 rfl (ex18.trans rfl) (Nat.le_of_ble_eq_true rfl) rfl ?_
          refine wr_sub [(0, .ref (q 0)), (1, .int x1_), (2, .int x18)] [1, 2, 0] rfl ?_
          exact hJsinks60 x18 μ hf
def fX0_sinks (N : Nat)   (μ : wMem) : Option wMem :=
  gX0_sinks_2 N   (fun  (μ19 : wMem) => some μ19) N 0 μ
set_option maxHeartbeats 4000000 in
set_option maxRecDepth 100000 in
theorem tX0_sinks (l : Launch) {D : va_G} {E : List wCell} {q : Nat → Nat} {ca : wCA} (N : Nat)    (μ : wMem) (r0 : wMem) (hf : fX0_sinks N   μ = some r0) : wMv l yX0_sinks cX0_sinks 3 none ({ frames := 1, cells := 0, slots := 0, locals := 23 } : Room) D vwCl (spX ++ E) q ca [.ref (q 0)] μ r0 := by
  refine wMv_intro (by decide) (Nat.le_of_ble_eq_true rfl) ?_
  intro p e s m args below meth c A C
  unfold fX0_sinks at hf
  refine wr_sub [(0, .ref (q 0))] [0] rfl ?_
  refine wr_iconst 0 C dX0_sinks_0 (v := 0) rfl ?_
  refine wr_istore_n 1 [(1, .int 0), (0, .ref (q 0))] C dX0_sinks_1 rfl rfl (Nat.le_of_ble_eq_true rfl) rfl ?_
  refine wr_sub [(0, .ref (q 0)), (1, .int 0)] [1, 0] rfl ?_
  refine tX0_sinks_2 C N    _ r0 (fun  μ19 hf => ?_) N 0 μ hf
  · replace hf := hf
    exact wr_vret 97 C dX0_sinks_97 ⟨Nat.zero_le _, Nat.zero_le _⟩ (Option.some.inj hf)
abbrev cX0_be : ByteArray := prog_1_method_22_code
def yX0_be : MethodName := ⟨RX0, "be", "(I)V"⟩
def dkwX0_be_3 : List UInt8 := [181, 0, 179, 177]
abbrev dktX0_be_3 : List UInt8 := dkwX0_be_3 ++ []
def dkwX0_be_2 : List UInt8 := [108, 16, 7, 108, 5, 112, 181, 0, 182, 42, 27, 16, 16, 108, 16, 7, 108, 16, 7, 108, 5, 108]
abbrev dktX0_be_2 : List UInt8 := dkwX0_be_2 ++ dktX0_be_3
def dkwX0_be_1 : List UInt8 := [180, 0, 24, 3, 27, 16, 16, 108, 16, 7, 108, 16, 7, 112, 4, 100, 79, 42, 27, 16, 16, 108, 16, 7]
abbrev dktX0_be_1 : List UInt8 := dkwX0_be_1 ++ dktX0_be_2
def dkwX0_be_0 : List UInt8 := [42, 27, 16, 16, 112, 181, 0, 185, 42, 180, 0, 24, 4, 27, 16, 16, 108, 16, 7, 112, 4, 100, 79, 42]
abbrev dktX0_be_0 : List UInt8 := dkwX0_be_0 ++ dktX0_be_1
theorem dksX0_be_0 : cX0_be.data.toList.drop 0 = dktX0_be_0 := by decide +kernel
theorem dksX0_be_1 : cX0_be.data.toList.drop 24 = dktX0_be_1 := dk_seg dksX0_be_0 24 rfl rfl
theorem dksX0_be_2 : cX0_be.data.toList.drop 48 = dktX0_be_2 := dk_seg dksX0_be_1 24 rfl rfl
theorem dksX0_be_3 : cX0_be.data.toList.drop 70 = dktX0_be_3 := dk_seg dksX0_be_2 22 rfl rfl
theorem dX0_be_0 : decode cX0_be 0 = .ok (.aload_n 0, 1) := dk_42 (dk_at dksX0_be_0 0 rfl rfl)
theorem dX0_be_1 : decode cX0_be 1 = .ok (.iload_n 1, 1) := dk_27 (dk_at dksX0_be_0 1 rfl rfl)
theorem dX0_be_2 : decode cX0_be 2 = .ok (.bipush 16, 2) := dk_16 16 (dk_at dksX0_be_0 2 rfl rfl)
theorem dX0_be_4 : decode cX0_be 4 = .ok (.irem, 1) := dk_112 (dk_at dksX0_be_0 4 rfl rfl)
theorem dX0_be_5 : decode cX0_be 5 = .ok (.putfield 185, 3) := dk_181 0 185 (dk_at dksX0_be_0 5 rfl rfl)
theorem dX0_be_8 : decode cX0_be 8 = .ok (.aload_n 0, 1) := dk_42 (dk_at dksX0_be_0 8 rfl rfl)
theorem dX0_be_9 : decode cX0_be 9 = .ok (.getfield 24, 3) := dk_180 0 24 (dk_at dksX0_be_0 9 rfl rfl)
theorem dX0_be_12 : decode cX0_be 12 = .ok (.iconst 1, 1) := dk_4 (dk_at dksX0_be_0 12 rfl rfl)
theorem dX0_be_13 : decode cX0_be 13 = .ok (.iload_n 1, 1) := dk_27 (dk_at dksX0_be_0 13 rfl rfl)
theorem dX0_be_14 : decode cX0_be 14 = .ok (.bipush 16, 2) := dk_16 16 (dk_at dksX0_be_0 14 rfl rfl)
theorem dX0_be_16 : decode cX0_be 16 = .ok (.idiv, 1) := dk_108 (dk_at dksX0_be_0 16 rfl rfl)
theorem dX0_be_17 : decode cX0_be 17 = .ok (.bipush 7, 2) := dk_16 7 (dk_at dksX0_be_0 17 rfl rfl)
theorem dX0_be_19 : decode cX0_be 19 = .ok (.irem, 1) := dk_112 (dk_at dksX0_be_0 19 rfl rfl)
theorem dX0_be_20 : decode cX0_be 20 = .ok (.iconst 1, 1) := dk_4 (dk_at dksX0_be_0 20 rfl rfl)
theorem dX0_be_21 : decode cX0_be 21 = .ok (.isub, 1) := dk_100 (dk_at dksX0_be_0 21 rfl rfl)
theorem dX0_be_22 : decode cX0_be 22 = .ok (.iastore, 1) := dk_79 (dk_at dksX0_be_0 22 rfl rfl)
theorem dX0_be_23 : decode cX0_be 23 = .ok (.aload_n 0, 1) := dk_42 (dk_at dksX0_be_0 23 rfl rfl)
theorem dX0_be_24 : decode cX0_be 24 = .ok (.getfield 24, 3) := dk_180 0 24 (dk_at dksX0_be_1 0 rfl rfl)
theorem dX0_be_27 : decode cX0_be 27 = .ok (.iconst 0, 1) := dk_3 (dk_at dksX0_be_1 3 rfl rfl)
theorem dX0_be_28 : decode cX0_be 28 = .ok (.iload_n 1, 1) := dk_27 (dk_at dksX0_be_1 4 rfl rfl)
theorem dX0_be_29 : decode cX0_be 29 = .ok (.bipush 16, 2) := dk_16 16 (dk_at dksX0_be_1 5 rfl rfl)
theorem dX0_be_31 : decode cX0_be 31 = .ok (.idiv, 1) := dk_108 (dk_at dksX0_be_1 7 rfl rfl)
theorem dX0_be_32 : decode cX0_be 32 = .ok (.bipush 7, 2) := dk_16 7 (dk_at dksX0_be_1 8 rfl rfl)
theorem dX0_be_34 : decode cX0_be 34 = .ok (.idiv, 1) := dk_108 (dk_at dksX0_be_1 10 rfl rfl)
theorem dX0_be_35 : decode cX0_be 35 = .ok (.bipush 7, 2) := dk_16 7 (dk_at dksX0_be_1 11 rfl rfl)
theorem dX0_be_37 : decode cX0_be 37 = .ok (.irem, 1) := dk_112 (dk_at dksX0_be_1 13 rfl rfl)
theorem dX0_be_38 : decode cX0_be 38 = .ok (.iconst 1, 1) := dk_4 (dk_at dksX0_be_1 14 rfl rfl)
theorem dX0_be_39 : decode cX0_be 39 = .ok (.isub, 1) := dk_100 (dk_at dksX0_be_1 15 rfl rfl)
theorem dX0_be_40 : decode cX0_be 40 = .ok (.iastore, 1) := dk_79 (dk_at dksX0_be_1 16 rfl rfl)
theorem dX0_be_41 : decode cX0_be 41 = .ok (.aload_n 0, 1) := dk_42 (dk_at dksX0_be_1 17 rfl rfl)
theorem dX0_be_42 : decode cX0_be 42 = .ok (.iload_n 1, 1) := dk_27 (dk_at dksX0_be_1 18 rfl rfl)
theorem dX0_be_43 : decode cX0_be 43 = .ok (.bipush 16, 2) := dk_16 16 (dk_at dksX0_be_1 19 rfl rfl)
theorem dX0_be_45 : decode cX0_be 45 = .ok (.idiv, 1) := dk_108 (dk_at dksX0_be_1 21 rfl rfl)
theorem dX0_be_46 : decode cX0_be 46 = .ok (.bipush 7, 2) := dk_16 7 (dk_at dksX0_be_1 22 rfl rfl)
theorem dX0_be_48 : decode cX0_be 48 = .ok (.idiv, 1) := dk_108 (dk_at dksX0_be_2 0 rfl rfl)
theorem dX0_be_49 : decode cX0_be 49 = .ok (.bipush 7, 2) := dk_16 7 (dk_at dksX0_be_2 1 rfl rfl)
theorem dX0_be_51 : decode cX0_be 51 = .ok (.idiv, 1) := dk_108 (dk_at dksX0_be_2 3 rfl rfl)
theorem dX0_be_52 : decode cX0_be 52 = .ok (.iconst 2, 1) := dk_5 (dk_at dksX0_be_2 4 rfl rfl)
theorem dX0_be_53 : decode cX0_be 53 = .ok (.irem, 1) := dk_112 (dk_at dksX0_be_2 5 rfl rfl)
theorem dX0_be_54 : decode cX0_be 54 = .ok (.putfield 182, 3) := dk_181 0 182 (dk_at dksX0_be_2 6 rfl rfl)
theorem dX0_be_57 : decode cX0_be 57 = .ok (.aload_n 0, 1) := dk_42 (dk_at dksX0_be_2 9 rfl rfl)
theorem dX0_be_58 : decode cX0_be 58 = .ok (.iload_n 1, 1) := dk_27 (dk_at dksX0_be_2 10 rfl rfl)
theorem dX0_be_59 : decode cX0_be 59 = .ok (.bipush 16, 2) := dk_16 16 (dk_at dksX0_be_2 11 rfl rfl)
theorem dX0_be_61 : decode cX0_be 61 = .ok (.idiv, 1) := dk_108 (dk_at dksX0_be_2 13 rfl rfl)
theorem dX0_be_62 : decode cX0_be 62 = .ok (.bipush 7, 2) := dk_16 7 (dk_at dksX0_be_2 14 rfl rfl)
theorem dX0_be_64 : decode cX0_be 64 = .ok (.idiv, 1) := dk_108 (dk_at dksX0_be_2 16 rfl rfl)
theorem dX0_be_65 : decode cX0_be 65 = .ok (.bipush 7, 2) := dk_16 7 (dk_at dksX0_be_2 17 rfl rfl)
theorem dX0_be_67 : decode cX0_be 67 = .ok (.idiv, 1) := dk_108 (dk_at dksX0_be_2 19 rfl rfl)
theorem dX0_be_68 : decode cX0_be 68 = .ok (.iconst 2, 1) := dk_5 (dk_at dksX0_be_2 20 rfl rfl)
theorem dX0_be_69 : decode cX0_be 69 = .ok (.idiv, 1) := dk_108 (dk_at dksX0_be_2 21 rfl rfl)
theorem dX0_be_70 : decode cX0_be 70 = .ok (.putfield 179, 3) := dk_181 0 179 (dk_at dksX0_be_3 0 rfl rfl)
theorem dX0_be_73 : decode cX0_be 73 = .ok (.return_, 1) := dk_177 (dk_at dksX0_be_3 3 rfl rfl)

theorem okX0_be : wOkV yX0_be cX0_be 2 none 1 := ⟨q887, qs40, q136, q888, by decide, by decide, by decide +kernel⟩
def fX0_be (N : Nat)  (a1 : Int32) (μ : wMem) : Option wMem :=
  wLet (wSI μ 0 7 (a1 - a1 / (16 : Int32) * (16 : Int32))) fun μ1 => wG (ok_in (1 : Int32) 2) (wLet (wSI μ1 9 (Int32.toNatClampNeg (1 : Int32)) (((a1 / (16 : Int32)) - (a1 / (16 : Int32)) / (7 : Int32) * (7 : Int32)) - (1 : Int32))) fun μ3 => wG (ok_in (0 : Int32) 2) (wLet (wSI μ3 9 (Int32.toNatClampNeg (0 : Int32)) ((((a1 / (16 : Int32)) / (7 : Int32)) - ((a1 / (16 : Int32)) / (7 : Int32)) / (7 : Int32) * (7 : Int32)) - (1 : Int32))) fun μ5 => wLet (wSI μ5 0 6 ((((a1 / (16 : Int32)) / (7 : Int32)) / (7 : Int32)) - (((a1 / (16 : Int32)) / (7 : Int32)) / (7 : Int32)) / (2 : Int32) * (2 : Int32))) fun μ6 => wLet (wSI μ6 0 5 ((((a1 / (16 : Int32)) / (7 : Int32)) / (7 : Int32)) / (2 : Int32))) fun μ7 => some μ7))
set_option maxHeartbeats 4000000 in
set_option maxRecDepth 100000 in
theorem tX0_be (l : Launch) {D : va_G} {E : List wCell} {q : Nat → Nat} {ca : wCA} (N : Nat)   (a1 : Int32) (μ : wMem) (r0 : wMem) (hf : fX0_be N  a1 μ = some r0) : wMv l yX0_be cX0_be 2 none ({ frames := 0, cells := 0, slots := 0, locals := 0 } : Room) D vwCl (spX ++ E) q ca [.ref (q 0), .int a1] μ r0 := by
  refine wMv_intro (by decide) (Nat.le_of_ble_eq_true rfl) ?_
  intro p e s m args below meth c A C
  unfold fX0_be at hf
  refine wr_sub [(0, .ref (q 0)), (1, .int a1)] [0, 1] rfl ?_
  refine wr_aload_n 0 C dX0_be_0 0 rfl rfl ?_
  refine wr_iload_n 1 C dX0_be_1 1 rfl rfl ?_
  refine wr_bipush 2 C dX0_be_2 (v := 16) rfl ?_
  refine wr_irem 4 C dX0_be_4 (by decide) ?_
  obtain ⟨μ1, eμ1, hf⟩ := o_let hf
  refine puspX_0_7_X0 5 C dX0_be_5 eμ1 ?_
  refine wr_aload_n 8 C dX0_be_8 0 rfl rfl ?_
  refine gespX_0_8_X0 9 C dX0_be_9 ?_
  refine wr_iconst 12 C dX0_be_12 (v := 1) rfl ?_
  refine wr_iload_n 13 C dX0_be_13 1 rfl rfl ?_
  refine wr_bipush 14 C dX0_be_14 (v := 16) rfl ?_
  refine wr_idiv 16 C dX0_be_16 (by decide) ?_
  refine wr_bipush 17 C dX0_be_17 (v := 7) rfl ?_
  refine wr_irem 19 C dX0_be_19 (by decide) ?_
  refine wr_iconst 20 C dX0_be_20 (v := 1) rfl ?_
  refine wr_isub 21 C dX0_be_21 ?_
  obtain ⟨g2, hf⟩ := o_g hf
  obtain ⟨μ3, eμ3, hf⟩ := o_let hf
  refine wr_iast 22 C dX0_be_22 spX_9 g2 eμ3 ?_
  refine wr_aload_n 23 C dX0_be_23 0 rfl rfl ?_
  refine gespX_0_8_X0 24 C dX0_be_24 ?_
  refine wr_iconst 27 C dX0_be_27 (v := 0) rfl ?_
  refine wr_iload_n 28 C dX0_be_28 1 rfl rfl ?_
  refine wr_bipush 29 C dX0_be_29 (v := 16) rfl ?_
  refine wr_idiv 31 C dX0_be_31 (by decide) ?_
  refine wr_bipush 32 C dX0_be_32 (v := 7) rfl ?_
  refine wr_idiv 34 C dX0_be_34 (by decide) ?_
  refine wr_bipush 35 C dX0_be_35 (v := 7) rfl ?_
  refine wr_irem 37 C dX0_be_37 (by decide) ?_
  refine wr_iconst 38 C dX0_be_38 (v := 1) rfl ?_
  refine wr_isub 39 C dX0_be_39 ?_
  obtain ⟨g4, hf⟩ := o_g hf
  obtain ⟨μ5, eμ5, hf⟩ := o_let hf
  refine wr_iast 40 C dX0_be_40 spX_9 g4 eμ5 ?_
  refine wr_aload_n 41 C dX0_be_41 0 rfl rfl ?_
  refine wr_iload_n 42 C dX0_be_42 1 rfl rfl ?_
  refine wr_bipush 43 C dX0_be_43 (v := 16) rfl ?_
  refine wr_idiv 45 C dX0_be_45 (by decide) ?_
  refine wr_bipush 46 C dX0_be_46 (v := 7) rfl ?_
  refine wr_idiv 48 C dX0_be_48 (by decide) ?_
  refine wr_bipush 49 C dX0_be_49 (v := 7) rfl ?_
  refine wr_idiv 51 C dX0_be_51 (by decide) ?_
  refine wr_iconst 52 C dX0_be_52 (v := 2) rfl ?_
  refine wr_irem 53 C dX0_be_53 (by decide) ?_
  obtain ⟨μ6, eμ6, hf⟩ := o_let hf
  refine puspX_0_6_X0 54 C dX0_be_54 eμ6 ?_
  refine wr_aload_n 57 C dX0_be_57 0 rfl rfl ?_
  refine wr_iload_n 58 C dX0_be_58 1 rfl rfl ?_
  refine wr_bipush 59 C dX0_be_59 (v := 16) rfl ?_
  refine wr_idiv 61 C dX0_be_61 (by decide) ?_
  refine wr_bipush 62 C dX0_be_62 (v := 7) rfl ?_
  refine wr_idiv 64 C dX0_be_64 (by decide) ?_
  refine wr_bipush 65 C dX0_be_65 (v := 7) rfl ?_
  refine wr_idiv 67 C dX0_be_67 (by decide) ?_
  refine wr_iconst 68 C dX0_be_68 (v := 2) rfl ?_
  refine wr_idiv 69 C dX0_be_69 (by decide) ?_
  obtain ⟨μ7, eμ7, hf⟩ := o_let hf
  refine puspX_0_5_X0 70 C dX0_be_70 eμ7 ?_
  exact wr_vret 73 C dX0_be_73 ⟨Nat.zero_le _, Nat.zero_le _⟩ (Option.some.inj hf)
abbrev cX2_of : ByteArray := prog_3_method_2_code
def yX2_of : MethodName := ⟨RX2, "of", "(I)I"⟩
def dkwX2_of_0 : List UInt8 := [27, 17, 0, 200, 160, 0, 16, 42, 180, 0, 3, 180, 0, 15, 180, 0, 19, 167, 0, 4, 4, 172]
abbrev dktX2_of_0 : List UInt8 := dkwX2_of_0 ++ []
theorem dksX2_of_0 : cX2_of.data.toList.drop 0 = dktX2_of_0 := by decide +kernel
theorem dX2_of_0 : decode cX2_of 0 = .ok (.iload_n 1, 1) := dk_27 (dk_at dksX2_of_0 0 rfl rfl)
theorem dX2_of_1 : decode cX2_of 1 = .ok (.sipush 200, 3) := dk_17 0 200 (dk_at dksX2_of_0 1 rfl rfl)
theorem dX2_of_4 : decode cX2_of 4 = .ok (.if_icmp .ne 16, 3) := dk_160 0 16 (dk_at dksX2_of_0 4 rfl rfl)
theorem dX2_of_7 : decode cX2_of 7 = .ok (.aload_n 0, 1) := dk_42 (dk_at dksX2_of_0 7 rfl rfl)
theorem dX2_of_8 : decode cX2_of 8 = .ok (.getfield 3, 3) := dk_180 0 3 (dk_at dksX2_of_0 8 rfl rfl)
theorem dX2_of_11 : decode cX2_of 11 = .ok (.getfield 15, 3) := dk_180 0 15 (dk_at dksX2_of_0 11 rfl rfl)
theorem dX2_of_14 : decode cX2_of 14 = .ok (.getfield 19, 3) := dk_180 0 19 (dk_at dksX2_of_0 14 rfl rfl)
theorem dX2_of_17 : decode cX2_of 17 = .ok (.goto 4, 3) := dk_167 0 4 (dk_at dksX2_of_0 17 rfl rfl)
theorem dX2_of_20 : decode cX2_of 20 = .ok (.iconst 1, 1) := dk_4 (dk_at dksX2_of_0 20 rfl rfl)
theorem dX2_of_21 : decode cX2_of 21 = .ok (.ireturn, 1) := dk_172 (dk_at dksX2_of_0 21 rfl rfl)
theorem gespX_0_0_X2 {p : Program} {l : Launch} {e : Env} {R : Room} {s : State} {m : MethodId} {args : Array Value} {below : List Frame} {meth : Method} {c : Code} {cc : ByteArray} {nL : Nat} {ret : Option FieldType} {D : va_G} {E : List wCell} {q : Nat → Nat} {ca : wCA} {A : Nat → Prop} {Q : State → Prop} {kc ks : Nat} {μ : wMem} {lv : List (Nat × Value)} {st : List Value} (pc : Nat) (C : wC p R s m args meth c cc "OnePassport$Days" nL ret D vwCl (spX ++ E) q ca A) (hd : decode cc pc = .ok (.getfield 15, 3)) (k : wJ p l e R s m args below meth c nL D vwCl (spX ++ E) q ca A Q kc ks μ (pc + 3) lv (.ref (q 1) :: st)) : wJ p l e R s m args below meth c nL D vwCl (spX ++ E) q ca A Q kc ks μ pc lv (.ref (q 0) :: st) := wr_getNR pc 0 C hd spX_0 rfl in_X0 (by decide) rfl q328 k
theorem gespX_1_0_X2 {p : Program} {l : Launch} {e : Env} {R : Room} {s : State} {m : MethodId} {args : Array Value} {below : List Frame} {meth : Method} {c : Code} {cc : ByteArray} {nL : Nat} {ret : Option FieldType} {D : va_G} {E : List wCell} {q : Nat → Nat} {ca : wCA} {A : Nat → Prop} {Q : State → Prop} {kc ks : Nat} {μ : wMem} {lv : List (Nat × Value)} {st : List Value} (pc : Nat) (C : wC p R s m args meth c cc "OnePassport$Days" nL ret D vwCl (spX ++ E) q ca A) (hd : decode cc pc = .ok (.getfield 19, 3)) (k : wJ p l e R s m args below meth c nL D vwCl (spX ++ E) q ca A Q kc ks μ (pc + 3) lv (.int (μ.1 1 0) :: st)) : wJ p l e R s m args below meth c nL D vwCl (spX ++ E) q ca A Q kc ks μ pc lv (.ref (q 1) :: st) := wr_getNI pc 0 C hd spX_1 rfl in_X1 (by decide) rfl q183 k
theorem gespX_19_0_X2 {p : Program} {l : Launch} {e : Env} {R : Room} {s : State} {m : MethodId} {args : Array Value} {below : List Frame} {meth : Method} {c : Code} {cc : ByteArray} {nL : Nat} {ret : Option FieldType} {D : va_G} {E : List wCell} {q : Nat → Nat} {ca : wCA} {A : Nat → Prop} {Q : State → Prop} {kc ks : Nat} {μ : wMem} {lv : List (Nat × Value)} {st : List Value} (pc : Nat) (C : wC p R s m args meth c cc "OnePassport$Days" nL ret D vwCl (spX ++ E) q ca A) (hd : decode cc pc = .ok (.getfield 3, 3)) (k : wJ p l e R s m args below meth c nL D vwCl (spX ++ E) q ca A Q kc ks μ (pc + 3) lv (.ref (q 0) :: st)) : wJ p l e R s m args below meth c nL D vwCl (spX ++ E) q ca A Q kc ks μ pc lv (.ref (q 19) :: st) := wr_getR pc 0 C hd spX_19 rfl in_X2 (by decide) rfl q259 k
theorem okX2_of : wOkV yX2_of cX2_of 2 (some .int) 1 := ⟨q890, q891, q138, q900, by decide, by decide, by decide +kernel⟩
def fX2_of (N : Nat)  (a1 : Int32) (μ : wMem) : Option (Int32 × wMem) :=
  if a1 = (200 : Int32) then some (μ.1 1 0, μ) else some (1, μ)
set_option maxHeartbeats 4000000 in
set_option maxRecDepth 100000 in
theorem tX2_of (l : Launch) {D : va_G} {E : List wCell} {q : Nat → Nat} {ca : wCA} (N : Nat)   (a1 : Int32) (μ : wMem) (r0 : (Int32 × wMem)) (hf : fX2_of N  a1 μ = some r0) : wMi l yX2_of cX2_of 2 (some .int) ({ frames := 0, cells := 0, slots := 0, locals := 0 } : Room) D vwCl (spX ++ E) q ca [.ref (q 19), .int a1] μ r0 := by
  refine wMi_intro (by decide) (Nat.le_of_ble_eq_true rfl) ?_
  intro p e s m args below meth c A C
  unfold fX2_of at hf
  refine wr_sub [(0, .ref (q 19)), (1, .int a1)] [0, 1] rfl ?_
  refine wr_iload_n 0 C dX2_of_0 1 rfl rfl ?_
  refine wr_sipush 1 C dX2_of_1 (v := 200) rfl ?_
  refine wr_icmp_ne 4 20 C dX2_of_4 (by decide) (fun c1 => ?_) (fun c1 => ?_)
  · replace hf := o_neg c1 hf
    refine wr_iconst 20 C dX2_of_20 (v := 1) rfl ?_
    exact wr_iret 21 C dX2_of_21 ⟨Nat.zero_le _, Nat.zero_le _⟩ (Option.some.inj hf)
  · replace hf := o_pos c1 hf
    refine wr_aload_n 7 C dX2_of_7 0 rfl rfl ?_
    refine gespX_19_0_X2 8 C dX2_of_8 ?_
    refine gespX_0_0_X2 11 C dX2_of_11 ?_
    refine gespX_1_0_X2 14 C dX2_of_14 ?_
    refine wr_goto 17 C dX2_of_17 (tgt := 21) (by decide) ?_
    exact wr_iret 21 C dX2_of_21 ⟨Nat.zero_le _, Nat.zero_le _⟩ (Option.some.inj hf)
theorem gespX_20_0_X2 {p : Program} {l : Launch} {e : Env} {R : Room} {s : State} {m : MethodId} {args : Array Value} {below : List Frame} {meth : Method} {c : Code} {cc : ByteArray} {nL : Nat} {ret : Option FieldType} {D : va_G} {E : List wCell} {q : Nat → Nat} {ca : wCA} {A : Nat → Prop} {Q : State → Prop} {kc ks : Nat} {μ : wMem} {lv : List (Nat × Value)} {st : List Value} (pc : Nat) (C : wC p R s m args meth c cc "OnePassport$Days" nL ret D vwCl (spX ++ E) q ca A) (hd : decode cc pc = .ok (.getfield 3, 3)) (k : wJ p l e R s m args below meth c nL D vwCl (spX ++ E) q ca A Q kc ks μ (pc + 3) lv (.ref (q 0) :: st)) : wJ p l e R s m args below meth c nL D vwCl (spX ++ E) q ca A Q kc ks μ pc lv (.ref (q 20) :: st) := wr_getR pc 0 C hd spX_20 rfl in_X3 (by decide) rfl q259 k
def fX2_of_t20 (N : Nat)  (a1 : Int32) (μ : wMem) : Option (Int32 × wMem) :=
  if a1 = (200 : Int32) then some (μ.1 1 0, μ) else some (1, μ)
set_option maxHeartbeats 4000000 in
set_option maxRecDepth 100000 in
theorem tX2_of_t20 (l : Launch) {D : va_G} {E : List wCell} {q : Nat → Nat} {ca : wCA} (N : Nat)   (a1 : Int32) (μ : wMem) (r0 : (Int32 × wMem)) (hf : fX2_of_t20 N  a1 μ = some r0) : wMi l yX2_of cX2_of 2 (some .int) ({ frames := 0, cells := 0, slots := 0, locals := 0 } : Room) D vwCl (spX ++ E) q ca [.ref (q 20), .int a1] μ r0 := by
  refine wMi_intro (by decide) (Nat.le_of_ble_eq_true rfl) ?_
  intro p e s m args below meth c A C
  unfold fX2_of_t20 at hf
  refine wr_sub [(0, .ref (q 20)), (1, .int a1)] [0, 1] rfl ?_
  refine wr_iload_n 0 C dX2_of_0 1 rfl rfl ?_
  refine wr_sipush 1 C dX2_of_1 (v := 200) rfl ?_
  refine wr_icmp_ne 4 20 C dX2_of_4 (by decide) (fun c1 => ?_) (fun c1 => ?_)
  · replace hf := o_neg c1 hf
    refine wr_iconst 20 C dX2_of_20 (v := 1) rfl ?_
    exact wr_iret 21 C dX2_of_21 ⟨Nat.zero_le _, Nat.zero_le _⟩ (Option.some.inj hf)
  · replace hf := o_pos c1 hf
    refine wr_aload_n 7 C dX2_of_7 0 rfl rfl ?_
    refine gespX_20_0_X2 8 C dX2_of_8 ?_
    refine gespX_0_0_X2 11 C dX2_of_11 ?_
    refine gespX_1_0_X2 14 C dX2_of_14 ?_
    refine wr_goto 17 C dX2_of_17 (tgt := 21) (by decide) ?_
    exact wr_iret 21 C dX2_of_21 ⟨Nat.zero_le _, Nat.zero_le _⟩ (Option.some.inj hf)

abbrev cX4_of : ByteArray := prog_2_method_2_code
def yX4_of : MethodName := ⟨RX4, "of", "(I)I"⟩
def dkwX4_of_0 : List UInt8 := [27, 17, 0, 200, 160, 0, 7, 4, 167, 0, 6, 17, 3, 233, 172]
abbrev dktX4_of_0 : List UInt8 := dkwX4_of_0 ++ []
theorem dksX4_of_0 : cX4_of.data.toList.drop 0 = dktX4_of_0 := by decide +kernel
theorem dX4_of_0 : decode cX4_of 0 = .ok (.iload_n 1, 1) := dk_27 (dk_at dksX4_of_0 0 rfl rfl)
theorem dX4_of_1 : decode cX4_of 1 = .ok (.sipush 200, 3) := dk_17 0 200 (dk_at dksX4_of_0 1 rfl rfl)
theorem dX4_of_4 : decode cX4_of 4 = .ok (.if_icmp .ne 7, 3) := dk_160 0 7 (dk_at dksX4_of_0 4 rfl rfl)
theorem dX4_of_7 : decode cX4_of 7 = .ok (.iconst 1, 1) := dk_4 (dk_at dksX4_of_0 7 rfl rfl)
theorem dX4_of_8 : decode cX4_of 8 = .ok (.goto 6, 3) := dk_167 0 6 (dk_at dksX4_of_0 8 rfl rfl)
theorem dX4_of_11 : decode cX4_of 11 = .ok (.sipush 1001, 3) := dk_17 3 233 (dk_at dksX4_of_0 11 rfl rfl)
theorem dX4_of_14 : decode cX4_of 14 = .ok (.ireturn, 1) := dk_172 (dk_at dksX4_of_0 14 rfl rfl)

def fX4_of (N : Nat)  (a1 : Int32) (μ : wMem) : Option (Int32 × wMem) :=
  if a1 = (200 : Int32) then some (1, μ) else some (1001, μ)
set_option maxHeartbeats 4000000 in
set_option maxRecDepth 100000 in
theorem tX4_of (l : Launch) {D : va_G} {E : List wCell} {q : Nat → Nat} {ca : wCA} (N : Nat)   (a1 : Int32) (μ : wMem) (r0 : (Int32 × wMem)) (hf : fX4_of N  a1 μ = some r0) : wMi l yX4_of cX4_of 2 (some .int) ({ frames := 0, cells := 0, slots := 0, locals := 0 } : Room) D vwCl (spX ++ E) q ca [.ref (q 21), .int a1] μ r0 := by
  refine wMi_intro (by decide) (Nat.le_of_ble_eq_true rfl) ?_
  intro p e s m args below meth c A C
  unfold fX4_of at hf
  refine wr_sub [(0, .ref (q 21)), (1, .int a1)] [0, 1] rfl ?_
  refine wr_iload_n 0 C dX4_of_0 1 rfl rfl ?_
  refine wr_sipush 1 C dX4_of_1 (v := 200) rfl ?_
  refine wr_icmp_ne 4 11 C dX4_of_4 (by decide) (fun c1 => ?_) (fun c1 => ?_)
  · replace hf := o_neg c1 hf
    refine wr_sipush 11 C dX4_of_11 (v := 1001) rfl ?_
    exact wr_iret 14 C dX4_of_14 ⟨Nat.zero_le _, Nat.zero_le _⟩ (Option.some.inj hf)
  · replace hf := o_pos c1 hf
    refine wr_iconst 7 C dX4_of_7 (v := 1) rfl ?_
    refine wr_goto 8 C dX4_of_8 (tgt := 14) (by decide) ?_
    exact wr_iret 14 C dX4_of_14 ⟨Nat.zero_le _, Nat.zero_le _⟩ (Option.some.inj hf)
abbrev cX3_of : ByteArray := prog_7_method_2_code
def yX3_of : MethodName := ⟨RX3, "of", "(I)I"⟩
def dkwX3_of_1 : List UInt8 := [184, 0, 19, 27, 184, 0, 22, 182, 0, 25, 104, 96, 172]
abbrev dktX3_of_1 : List UInt8 := dkwX3_of_1 ++ []
def dkwX3_of_0 : List UInt8 := [42, 27, 183, 0, 15, 27, 17, 0, 200, 160, 0, 7, 3, 167, 0, 22, 17, 3, 232, 42, 180, 0, 3, 27]
abbrev dktX3_of_0 : List UInt8 := dkwX3_of_0 ++ dktX3_of_1
theorem dksX3_of_0 : cX3_of.data.toList.drop 0 = dktX3_of_0 := by decide +kernel
theorem dksX3_of_1 : cX3_of.data.toList.drop 24 = dktX3_of_1 := dk_seg dksX3_of_0 24 rfl rfl
theorem dX3_of_0 : decode cX3_of 0 = .ok (.aload_n 0, 1) := dk_42 (dk_at dksX3_of_0 0 rfl rfl)
theorem dX3_of_1 : decode cX3_of 1 = .ok (.iload_n 1, 1) := dk_27 (dk_at dksX3_of_0 1 rfl rfl)
theorem dX3_of_2 : decode cX3_of 2 = .ok (.invokespecial 15, 3) := dk_183 0 15 (dk_at dksX3_of_0 2 rfl rfl)
theorem dX3_of_5 : decode cX3_of 5 = .ok (.iload_n 1, 1) := dk_27 (dk_at dksX3_of_0 5 rfl rfl)
theorem dX3_of_6 : decode cX3_of 6 = .ok (.sipush 200, 3) := dk_17 0 200 (dk_at dksX3_of_0 6 rfl rfl)
theorem dX3_of_9 : decode cX3_of 9 = .ok (.if_icmp .ne 7, 3) := dk_160 0 7 (dk_at dksX3_of_0 9 rfl rfl)
theorem dX3_of_12 : decode cX3_of 12 = .ok (.iconst 0, 1) := dk_3 (dk_at dksX3_of_0 12 rfl rfl)
theorem dX3_of_13 : decode cX3_of 13 = .ok (.goto 22, 3) := dk_167 0 22 (dk_at dksX3_of_0 13 rfl rfl)
theorem dX3_of_16 : decode cX3_of 16 = .ok (.sipush 1000, 3) := dk_17 3 232 (dk_at dksX3_of_0 16 rfl rfl)
theorem dX3_of_19 : decode cX3_of 19 = .ok (.aload_n 0, 1) := dk_42 (dk_at dksX3_of_0 19 rfl rfl)
theorem dX3_of_20 : decode cX3_of 20 = .ok (.getfield 3, 3) := dk_180 0 3 (dk_at dksX3_of_0 20 rfl rfl)
theorem dX3_of_23 : decode cX3_of 23 = .ok (.iload_n 1, 1) := dk_27 (dk_at dksX3_of_0 23 rfl rfl)
theorem dX3_of_24 : decode cX3_of 24 = .ok (.invokestatic 19, 3) := dk_184 0 19 (dk_at dksX3_of_1 0 rfl rfl)
theorem dX3_of_27 : decode cX3_of 27 = .ok (.iload_n 1, 1) := dk_27 (dk_at dksX3_of_1 3 rfl rfl)
theorem dX3_of_28 : decode cX3_of 28 = .ok (.invokestatic 22, 3) := dk_184 0 22 (dk_at dksX3_of_1 4 rfl rfl)
theorem dX3_of_31 : decode cX3_of 31 = .ok (.invokevirtual 25, 3) := dk_182 0 25 (dk_at dksX3_of_1 7 rfl rfl)
theorem dX3_of_34 : decode cX3_of 34 = .ok (.imul, 1) := dk_104 (dk_at dksX3_of_1 10 rfl rfl)
theorem dX3_of_35 : decode cX3_of 35 = .ok (.iadd, 1) := dk_96 (dk_at dksX3_of_1 11 rfl rfl)
theorem dX3_of_36 : decode cX3_of 36 = .ok (.ireturn, 1) := dk_172 (dk_at dksX3_of_1 12 rfl rfl)
theorem gespX_20_1_X3 {p : Program} {l : Launch} {e : Env} {R : Room} {s : State} {m : MethodId} {args : Array Value} {below : List Frame} {meth : Method} {c : Code} {cc : ByteArray} {nL : Nat} {ret : Option FieldType} {D : va_G} {E : List wCell} {q : Nat → Nat} {ca : wCA} {A : Nat → Prop} {Q : State → Prop} {kc ks : Nat} {μ : wMem} {lv : List (Nat × Value)} {st : List Value} (pc : Nat) (C : wC p R s m args meth c cc "OnePassport$Risk" nL ret D vwCl (spX ++ E) q ca A) (hd : decode cc pc = .ok (.getfield 3, 3)) (k : wJ p l e R s m args below meth c nL D vwCl (spX ++ E) q ca A Q kc ks μ (pc + 3) lv (.ref (q 0) :: st)) : wJ p l e R s m args below meth c nL D vwCl (spX ++ E) q ca A Q kc ks μ pc lv (.ref (q 20) :: st) := wr_getR pc 1 C hd spX_20 rfl in_X3 (by decide) rfl q270 k
def fX3_of (N : Nat)  (a1 : Int32) (μ : wMem) : Option (Int32 × wMem) :=
  wBind (fX2_of_t20 N a1 μ) fun v3 μ2 => wLet (fun (v5 : Int32) (v6 : Int32) (μ4 : wMem) => some (v6 + v5, μ4)) fun Jof35 => if a1 = (200 : Int32) then Jof35 0 v3 μ2 else wBind (fX0_personIn N  a1 μ2) fun v10 μ9 => wBind (fX0_postIn N  a1 μ9) fun v13 μ12 => wBind (fX0_riskOf N  v10 v13 μ12) fun v16 μ15 => Jof35 ((1000 : Int32) * v16) v3 μ15
set_option maxHeartbeats 4000000 in
set_option maxRecDepth 100000 in
theorem tX3_of (l : Launch) {D : va_G} {E : List wCell} {q : Nat → Nat} {ca : wCA} (N : Nat)   (a1 : Int32) (μ : wMem) (r0 : (Int32 × wMem)) (hf : fX3_of N  a1 μ = some r0) : wMi l yX3_of cX3_of 2 (some .int) ({ frames := 1, cells := 0, slots := 0, locals := 22 } : Room) D vwCl (spX ++ E) q ca [.ref (q 20), .int a1] μ r0 := by
  refine wMi_intro (by decide) (Nat.le_of_ble_eq_true rfl) ?_
  intro p e s m args below meth c A C
  unfold fX3_of at hf
  refine wr_sub [(0, .ref (q 20)), (1, .int a1)] [0, 1] rfl ?_
  refine wr_aload_n 0 C dX3_of_0 0 rfl rfl ?_
  refine wr_iload_n 1 C dX3_of_1 1 rfl rfl ?_
  obtain ⟨v3, μ2, h1, hf⟩ := o_bind hf
  refine wr_SUi (kc1 := 0) (ks1 := 0) 2 [] C dX3_of_2 (tX2_of_t20 l N a1 μ (v3, μ2) h1) q899 q892 q274 q890 q138 q900 ⟨by decide, okX2_of.2.2.2.2.2.2⟩ (b := 20) spX_20 rfl ⟨rfl, rfl, Nat.le_of_ble_eq_true rfl, Nat.le_of_ble_eq_true rfl, Nat.zero_le _, Nat.zero_le _⟩ (Nat.le_of_ble_eq_true rfl) rfl ?_
  refine wr_iload_n 5 C dX3_of_5 1 rfl rfl ?_
  refine wr_sipush 6 C dX3_of_6 (v := 200) rfl ?_
  obtain ⟨Jof35, eJof35, hf⟩ := o_let hf
  have hJof35 : ∀ (v5 : Int32) (v6 : Int32) (μ4 : wMem), Jof35 v5 v6 μ4 = some r0 → wJ p l e ({ frames := 1, cells := 0, slots := 0, locals := 22 } : Room) s m args below meth c 2 D vwCl (spX ++ E) q ca A (wQi ({ frames := 1, cells := 0, slots := 0, locals := 22 } : Room) D vwCl (spX ++ E) q ca below args s A r0) 0 0 μ4 35 [] [.int v5, .int v6] := by
    intro v5 v6 μ4 hf
    rw [eJof35] at hf
    refine wr_iadd 35 C dX3_of_35 ?_
    exact wr_iret 36 C dX3_of_36 ⟨Nat.zero_le _, Nat.zero_le _⟩ (Option.some.inj hf)
  refine wr_icmp_ne 9 16 C dX3_of_9 (by decide) (fun c7 => ?_) (fun c7 => ?_)
  · replace hf := o_neg c7 hf
    refine wr_sipush 16 C dX3_of_16 (v := 1000) rfl ?_
    refine wr_aload_n 19 C dX3_of_19 0 rfl rfl ?_
    refine gespX_20_1_X3 20 C dX3_of_20 ?_
    refine wr_iload_n 23 C dX3_of_23 1 rfl rfl ?_
    obtain ⟨v10, μ9, h8, hf⟩ := o_bind hf
    refine wr_SNi (kc1 := 0) (ks1 := 0) 24 [.ref (q 0), .int 1000, .int v3] C dX3_of_24 (tX0_personIn l N   a1 μ2 (v10, μ9) h8) okX0_personIn q901 ⟨rfl, rfl, Nat.le_of_ble_eq_true rfl, Nat.le_of_ble_eq_true rfl, Nat.zero_le _, Nat.zero_le _⟩ (Nat.le_of_ble_eq_true rfl) rfl ?_
    refine wr_iload_n 27 C dX3_of_27 1 rfl rfl ?_
    obtain ⟨v13, μ12, h11, hf⟩ := o_bind hf
    refine wr_SNi (kc1 := 0) (ks1 := 0) 28 [.int v10, .ref (q 0), .int 1000, .int v3] C dX3_of_28 (tX0_postIn l N   a1 μ9 (v13, μ12) h11) okX0_postIn q902 ⟨rfl, rfl, Nat.le_of_ble_eq_true rfl, Nat.le_of_ble_eq_true rfl, Nat.zero_le _, Nat.zero_le _⟩ (Nat.le_of_ble_eq_true rfl) rfl ?_
    obtain ⟨v16, μ15, h14, hf⟩ := o_bind hf
    refine wr_VNi (kc1 := 0) (ks1 := 0) 31 [.int 1000, .int v3] C dX3_of_31 (tX0_riskOf l N   v10 v13 μ12 (v16, μ15) h14) okX0_riskOf q903 (b := 0) spX_0 rfl ⟨rfl, rfl, Nat.le_of_ble_eq_true rfl, Nat.le_of_ble_eq_true rfl, Nat.zero_le _, Nat.zero_le _⟩ (Nat.le_of_ble_eq_true rfl) rfl ?_
    refine wr_imul 34 C dX3_of_34 ?_
    refine wr_sub [] [] rfl ?_
    exact hJof35 ((1000 : Int32) * v16) v3 μ15 hf
  · replace hf := o_pos c7 hf
    refine wr_iconst 12 C dX3_of_12 (v := 0) rfl ?_
    refine wr_goto 13 C dX3_of_13 (tgt := 35) (by decide) ?_
    refine wr_sub [] [] rfl ?_
    exact hJof35 0 v3 μ2 hf
def fX_of (N b : Nat) (a : Int32) (μ : wMem) : Option (Int32 × wMem) := if b = 19 then fX2_of N a μ else if b = 20 then fX3_of N a μ else if b = 21 then fX4_of N a μ else none
set_option maxHeartbeats 4000000 in
theorem wr_by {p : Program} {l : Launch} {e : Env} {R : Room} {s : State} {m : MethodId} {args : Array Value} {below : List Frame} {meth : Method} {c : Code} {cc : ByteArray} {nL : Nat} {ret : Option FieldType} {D : va_G} {E : List wCell} {q : Nat → Nat} {ca : wCA} {A : Nat → Prop} {Q : State → Prop} {μ : wMem} {lv : List (Nat × Value)} {st : List Value} {b : Nat} {a v : Int32} {μ1 : wMem} (pc N : Nat) (rest : List Value) (C : wC p R s m args meth c cc "OnePassport" nL ret D vwCl (spX ++ E) q ca A) (hd : decode cc pc = .ok (.invokevirtual 310, 3)) (h : fX_of N b a μ = some (v, μ1)) (hF : 2 ≤ R.frames ∧ 43 ≤ R.locals) (hw : (rest.map fun v => v.category).sum ≤ 8) (hst : st = .int a :: .ref (q b) :: rest) (k : wJ p l e R s m args below meth c nL D vwCl (spX ++ E) q ca A Q 0 0 μ1 (pc + 3) lv (.int v :: rest)) : wJ p l e R s m args below meth c nL D vwCl (spX ++ E) q ca A Q 0 0 μ pc lv st := by
  unfold fX_of at h
  by_cases h1 : b = 19
  · subst h1
    replace h := o_pos rfl h
    exact wr_Vi (kc1 := 0) (ks1 := 0) pc rest C hd (tX2_of l N a μ (v, μ1) h) okX2_of q889 (b := 19) spX_19 rfl ⟨rfl, rfl, Nat.le_trans (Nat.le_of_ble_eq_true rfl) hF.1, Nat.le_trans (Nat.le_of_ble_eq_true rfl) hF.2, Nat.zero_le _, Nat.zero_le _⟩ hw hst k
  · replace h := o_neg h1 h
    by_cases h2 : b = 20
    · subst h2
      replace h := o_pos rfl h
      exact wr_Oi (kc1 := 0) (ks1 := 0) (x := yX2_of) pc rest C hd (tX3_of l N a μ (v, μ1) h) q889 q892 q890 q896 q897 q139 q898 q900 ⟨by decide, by decide, okX2_of.2.2.2.2.2.2⟩ (b := 20) spX_20 rfl ⟨rfl, rfl, Nat.le_trans (Nat.le_of_ble_eq_true rfl) hF.1, Nat.le_trans (Nat.le_of_ble_eq_true rfl) hF.2, Nat.zero_le _, Nat.zero_le _⟩ hw hst k
    · replace h := o_neg h2 h
      by_cases h3 : b = 21
      · subst h3
        replace h := o_pos rfl h
        exact wr_Oi (kc1 := 0) (ks1 := 0) (x := yX2_of) pc rest C hd (tX4_of l N a μ (v, μ1) h) q889 q892 q890 q893 q894 q140 q895 q900 ⟨by decide, by decide, okX2_of.2.2.2.2.2.2⟩ (b := 21) spX_21 rfl ⟨rfl, rfl, Nat.le_trans (Nat.le_of_ble_eq_true rfl) hF.1, Nat.le_trans (Nat.le_of_ble_eq_true rfl) hF.2, Nat.zero_le _, Nat.zero_le _⟩ hw hst k
      · replace h := o_neg h3 h
        cases h
abbrev cX0_settles : ByteArray := prog_1_method_56_code
def yX0_settles : MethodName := ⟨RX0, "settles", "(LOnePassport$Days;)V"⟩
def dkwX0_settles_6 : List UInt8 := [96, 182, 1, 45, 42, 28, 182, 1, 51, 42, 29, 4, 96, 182, 1, 25, 62, 167, 255, 211, 167, 255, 140, 177]
abbrev dktX0_settles_6 : List UInt8 := dkwX0_settles_6 ++ []
def dkwX0_settles_5 : List UInt8 := [163, 0, 44, 42, 29, 182, 0, 243, 42, 42, 182, 1, 42, 42, 180, 0, 52, 28, 46, 43, 29, 182, 1, 54]
abbrev dktX0_settles_5 : List UInt8 := dkwX0_settles_5 ++ dktX0_settles_6
def dkwX0_settles_4 : List UInt8 := [180, 1, 39, 4, 96, 181, 1, 39, 42, 28, 182, 1, 51, 42, 3, 182, 1, 25, 62, 29, 17, 0, 200]
abbrev dktX0_settles_4 : List UInt8 := dkwX0_settles_4 ++ dktX0_settles_5
def dkwX0_settles_3 : List UInt8 := [180, 1, 32, 182, 1, 28, 42, 182, 1, 48, 42, 180, 0, 61, 42, 180, 1, 39, 28, 79, 42, 89]
abbrev dktX0_settles_3 : List UInt8 := dkwX0_settles_3 ++ dktX0_settles_4
def dkwX0_settles_2 : List UInt8 := [158, 0, 115, 42, 180, 0, 55, 3, 46, 61, 42, 89, 180, 1, 32, 4, 100, 181, 1, 32, 42, 3, 42]
abbrev dktX0_settles_2 : List UInt8 := dkwX0_settles_2 ++ dktX0_settles_3
def dkwX0_settles_1 : List UInt8 := [3, 181, 1, 32, 42, 3, 181, 1, 39, 42, 42, 182, 1, 42, 3, 182, 1, 45, 42, 180, 1, 32]
abbrev dktX0_settles_1 : List UInt8 := dkwX0_settles_1 ++ dktX0_settles_2
def dkwX0_settles_0 : List UInt8 := [3, 61, 28, 18, 51, 162, 0, 18, 42, 180, 0, 52, 28, 19, 1, 35, 79, 132, 2, 1, 167, 255, 238, 42]
abbrev dktX0_settles_0 : List UInt8 := dkwX0_settles_0 ++ dktX0_settles_1
theorem dksX0_settles_0 : cX0_settles.data.toList.drop 0 = dktX0_settles_0 := by decide +kernel
theorem dksX0_settles_1 : cX0_settles.data.toList.drop 24 = dktX0_settles_1 := dk_seg dksX0_settles_0 24 rfl rfl
theorem dksX0_settles_2 : cX0_settles.data.toList.drop 46 = dktX0_settles_2 := dk_seg dksX0_settles_1 22 rfl rfl
theorem dksX0_settles_3 : cX0_settles.data.toList.drop 69 = dktX0_settles_3 := dk_seg dksX0_settles_2 23 rfl rfl
theorem dksX0_settles_4 : cX0_settles.data.toList.drop 91 = dktX0_settles_4 := dk_seg dksX0_settles_3 22 rfl rfl
theorem dksX0_settles_5 : cX0_settles.data.toList.drop 114 = dktX0_settles_5 := dk_seg dksX0_settles_4 23 rfl rfl
theorem dksX0_settles_6 : cX0_settles.data.toList.drop 138 = dktX0_settles_6 := dk_seg dksX0_settles_5 24 rfl rfl
theorem dX0_settles_0 : decode cX0_settles 0 = .ok (.iconst 0, 1) := dk_3 (dk_at dksX0_settles_0 0 rfl rfl)
theorem dX0_settles_1 : decode cX0_settles 1 = .ok (.istore_n 2, 1) := dk_61 (dk_at dksX0_settles_0 1 rfl rfl)
theorem dX0_settles_2 : decode cX0_settles 2 = .ok (.iload_n 2, 1) := dk_28 (dk_at dksX0_settles_0 2 rfl rfl)
theorem dX0_settles_3 : decode cX0_settles 3 = .ok (.ldc 51, 2) := dk_18 51 (dk_at dksX0_settles_0 3 rfl rfl)
theorem dX0_settles_5 : decode cX0_settles 5 = .ok (.if_icmp .ge 18, 3) := dk_162 0 18 (dk_at dksX0_settles_0 5 rfl rfl)
theorem dX0_settles_8 : decode cX0_settles 8 = .ok (.aload_n 0, 1) := dk_42 (dk_at dksX0_settles_0 8 rfl rfl)
theorem dX0_settles_9 : decode cX0_settles 9 = .ok (.getfield 52, 3) := dk_180 0 52 (dk_at dksX0_settles_0 9 rfl rfl)
theorem dX0_settles_12 : decode cX0_settles 12 = .ok (.iload_n 2, 1) := dk_28 (dk_at dksX0_settles_0 12 rfl rfl)
theorem dX0_settles_13 : decode cX0_settles 13 = .ok (.ldc_w 291, 3) := dk_19 1 35 (dk_at dksX0_settles_0 13 rfl rfl)
theorem dX0_settles_16 : decode cX0_settles 16 = .ok (.iastore, 1) := dk_79 (dk_at dksX0_settles_0 16 rfl rfl)
theorem dX0_settles_17 : decode cX0_settles 17 = .ok (.iinc 2 1, 3) := dk_132 2 1 (dk_at dksX0_settles_0 17 rfl rfl)
theorem dX0_settles_20 : decode cX0_settles 20 = .ok (.goto (-18), 3) := dk_167 255 238 (dk_at dksX0_settles_0 20 rfl rfl)
theorem dX0_settles_23 : decode cX0_settles 23 = .ok (.aload_n 0, 1) := dk_42 (dk_at dksX0_settles_0 23 rfl rfl)
theorem dX0_settles_24 : decode cX0_settles 24 = .ok (.iconst 0, 1) := dk_3 (dk_at dksX0_settles_1 0 rfl rfl)
theorem dX0_settles_25 : decode cX0_settles 25 = .ok (.putfield 288, 3) := dk_181 1 32 (dk_at dksX0_settles_1 1 rfl rfl)
theorem dX0_settles_28 : decode cX0_settles 28 = .ok (.aload_n 0, 1) := dk_42 (dk_at dksX0_settles_1 4 rfl rfl)
theorem dX0_settles_29 : decode cX0_settles 29 = .ok (.iconst 0, 1) := dk_3 (dk_at dksX0_settles_1 5 rfl rfl)
theorem dX0_settles_30 : decode cX0_settles 30 = .ok (.putfield 295, 3) := dk_181 1 39 (dk_at dksX0_settles_1 6 rfl rfl)
theorem dX0_settles_33 : decode cX0_settles 33 = .ok (.aload_n 0, 1) := dk_42 (dk_at dksX0_settles_1 9 rfl rfl)
theorem dX0_settles_34 : decode cX0_settles 34 = .ok (.aload_n 0, 1) := dk_42 (dk_at dksX0_settles_1 10 rfl rfl)
theorem dX0_settles_35 : decode cX0_settles 35 = .ok (.invokevirtual 298, 3) := dk_182 1 42 (dk_at dksX0_settles_1 11 rfl rfl)
theorem dX0_settles_38 : decode cX0_settles 38 = .ok (.iconst 0, 1) := dk_3 (dk_at dksX0_settles_1 14 rfl rfl)
theorem dX0_settles_39 : decode cX0_settles 39 = .ok (.invokevirtual 301, 3) := dk_182 1 45 (dk_at dksX0_settles_1 15 rfl rfl)
theorem dX0_settles_42 : decode cX0_settles 42 = .ok (.aload_n 0, 1) := dk_42 (dk_at dksX0_settles_1 18 rfl rfl)
theorem dX0_settles_43 : decode cX0_settles 43 = .ok (.getfield 288, 3) := dk_180 1 32 (dk_at dksX0_settles_1 19 rfl rfl)
theorem dX0_settles_46 : decode cX0_settles 46 = .ok (.ifCond .le 115, 3) := dk_158 0 115 (dk_at dksX0_settles_2 0 rfl rfl)
theorem dX0_settles_49 : decode cX0_settles 49 = .ok (.aload_n 0, 1) := dk_42 (dk_at dksX0_settles_2 3 rfl rfl)
theorem dX0_settles_50 : decode cX0_settles 50 = .ok (.getfield 55, 3) := dk_180 0 55 (dk_at dksX0_settles_2 4 rfl rfl)
theorem dX0_settles_53 : decode cX0_settles 53 = .ok (.iconst 0, 1) := dk_3 (dk_at dksX0_settles_2 7 rfl rfl)
theorem dX0_settles_54 : decode cX0_settles 54 = .ok (.iaload, 1) := dk_46 (dk_at dksX0_settles_2 8 rfl rfl)
theorem dX0_settles_55 : decode cX0_settles 55 = .ok (.istore_n 2, 1) := dk_61 (dk_at dksX0_settles_2 9 rfl rfl)
theorem dX0_settles_56 : decode cX0_settles 56 = .ok (.aload_n 0, 1) := dk_42 (dk_at dksX0_settles_2 10 rfl rfl)
theorem dX0_settles_57 : decode cX0_settles 57 = .ok (.dup, 1) := dk_89 (dk_at dksX0_settles_2 11 rfl rfl)
theorem dX0_settles_58 : decode cX0_settles 58 = .ok (.getfield 288, 3) := dk_180 1 32 (dk_at dksX0_settles_2 12 rfl rfl)
theorem dX0_settles_61 : decode cX0_settles 61 = .ok (.iconst 1, 1) := dk_4 (dk_at dksX0_settles_2 15 rfl rfl)
theorem dX0_settles_62 : decode cX0_settles 62 = .ok (.isub, 1) := dk_100 (dk_at dksX0_settles_2 16 rfl rfl)
theorem dX0_settles_63 : decode cX0_settles 63 = .ok (.putfield 288, 3) := dk_181 1 32 (dk_at dksX0_settles_2 17 rfl rfl)
theorem dX0_settles_66 : decode cX0_settles 66 = .ok (.aload_n 0, 1) := dk_42 (dk_at dksX0_settles_2 20 rfl rfl)
theorem dX0_settles_67 : decode cX0_settles 67 = .ok (.iconst 0, 1) := dk_3 (dk_at dksX0_settles_2 21 rfl rfl)
theorem dX0_settles_68 : decode cX0_settles 68 = .ok (.aload_n 0, 1) := dk_42 (dk_at dksX0_settles_2 22 rfl rfl)
theorem dX0_settles_69 : decode cX0_settles 69 = .ok (.getfield 288, 3) := dk_180 1 32 (dk_at dksX0_settles_3 0 rfl rfl)
theorem dX0_settles_72 : decode cX0_settles 72 = .ok (.invokevirtual 284, 3) := dk_182 1 28 (dk_at dksX0_settles_3 3 rfl rfl)
theorem dX0_settles_75 : decode cX0_settles 75 = .ok (.aload_n 0, 1) := dk_42 (dk_at dksX0_settles_3 6 rfl rfl)
theorem dX0_settles_76 : decode cX0_settles 76 = .ok (.invokevirtual 304, 3) := dk_182 1 48 (dk_at dksX0_settles_3 7 rfl rfl)
theorem dX0_settles_79 : decode cX0_settles 79 = .ok (.aload_n 0, 1) := dk_42 (dk_at dksX0_settles_3 10 rfl rfl)
theorem dX0_settles_80 : decode cX0_settles 80 = .ok (.getfield 61, 3) := dk_180 0 61 (dk_at dksX0_settles_3 11 rfl rfl)
theorem dX0_settles_83 : decode cX0_settles 83 = .ok (.aload_n 0, 1) := dk_42 (dk_at dksX0_settles_3 14 rfl rfl)
theorem dX0_settles_84 : decode cX0_settles 84 = .ok (.getfield 295, 3) := dk_180 1 39 (dk_at dksX0_settles_3 15 rfl rfl)
theorem dX0_settles_87 : decode cX0_settles 87 = .ok (.iload_n 2, 1) := dk_28 (dk_at dksX0_settles_3 18 rfl rfl)
theorem dX0_settles_88 : decode cX0_settles 88 = .ok (.iastore, 1) := dk_79 (dk_at dksX0_settles_3 19 rfl rfl)
theorem dX0_settles_89 : decode cX0_settles 89 = .ok (.aload_n 0, 1) := dk_42 (dk_at dksX0_settles_3 20 rfl rfl)
theorem dX0_settles_90 : decode cX0_settles 90 = .ok (.dup, 1) := dk_89 (dk_at dksX0_settles_3 21 rfl rfl)
theorem dX0_settles_91 : decode cX0_settles 91 = .ok (.getfield 295, 3) := dk_180 1 39 (dk_at dksX0_settles_4 0 rfl rfl)
theorem dX0_settles_94 : decode cX0_settles 94 = .ok (.iconst 1, 1) := dk_4 (dk_at dksX0_settles_4 3 rfl rfl)
theorem dX0_settles_95 : decode cX0_settles 95 = .ok (.iadd, 1) := dk_96 (dk_at dksX0_settles_4 4 rfl rfl)
theorem dX0_settles_96 : decode cX0_settles 96 = .ok (.putfield 295, 3) := dk_181 1 39 (dk_at dksX0_settles_4 5 rfl rfl)
theorem dX0_settles_99 : decode cX0_settles 99 = .ok (.aload_n 0, 1) := dk_42 (dk_at dksX0_settles_4 8 rfl rfl)
theorem dX0_settles_100 : decode cX0_settles 100 = .ok (.iload_n 2, 1) := dk_28 (dk_at dksX0_settles_4 9 rfl rfl)
theorem dX0_settles_101 : decode cX0_settles 101 = .ok (.invokevirtual 307, 3) := dk_182 1 51 (dk_at dksX0_settles_4 10 rfl rfl)
theorem dX0_settles_104 : decode cX0_settles 104 = .ok (.aload_n 0, 1) := dk_42 (dk_at dksX0_settles_4 13 rfl rfl)
theorem dX0_settles_105 : decode cX0_settles 105 = .ok (.iconst 0, 1) := dk_3 (dk_at dksX0_settles_4 14 rfl rfl)
theorem dX0_settles_106 : decode cX0_settles 106 = .ok (.invokevirtual 281, 3) := dk_182 1 25 (dk_at dksX0_settles_4 15 rfl rfl)
theorem dX0_settles_109 : decode cX0_settles 109 = .ok (.istore_n 3, 1) := dk_62 (dk_at dksX0_settles_4 18 rfl rfl)
theorem dX0_settles_110 : decode cX0_settles 110 = .ok (.iload_n 3, 1) := dk_29 (dk_at dksX0_settles_4 19 rfl rfl)
theorem dX0_settles_111 : decode cX0_settles 111 = .ok (.sipush 200, 3) := dk_17 0 200 (dk_at dksX0_settles_4 20 rfl rfl)
theorem dX0_settles_114 : decode cX0_settles 114 = .ok (.if_icmp .gt 44, 3) := dk_163 0 44 (dk_at dksX0_settles_5 0 rfl rfl)
theorem dX0_settles_117 : decode cX0_settles 117 = .ok (.aload_n 0, 1) := dk_42 (dk_at dksX0_settles_5 3 rfl rfl)
theorem dX0_settles_118 : decode cX0_settles 118 = .ok (.iload_n 3, 1) := dk_29 (dk_at dksX0_settles_5 4 rfl rfl)
theorem dX0_settles_119 : decode cX0_settles 119 = .ok (.invokevirtual 243, 3) := dk_182 0 243 (dk_at dksX0_settles_5 5 rfl rfl)
theorem dX0_settles_122 : decode cX0_settles 122 = .ok (.aload_n 0, 1) := dk_42 (dk_at dksX0_settles_5 8 rfl rfl)
theorem dX0_settles_123 : decode cX0_settles 123 = .ok (.aload_n 0, 1) := dk_42 (dk_at dksX0_settles_5 9 rfl rfl)
theorem dX0_settles_124 : decode cX0_settles 124 = .ok (.invokevirtual 298, 3) := dk_182 1 42 (dk_at dksX0_settles_5 10 rfl rfl)
theorem dX0_settles_127 : decode cX0_settles 127 = .ok (.aload_n 0, 1) := dk_42 (dk_at dksX0_settles_5 13 rfl rfl)
theorem dX0_settles_128 : decode cX0_settles 128 = .ok (.getfield 52, 3) := dk_180 0 52 (dk_at dksX0_settles_5 14 rfl rfl)
theorem dX0_settles_131 : decode cX0_settles 131 = .ok (.iload_n 2, 1) := dk_28 (dk_at dksX0_settles_5 17 rfl rfl)
theorem dX0_settles_132 : decode cX0_settles 132 = .ok (.iaload, 1) := dk_46 (dk_at dksX0_settles_5 18 rfl rfl)
theorem dX0_settles_133 : decode cX0_settles 133 = .ok (.aload_n 1, 1) := dk_43 (dk_at dksX0_settles_5 19 rfl rfl)
theorem dX0_settles_134 : decode cX0_settles 134 = .ok (.iload_n 3, 1) := dk_29 (dk_at dksX0_settles_5 20 rfl rfl)
theorem dX0_settles_135 : decode cX0_settles 135 = .ok (.invokevirtual 310, 3) := dk_182 1 54 (dk_at dksX0_settles_5 21 rfl rfl)
theorem dX0_settles_138 : decode cX0_settles 138 = .ok (.iadd, 1) := dk_96 (dk_at dksX0_settles_6 0 rfl rfl)
theorem dX0_settles_139 : decode cX0_settles 139 = .ok (.invokevirtual 301, 3) := dk_182 1 45 (dk_at dksX0_settles_6 1 rfl rfl)
theorem dX0_settles_142 : decode cX0_settles 142 = .ok (.aload_n 0, 1) := dk_42 (dk_at dksX0_settles_6 4 rfl rfl)
theorem dX0_settles_143 : decode cX0_settles 143 = .ok (.iload_n 2, 1) := dk_28 (dk_at dksX0_settles_6 5 rfl rfl)
theorem dX0_settles_144 : decode cX0_settles 144 = .ok (.invokevirtual 307, 3) := dk_182 1 51 (dk_at dksX0_settles_6 6 rfl rfl)
theorem dX0_settles_147 : decode cX0_settles 147 = .ok (.aload_n 0, 1) := dk_42 (dk_at dksX0_settles_6 9 rfl rfl)
theorem dX0_settles_148 : decode cX0_settles 148 = .ok (.iload_n 3, 1) := dk_29 (dk_at dksX0_settles_6 10 rfl rfl)
theorem dX0_settles_149 : decode cX0_settles 149 = .ok (.iconst 1, 1) := dk_4 (dk_at dksX0_settles_6 11 rfl rfl)
theorem dX0_settles_150 : decode cX0_settles 150 = .ok (.iadd, 1) := dk_96 (dk_at dksX0_settles_6 12 rfl rfl)
theorem dX0_settles_151 : decode cX0_settles 151 = .ok (.invokevirtual 281, 3) := dk_182 1 25 (dk_at dksX0_settles_6 13 rfl rfl)
theorem dX0_settles_154 : decode cX0_settles 154 = .ok (.istore_n 3, 1) := dk_62 (dk_at dksX0_settles_6 16 rfl rfl)
theorem dX0_settles_155 : decode cX0_settles 155 = .ok (.goto (-45), 3) := dk_167 255 211 (dk_at dksX0_settles_6 17 rfl rfl)
theorem dX0_settles_158 : decode cX0_settles 158 = .ok (.goto (-116), 3) := dk_167 255 140 (dk_at dksX0_settles_6 20 rfl rfl)
theorem dX0_settles_161 : decode cX0_settles 161 = .ok (.return_, 1) := dk_177 (dk_at dksX0_settles_6 23 rfl rfl)
theorem gespX_0_19_X0 {p : Program} {l : Launch} {e : Env} {R : Room} {s : State} {m : MethodId} {args : Array Value} {below : List Frame} {meth : Method} {c : Code} {cc : ByteArray} {nL : Nat} {ret : Option FieldType} {D : va_G} {E : List wCell} {q : Nat → Nat} {ca : wCA} {A : Nat → Prop} {Q : State → Prop} {kc ks : Nat} {μ : wMem} {lv : List (Nat × Value)} {st : List Value} (pc : Nat) (C : wC p R s m args meth c cc "OnePassport" nL ret D vwCl (spX ++ E) q ca A) (hd : decode cc pc = .ok (.getfield 61, 3)) (k : wJ p l e R s m args below meth c nL D vwCl (spX ++ E) q ca A Q kc ks μ (pc + 3) lv (.ref (q 13) :: st)) : wJ p l e R s m args below meth c nL D vwCl (spX ++ E) q ca A Q kc ks μ pc lv (.ref (q 0) :: st) := wr_getR pc 19 C hd spX_0 rfl in_X0 (by decide) rfl q350 k
theorem gespX_0_21_X0 {p : Program} {l : Launch} {e : Env} {R : Room} {s : State} {m : MethodId} {args : Array Value} {below : List Frame} {meth : Method} {c : Code} {cc : ByteArray} {nL : Nat} {ret : Option FieldType} {D : va_G} {E : List wCell} {q : Nat → Nat} {ca : wCA} {A : Nat → Prop} {Q : State → Prop} {kc ks : Nat} {μ : wMem} {lv : List (Nat × Value)} {st : List Value} (pc : Nat) (C : wC p R s m args meth c cc "OnePassport" nL ret D vwCl (spX ++ E) q ca A) (hd : decode cc pc = .ok (.getfield 295, 3)) (k : wJ p l e R s m args below meth c nL D vwCl (spX ++ E) q ca A Q kc ks μ (pc + 3) lv (.int (μ.1 0 21) :: st)) : wJ p l e R s m args below meth c nL D vwCl (spX ++ E) q ca A Q kc ks μ pc lv (.ref (q 0) :: st) := wr_getI pc 21 C hd spX_0 rfl in_X0 (by decide) rfl q352 k
theorem puspX_0_21_X0 {p : Program} {l : Launch} {e : Env} {R : Room} {s : State} {m : MethodId} {args : Array Value} {below : List Frame} {meth : Method} {c : Code} {cc : ByteArray} {nL : Nat} {ret : Option FieldType} {D : va_G} {E : List wCell} {q : Nat → Nat} {ca : wCA} {A : Nat → Prop} {Q : State → Prop} {kc ks : Nat} {μ : wMem} {lv : List (Nat × Value)} {st : List Value} {v : Int32} {μ1 : wMem} (pc : Nat) (C : wC p R s m args meth c cc "OnePassport" nL ret D vwCl (spX ++ E) q ca A) (hd : decode cc pc = .ok (.putfield 295, 3)) (hμ : μ1 = wSI μ 0 21 v) (k : wJ p l e R s m args below meth c nL D vwCl (spX ++ E) q ca A Q kc ks μ1 (pc + 3) lv st) : wJ p l e R s m args below meth c nL D vwCl (spX ++ E) q ca A Q kc ks μ pc lv (.int v :: .ref (q 0) :: st) := wr_putI pc 21 C hd spX_0 rfl in_X0 tyX0 tyX0_ok nmX0 (by decide) rfl q352 rfl rfl hμ k
theorem okX0_settles : wOkV yX0_settles cX0_settles 4 none 1 := ⟨q862, qs34, q136, q863, by decide, by decide, by decide +kernel⟩
def gbX0_settles_2 (N : Nat) (b1 : Nat)  (K : (wMem → Option wMem)) (rec : (Int32 → wMem → Option wMem)) (x2_ : Int32) (μ : wMem) : Option wMem :=
  if (100352 : Int32) ≤ x2_ then K  μ else wG (ok_in x2_ 100352) (wLet (wSI μ 10 (Int32.toNatClampNeg x2_) (1000000000 : Int32)) fun μ3 => wLet (x2_ + 1 : Int32) fun x4 => rec x4 μ3)
def gX0_settles_2 (N : Nat) (b1 : Nat)  (K : (wMem → Option wMem)) : Nat → (Int32 → wMem → Option wMem)
  | 0 => fun _ _ => none
  | k + 1 => gbX0_settles_2 N b1  K (gX0_settles_2 N b1  K k)
set_option maxHeartbeats 4000000 in
set_option maxRecDepth 100000 in
theorem tX0_settles_2 {p : Program} {l : Launch} {e : Env} {s : State} {m : MethodId} {args : Array Value} {below : List Frame} {meth : Method} {c : Code} {D : va_G} {E : List wCell} {q : Nat → Nat} {ca : wCA} {A : Nat → Prop} (C : wC p ({ frames := 5, cells := 0, slots := 0, locals := 111 } : Room) s m args meth c cX0_settles yX0_settles.cls 4 none D vwCl (spX ++ E) q ca A) (N : Nat) (b1 : Nat)   (K : (wMem → Option wMem)) (r0 : wMem) (hK : ∀  (μ : wMem), K  μ = some r0 → wJ p l e ({ frames := 5, cells := 0, slots := 0, locals := 111 } : Room) s m args below meth c 4 D vwCl (spX ++ E) q ca A (wQv ({ frames := 5, cells := 0, slots := 0, locals := 111 } : Room) D vwCl (spX ++ E) q ca below args s A r0) 0 0 μ 23 [(0, .ref (q 0)), (1, .ref (q b1))] []) : ∀ (k : Nat) (x2_ : Int32) (μ : wMem), gX0_settles_2 N b1  K k x2_ μ = some r0 → wJ p l e ({ frames := 5, cells := 0, slots := 0, locals := 111 } : Room) s m args below meth c 4 D vwCl (spX ++ E) q ca A (wQv ({ frames := 5, cells := 0, slots := 0, locals := 111 } : Room) D vwCl (spX ++ E) q ca below args s A r0) 0 0 μ 2 [(0, .ref (q 0)), (1, .ref (q b1)), (2, .int x2_)] [] := by
  intro k
  induction k with
  | zero =>
    intro x2_ μ hf
    cases hf
  | succ k ih =>
    intro x2_ μ hf
    replace hf : gbX0_settles_2 N b1  K (gX0_settles_2 N b1  K k) x2_ μ = some r0 := hf
    unfold gbX0_settles_2 at hf
    refine wr_iload_n 2 C dX0_settles_2 2 rfl rfl ?_
    refine wr_ldc 3 C dX0_settles_3 q286 ?_
    refine wr_icmp_ge 5 23 C dX0_settles_5 (by decide) (fun c1 => ?_) (fun c1 => ?_)
    · replace hf := o_pos c1 hf
      refine wr_sub [(0, .ref (q 0)), (1, .ref (q b1))] [0, 1] rfl ?_
      exact hK  μ hf
    · replace hf := o_neg c1 hf
      refine wr_aload_n 8 C dX0_settles_8 0 rfl rfl ?_
      refine gespX_0_16_X0 9 C dX0_settles_9 ?_
      refine wr_iload_n 12 C dX0_settles_12 2 rfl rfl ?_
      refine wr_ldcw 13 C dX0_settles_13 q864 ?_
      obtain ⟨g2, hf⟩ := o_g hf
      obtain ⟨μ3, eμ3, hf⟩ := o_let hf
      refine wr_iast 16 C dX0_settles_16 spX_10 g2 eμ3 ?_
      obtain ⟨x4, ex4, hf⟩ := o_let hf
      refine wr_iinc 17 [(2, .int x4), (0, .ref (q 0)), (1, .ref (q b1))] C dX0_settles_17 2 rfl (ex4.trans rfl) (Nat.le_of_ble_eq_true rfl) rfl ?_
      refine wr_goto 20 C dX0_settles_20 (tgt := 2) (by decide) ?_
      refine wr_sub [(0, .ref (q 0)), (1, .ref (q b1)), (2, .int x4)] [1, 2, 0] rfl ?_
      exact ih x4 μ3 hf
def gbX0_settles_110 (N : Nat) (b1 : Nat) (x2_ : Int32) (K : (wMem → Option wMem)) (rec : (Int32 → wMem → Option wMem)) (x3_ : Int32) (μ : wMem) : Option wMem :=
  if (200 : Int32) < x3_ then K  μ else wBindV (fX0_does N  x3_ μ) fun μ31 => wBind (fX0_state N   μ31) fun v34 μ33 => wG (ok_in x2_ 100352) (wBind (fX_of N b1 x3_ μ33) fun v38 μ37 => wBindV (fX0_comes N  v34 ((μ33.1 10 (Int32.toNatClampNeg x2_)) + v38) μ37) fun μ40 => wBindV (fX0_be N  x2_ μ40) fun μ42 => wBind (fX0_nextAct N  (x3_ + (1 : Int32)) μ42) fun v45 μ44 => rec v45 μ44)
def gX0_settles_110 (N : Nat) (b1 : Nat) (x2_ : Int32) (K : (wMem → Option wMem)) : Nat → (Int32 → wMem → Option wMem)
  | 0 => fun _ _ => none
  | k + 1 => gbX0_settles_110 N b1 x2_ K (gX0_settles_110 N b1 x2_ K k)
set_option maxHeartbeats 4000000 in
set_option maxRecDepth 100000 in
theorem tX0_settles_110 {p : Program} {l : Launch} {e : Env} {s : State} {m : MethodId} {args : Array Value} {below : List Frame} {meth : Method} {c : Code} {D : va_G} {E : List wCell} {q : Nat → Nat} {ca : wCA} {A : Nat → Prop} (C : wC p ({ frames := 5, cells := 0, slots := 0, locals := 111 } : Room) s m args meth c cX0_settles yX0_settles.cls 4 none D vwCl (spX ++ E) q ca A) (N : Nat) (b1 : Nat)  (x2_ : Int32) (K : (wMem → Option wMem)) (r0 : wMem) (hK : ∀  (μ : wMem), K  μ = some r0 → wJ p l e ({ frames := 5, cells := 0, slots := 0, locals := 111 } : Room) s m args below meth c 4 D vwCl (spX ++ E) q ca A (wQv ({ frames := 5, cells := 0, slots := 0, locals := 111 } : Room) D vwCl (spX ++ E) q ca below args s A r0) 0 0 μ 158 [(0, .ref (q 0)), (1, .ref (q b1))] []) : ∀ (k : Nat) (x3_ : Int32) (μ : wMem), gX0_settles_110 N b1 x2_ K k x3_ μ = some r0 → wJ p l e ({ frames := 5, cells := 0, slots := 0, locals := 111 } : Room) s m args below meth c 4 D vwCl (spX ++ E) q ca A (wQv ({ frames := 5, cells := 0, slots := 0, locals := 111 } : Room) D vwCl (spX ++ E) q ca below args s A r0) 0 0 μ 110 [(0, .ref (q 0)), (1, .ref (q b1)), (2, .int x2_), (3, .int x3_)] [] := by
  intro k
  induction k with
  | zero =>
    intro x3_ μ hf
    cases hf
  | succ k ih =>
    intro x3_ μ hf
    replace hf : gbX0_settles_110 N b1 x2_ K (gX0_settles_110 N b1 x2_ K k) x3_ μ = some r0 := hf
    unfold gbX0_settles_110 at hf
    refine wr_iload_n 110 C dX0_settles_110 3 rfl rfl ?_
    refine wr_sipush 111 C dX0_settles_111 (v := 200) rfl ?_
    refine wr_icmp_gt 114 158 C dX0_settles_114 (by decide) (fun c29 => ?_) (fun c29 => ?_)
    · replace hf := o_pos c29 hf
      refine wr_sub [(0, .ref (q 0)), (1, .ref (q b1))] [0, 1] rfl ?_
      exact hK  μ hf
    · replace hf := o_neg c29 hf
      refine wr_aload_n 117 C dX0_settles_117 0 rfl rfl ?_
      refine wr_iload_n 118 C dX0_settles_118 3 rfl rfl ?_
      obtain ⟨μ31, h30, hf⟩ := o_bindV hf
      refine wr_Vv (kc1 := 0) (ks1 := 0) 119 [] C dX0_settles_119 (tX0_does l N   x3_ μ μ31 h30) okX0_does q755 (b := 0) spX_0 rfl ⟨rfl, rfl, Nat.le_of_ble_eq_true rfl, Nat.le_of_ble_eq_true rfl, Nat.zero_le _, Nat.zero_le _⟩ (Nat.le_of_ble_eq_true rfl) rfl ?_
      refine wr_aload_n 122 C dX0_settles_122 0 rfl rfl ?_
      refine wr_aload_n 123 C dX0_settles_123 0 rfl rfl ?_
      obtain ⟨v34, μ33, h32, hf⟩ := o_bind hf
      refine wr_Vi (kc1 := 0) (ks1 := 0) 124 [.ref (q 0)] C dX0_settles_124 (tX0_state l N    μ31 (v34, μ33) h32) okX0_state q865 (b := 0) spX_0 rfl ⟨rfl, rfl, Nat.le_of_ble_eq_true rfl, Nat.le_of_ble_eq_true rfl, Nat.zero_le _, Nat.zero_le _⟩ (Nat.le_of_ble_eq_true rfl) rfl ?_
      refine wr_aload_n 127 C dX0_settles_127 0 rfl rfl ?_
      refine gespX_0_16_X0 128 C dX0_settles_128 ?_
      refine wr_iload_n 131 C dX0_settles_131 2 rfl rfl ?_
      obtain ⟨g35, hf⟩ := o_g hf
      refine wr_iald 132 C dX0_settles_132 spX_10 g35 ?_
      refine wr_aload_n 133 C dX0_settles_133 1 rfl rfl ?_
      refine wr_iload_n 134 C dX0_settles_134 3 rfl rfl ?_
      obtain ⟨v38, μ37, h36, hf⟩ := o_bind hf
      refine wr_by 135 N [.int (μ33.1 10 (Int32.toNatClampNeg x2_)), .int v34, .ref (q 0)] C dX0_settles_135 h36 ⟨Nat.le_of_ble_eq_true rfl, Nat.le_of_ble_eq_true rfl⟩ (Nat.le_of_ble_eq_true rfl) rfl ?_
      refine wr_iadd 138 C dX0_settles_138 ?_
      obtain ⟨μ40, h39, hf⟩ := o_bindV hf
      refine wr_Vv (kc1 := 0) (ks1 := 0) 139 [] C dX0_settles_139 (tX0_comes l N   v34 ((μ33.1 10 (Int32.toNatClampNeg x2_)) + v38) μ37 μ40 h39) okX0_comes q869 (b := 0) spX_0 rfl ⟨rfl, rfl, Nat.le_of_ble_eq_true rfl, Nat.le_of_ble_eq_true rfl, Nat.zero_le _, Nat.zero_le _⟩ (Nat.le_of_ble_eq_true rfl) rfl ?_
      refine wr_aload_n 142 C dX0_settles_142 0 rfl rfl ?_
      refine wr_iload_n 143 C dX0_settles_143 2 rfl rfl ?_
      obtain ⟨μ42, h41, hf⟩ := o_bindV hf
      refine wr_Vv (kc1 := 0) (ks1 := 0) 144 [] C dX0_settles_144 (tX0_be l N   x2_ μ40 μ42 h41) okX0_be q885 (b := 0) spX_0 rfl ⟨rfl, rfl, Nat.le_of_ble_eq_true rfl, Nat.le_of_ble_eq_true rfl, Nat.zero_le _, Nat.zero_le _⟩ (Nat.le_of_ble_eq_true rfl) rfl ?_
      refine wr_aload_n 147 C dX0_settles_147 0 rfl rfl ?_
      refine wr_iload_n 148 C dX0_settles_148 3 rfl rfl ?_
      refine wr_iconst 149 C dX0_settles_149 (v := 1) rfl ?_
      refine wr_iadd 150 C dX0_settles_150 ?_
      obtain ⟨v45, μ44, h43, hf⟩ := o_bind hf
      refine wr_Vi (kc1 := 0) (ks1 := 0) 151 [] C dX0_settles_151 (tX0_nextAct l N   (x3_ + (1 : Int32)) μ42 (v45, μ44) h43) okX0_nextAct q834 (b := 0) spX_0 rfl ⟨rfl, rfl, Nat.le_of_ble_eq_true rfl, Nat.le_of_ble_eq_true rfl, Nat.zero_le _, Nat.zero_le _⟩ (Nat.le_of_ble_eq_true rfl) rfl ?_
      refine wr_istore_n 154 [(3, .int v45), (0, .ref (q 0)), (1, .ref (q b1)), (2, .int x2_)] C dX0_settles_154 rfl rfl (Nat.le_of_ble_eq_true rfl) rfl ?_
      refine wr_goto 155 C dX0_settles_155 (tgt := 110) (by decide) ?_
      refine wr_sub [(0, .ref (q 0)), (1, .ref (q b1)), (2, .int x2_), (3, .int v45)] [1, 2, 3, 0] rfl ?_
      exact ih v45 μ44 hf
def gbX0_settles_42 (N : Nat) (b1 : Nat)  (K : (wMem → Option wMem)) (rec : (wMem → Option wMem))  (μ : wMem) : Option wMem :=
  if (μ.1 0 20) ≤ 0 then K  μ else wG (ok_in (0 : Int32) 100352) (wLet (μ.1 11 (Int32.toNatClampNeg (0 : Int32)) : Int32) fun x15 => wLet (wSI μ 0 20 ((μ.1 0 20) - (1 : Int32))) fun μ16 => wBindV (fX0_swaps N  0 (μ16.1 0 20) μ16) fun μ18 => wBindV (fX0_sinks N   μ18) fun μ20 => wG (ok_in (μ20.1 0 21) 100352) (wLet (wSI μ20 13 (Int32.toNatClampNeg (μ20.1 0 21)) x15) fun μ22 => wLet (wSI μ22 0 21 ((μ22.1 0 21) + (1 : Int32))) fun μ23 => wBindV (fX0_be N  x15 μ23) fun μ25 => wBind (fX0_nextAct N  0 μ25) fun v28 μ27 => gX0_settles_110 N b1 x15 (fun  (μ46 : wMem) => rec  μ46) N v28 μ27))
def gX0_settles_42 (N : Nat) (b1 : Nat)  (K : (wMem → Option wMem)) : Nat → (wMem → Option wMem)
  | 0 => fun  _ => none
  | k + 1 => gbX0_settles_42 N b1  K (gX0_settles_42 N b1  K k)
set_option maxHeartbeats 4000000 in
set_option maxRecDepth 100000 in
theorem tX0_settles_42 {p : Program} {l : Launch} {e : Env} {s : State} {m : MethodId} {args : Array Value} {below : List Frame} {meth : Method} {c : Code} {D : va_G} {E : List wCell} {q : Nat → Nat} {ca : wCA} {A : Nat → Prop} (C : wC p ({ frames := 5, cells := 0, slots := 0, locals := 111 } : Room) s m args meth c cX0_settles yX0_settles.cls 4 none D vwCl (spX ++ E) q ca A) (N : Nat) (b1 : Nat)   (K : (wMem → Option wMem)) (r0 : wMem) (hK : ∀  (μ : wMem), K  μ = some r0 → wJ p l e ({ frames := 5, cells := 0, slots := 0, locals := 111 } : Room) s m args below meth c 4 D vwCl (spX ++ E) q ca A (wQv ({ frames := 5, cells := 0, slots := 0, locals := 111 } : Room) D vwCl (spX ++ E) q ca below args s A r0) 0 0 μ 161 [] []) : ∀ (k : Nat)  (μ : wMem), gX0_settles_42 N b1  K k  μ = some r0 → wJ p l e ({ frames := 5, cells := 0, slots := 0, locals := 111 } : Room) s m args below meth c 4 D vwCl (spX ++ E) q ca A (wQv ({ frames := 5, cells := 0, slots := 0, locals := 111 } : Room) D vwCl (spX ++ E) q ca below args s A r0) 0 0 μ 42 [(0, .ref (q 0)), (1, .ref (q b1))] [] := by
  intro k
  induction k with
  | zero =>
    intro  μ hf
    cases hf
  | succ k ih =>
    intro  μ hf
    replace hf : gbX0_settles_42 N b1  K (gX0_settles_42 N b1  K k)  μ = some r0 := hf
    unfold gbX0_settles_42 at hf
    refine wr_aload_n 42 C dX0_settles_42 0 rfl rfl ?_
    refine gespX_0_20_X0 43 C dX0_settles_43 ?_
    refine wr_if_le 46 161 C dX0_settles_46 (by decide) (fun c13 => ?_) (fun c13 => ?_)
    · replace hf := o_pos c13 hf
      refine wr_sub [] [] rfl ?_
      exact hK  μ hf
    · replace hf := o_neg c13 hf
      refine wr_aload_n 49 C dX0_settles_49 0 rfl rfl ?_
      refine gespX_0_17_X0 50 C dX0_settles_50 ?_
      refine wr_iconst 53 C dX0_settles_53 (v := 0) rfl ?_
      obtain ⟨g14, hf⟩ := o_g hf
      refine wr_iald 54 C dX0_settles_54 spX_11 g14 ?_
      obtain ⟨x15, ex15, hf⟩ := o_let hf
      refine wr_istore_n 55 [(2, .int x15), (0, .ref (q 0)), (1, .ref (q b1))] C dX0_settles_55 ex15 rfl (Nat.le_of_ble_eq_true rfl) rfl ?_
      refine wr_aload_n 56 C dX0_settles_56 1 rfl rfl ?_
      refine wr_dup 57 C dX0_settles_57 rfl ?_
      refine gespX_0_20_X0 58 C dX0_settles_58 ?_
      refine wr_iconst 61 C dX0_settles_61 (v := 1) rfl ?_
      refine wr_isub 62 C dX0_settles_62 ?_
      obtain ⟨μ16, eμ16, hf⟩ := o_let hf
      refine puspX_0_20_X0 63 C dX0_settles_63 eμ16 ?_
      refine wr_aload_n 66 C dX0_settles_66 1 rfl rfl ?_
      refine wr_iconst 67 C dX0_settles_67 (v := 0) rfl ?_
      refine wr_aload_n 68 C dX0_settles_68 1 rfl rfl ?_
      refine gespX_0_20_X0 69 C dX0_settles_69 ?_
      obtain ⟨μ18, h17, hf⟩ := o_bindV hf
      refine wr_Vv (kc1 := 0) (ks1 := 0) 72 [] C dX0_settles_72 (tX0_swaps l N   0 (μ16.1 0 20) μ16 μ18 h17) okX0_swaps q877 (b := 0) spX_0 rfl ⟨rfl, rfl, Nat.le_of_ble_eq_true rfl, Nat.le_of_ble_eq_true rfl, Nat.zero_le _, Nat.zero_le _⟩ (Nat.le_of_ble_eq_true rfl) rfl ?_
      refine wr_aload_n 75 C dX0_settles_75 1 rfl rfl ?_
      obtain ⟨μ20, h19, hf⟩ := o_bindV hf
      refine wr_Vv (kc1 := 0) (ks1 := 0) 76 [] C dX0_settles_76 (tX0_sinks l N    μ18 μ20 h19) okX0_sinks q881 (b := 0) spX_0 rfl ⟨rfl, rfl, Nat.le_of_ble_eq_true rfl, Nat.le_of_ble_eq_true rfl, Nat.zero_le _, Nat.zero_le _⟩ (Nat.le_of_ble_eq_true rfl) rfl ?_
      refine wr_aload_n 79 C dX0_settles_79 1 rfl rfl ?_
      refine gespX_0_19_X0 80 C dX0_settles_80 ?_
      refine wr_aload_n 83 C dX0_settles_83 1 rfl rfl ?_
      refine gespX_0_21_X0 84 C dX0_settles_84 ?_
      refine wr_iload_n 87 C dX0_settles_87 0 rfl rfl ?_
      obtain ⟨g21, hf⟩ := o_g hf
      obtain ⟨μ22, eμ22, hf⟩ := o_let hf
      refine wr_iast 88 C dX0_settles_88 spX_13 g21 eμ22 ?_
      refine wr_aload_n 89 C dX0_settles_89 1 rfl rfl ?_
      refine wr_dup 90 C dX0_settles_90 rfl ?_
      refine gespX_0_21_X0 91 C dX0_settles_91 ?_
      refine wr_iconst 94 C dX0_settles_94 (v := 1) rfl ?_
      refine wr_iadd 95 C dX0_settles_95 ?_
      obtain ⟨μ23, eμ23, hf⟩ := o_let hf
      refine puspX_0_21_X0 96 C dX0_settles_96 eμ23 ?_
      refine wr_aload_n 99 C dX0_settles_99 1 rfl rfl ?_
      refine wr_iload_n 100 C dX0_settles_100 0 rfl rfl ?_
      obtain ⟨μ25, h24, hf⟩ := o_bindV hf
      refine wr_Vv (kc1 := 0) (ks1 := 0) 101 [] C dX0_settles_101 (tX0_be l N   x15 μ23 μ25 h24) okX0_be q885 (b := 0) spX_0 rfl ⟨rfl, rfl, Nat.le_of_ble_eq_true rfl, Nat.le_of_ble_eq_true rfl, Nat.zero_le _, Nat.zero_le _⟩ (Nat.le_of_ble_eq_true rfl) rfl ?_
      refine wr_aload_n 104 C dX0_settles_104 1 rfl rfl ?_
      refine wr_iconst 105 C dX0_settles_105 (v := 0) rfl ?_
      obtain ⟨v28, μ27, h26, hf⟩ := o_bind hf
      refine wr_Vi (kc1 := 0) (ks1 := 0) 106 [] C dX0_settles_106 (tX0_nextAct l N   0 μ25 (v28, μ27) h26) okX0_nextAct q834 (b := 0) spX_0 rfl ⟨rfl, rfl, Nat.le_of_ble_eq_true rfl, Nat.le_of_ble_eq_true rfl, Nat.zero_le _, Nat.zero_le _⟩ (Nat.le_of_ble_eq_true rfl) rfl ?_
      refine wr_istore_n 109 [(3, .int v28), (2, .int x15), (0, .ref (q 0)), (1, .ref (q b1))] C dX0_settles_109 rfl rfl (Nat.le_of_ble_eq_true rfl) rfl ?_
      refine wr_sub [(0, .ref (q 0)), (1, .ref (q b1)), (2, .int x15), (3, .int v28)] [2, 3, 1, 0] rfl ?_
      refine tX0_settles_110 C N b1  x15 _ r0 (fun  μ46 hf => ?_) N v28 μ27 hf
      · replace hf := hf
        refine wr_goto 158 C dX0_settles_158 (tgt := 42) (by decide) ?_
        exact ih  μ46 hf
def fX0_settles (N : Nat) (b1 : Nat)  (μ : wMem) : Option wMem :=
  gX0_settles_2 N b1  (fun  (μ5 : wMem) => wLet (wSI μ5 0 20 (0 : Int32)) fun μ6 => wLet (wSI μ6 0 21 (0 : Int32)) fun μ7 => wBind (fX0_state N   μ7) fun v10 μ9 => wBindV (fX0_comes N  v10 0 μ9) fun μ12 => gX0_settles_42 N b1  (fun  (μ47 : wMem) => some μ47) N  μ12) N 0 μ
set_option maxHeartbeats 4000000 in
set_option maxRecDepth 100000 in
theorem tX0_settles (l : Launch) {D : va_G} {E : List wCell} {q : Nat → Nat} {ca : wCA} (N : Nat) (b1 : Nat)   (μ : wMem) (r0 : wMem) (hf : fX0_settles N b1  μ = some r0) : wMv l yX0_settles cX0_settles 4 none ({ frames := 5, cells := 0, slots := 0, locals := 111 } : Room) D vwCl (spX ++ E) q ca [.ref (q 0), .ref (q b1)] μ r0 := by
  refine wMv_intro (by decide) (Nat.le_of_ble_eq_true rfl) ?_
  intro p e s m args below meth c A C
  unfold fX0_settles at hf
  refine wr_sub [(0, .ref (q 0)), (1, .ref (q b1))] [0, 1] rfl ?_
  refine wr_iconst 0 C dX0_settles_0 (v := 0) rfl ?_
  refine wr_istore_n 1 [(2, .int 0), (0, .ref (q 0)), (1, .ref (q b1))] C dX0_settles_1 rfl rfl (Nat.le_of_ble_eq_true rfl) rfl ?_
  refine wr_sub [(0, .ref (q 0)), (1, .ref (q b1)), (2, .int 0)] [1, 2, 0] rfl ?_
  refine tX0_settles_2 C N b1   _ r0 (fun  μ5 hf => ?_) N 0 μ hf
  · replace hf := hf
    refine wr_aload_n 23 C dX0_settles_23 0 rfl rfl ?_
    refine wr_iconst 24 C dX0_settles_24 (v := 0) rfl ?_
    obtain ⟨μ6, eμ6, hf⟩ := o_let hf
    refine puspX_0_20_X0 25 C dX0_settles_25 eμ6 ?_
    refine wr_aload_n 28 C dX0_settles_28 0 rfl rfl ?_
    refine wr_iconst 29 C dX0_settles_29 (v := 0) rfl ?_
    obtain ⟨μ7, eμ7, hf⟩ := o_let hf
    refine puspX_0_21_X0 30 C dX0_settles_30 eμ7 ?_
    refine wr_aload_n 33 C dX0_settles_33 0 rfl rfl ?_
    refine wr_aload_n 34 C dX0_settles_34 0 rfl rfl ?_
    obtain ⟨v10, μ9, h8, hf⟩ := o_bind hf
    refine wr_Vi (kc1 := 0) (ks1 := 0) 35 [.ref (q 0)] C dX0_settles_35 (tX0_state l N    μ7 (v10, μ9) h8) okX0_state q865 (b := 0) spX_0 rfl ⟨rfl, rfl, Nat.le_of_ble_eq_true rfl, Nat.le_of_ble_eq_true rfl, Nat.zero_le _, Nat.zero_le _⟩ (Nat.le_of_ble_eq_true rfl) rfl ?_
    refine wr_iconst 38 C dX0_settles_38 (v := 0) rfl ?_
    obtain ⟨μ12, h11, hf⟩ := o_bindV hf
    refine wr_Vv (kc1 := 0) (ks1 := 0) 39 [] C dX0_settles_39 (tX0_comes l N   v10 0 μ9 μ12 h11) okX0_comes q869 (b := 0) spX_0 rfl ⟨rfl, rfl, Nat.le_of_ble_eq_true rfl, Nat.le_of_ble_eq_true rfl, Nat.zero_le _, Nat.zero_le _⟩ (Nat.le_of_ble_eq_true rfl) rfl ?_
    refine tX0_settles_42 C N b1   _ r0 (fun  μ47 hf => ?_) N  μ12 hf
    · replace hf := hf
      exact wr_vret 161 C dX0_settles_161 ⟨Nat.zero_le _, Nat.zero_le _⟩ (Option.some.inj hf)
abbrev cX0_all : ByteArray := prog_1_method_15_code
def yX0_all : MethodName := ⟨RX0, "all", "()I"⟩
def dkwX0_all_0 : List UInt8 := [4, 42, 180, 0, 12, 180, 0, 128, 120, 4, 100, 172]
abbrev dktX0_all_0 : List UInt8 := dkwX0_all_0 ++ []
theorem dksX0_all_0 : cX0_all.data.toList.drop 0 = dktX0_all_0 := by decide +kernel
theorem dX0_all_0 : decode cX0_all 0 = .ok (.iconst 1, 1) := dk_4 (dk_at dksX0_all_0 0 rfl rfl)
theorem dX0_all_1 : decode cX0_all 1 = .ok (.aload_n 0, 1) := dk_42 (dk_at dksX0_all_0 1 rfl rfl)
theorem dX0_all_2 : decode cX0_all 2 = .ok (.getfield 12, 3) := dk_180 0 12 (dk_at dksX0_all_0 2 rfl rfl)
theorem dX0_all_5 : decode cX0_all 5 = .ok (.getfield 128, 3) := dk_180 0 128 (dk_at dksX0_all_0 5 rfl rfl)
theorem dX0_all_8 : decode cX0_all 8 = .ok (.ishl, 1) := dk_120 (dk_at dksX0_all_0 8 rfl rfl)
theorem dX0_all_9 : decode cX0_all 9 = .ok (.iconst 1, 1) := dk_4 (dk_at dksX0_all_0 9 rfl rfl)
theorem dX0_all_10 : decode cX0_all 10 = .ok (.isub, 1) := dk_100 (dk_at dksX0_all_0 10 rfl rfl)
theorem dX0_all_11 : decode cX0_all 11 = .ok (.ireturn, 1) := dk_172 (dk_at dksX0_all_0 11 rfl rfl)

theorem okX0_all : wOkV yX0_all cX0_all 1 (some .int) 0 := ⟨q914, qs43, q136, q915, by decide, by decide, by decide +kernel⟩
def fX0_all (N : Nat)   (μ : wMem) : Option (Int32 × wMem) :=
  some (((1 : Int32) <<< ((μ.1 1 2) &&& 31)) - (1 : Int32), μ)
set_option maxHeartbeats 4000000 in
set_option maxRecDepth 100000 in
theorem tX0_all (l : Launch) {D : va_G} {E : List wCell} {q : Nat → Nat} {ca : wCA} (N : Nat)    (μ : wMem) (r0 : (Int32 × wMem)) (hf : fX0_all N   μ = some r0) : wMi l yX0_all cX0_all 1 (some .int) ({ frames := 0, cells := 0, slots := 0, locals := 0 } : Room) D vwCl (spX ++ E) q ca [.ref (q 0)] μ r0 := by
  refine wMi_intro (by decide) (Nat.le_of_ble_eq_true rfl) ?_
  intro p e s m args below meth c A C
  unfold fX0_all at hf
  refine wr_sub [(0, .ref (q 0))] [0] rfl ?_
  refine wr_iconst 0 C dX0_all_0 (v := 1) rfl ?_
  refine wr_aload_n 1 C dX0_all_1 0 rfl rfl ?_
  refine gespX_0_0_X0 2 C dX0_all_2 ?_
  refine gespX_1_2_X0 5 C dX0_all_5 ?_
  refine wr_ishl 8 C dX0_all_8 ?_
  refine wr_iconst 9 C dX0_all_9 (v := 1) rfl ?_
  refine wr_isub 10 C dX0_all_10 ?_
  exact wr_iret 11 C dX0_all_11 ⟨Nat.zero_le _, Nat.zero_le _⟩ (Option.some.inj hf)
abbrev cX0_isEnd : ByteArray := prog_1_method_31_code
def yX0_isEnd : MethodName := ⟨RX0, "isEnd", "()Z"⟩
def dkwX0_isEnd_1 : List UInt8 := [167, 0, 4, 3, 172]
abbrev dktX0_isEnd_1 : List UInt8 := dkwX0_isEnd_1 ++ []
def dkwX0_isEnd_0 : List UInt8 := [42, 180, 0, 179, 42, 182, 0, 215, 42, 180, 0, 12, 180, 0, 219, 2, 130, 126, 160, 0, 7, 4]
abbrev dktX0_isEnd_0 : List UInt8 := dkwX0_isEnd_0 ++ dktX0_isEnd_1
theorem dksX0_isEnd_0 : cX0_isEnd.data.toList.drop 0 = dktX0_isEnd_0 := by decide +kernel
theorem dksX0_isEnd_1 : cX0_isEnd.data.toList.drop 22 = dktX0_isEnd_1 := dk_seg dksX0_isEnd_0 22 rfl rfl
theorem dX0_isEnd_0 : decode cX0_isEnd 0 = .ok (.aload_n 0, 1) := dk_42 (dk_at dksX0_isEnd_0 0 rfl rfl)
theorem dX0_isEnd_1 : decode cX0_isEnd 1 = .ok (.getfield 179, 3) := dk_180 0 179 (dk_at dksX0_isEnd_0 1 rfl rfl)
theorem dX0_isEnd_4 : decode cX0_isEnd 4 = .ok (.aload_n 0, 1) := dk_42 (dk_at dksX0_isEnd_0 4 rfl rfl)
theorem dX0_isEnd_5 : decode cX0_isEnd 5 = .ok (.invokevirtual 215, 3) := dk_182 0 215 (dk_at dksX0_isEnd_0 5 rfl rfl)
theorem dX0_isEnd_8 : decode cX0_isEnd 8 = .ok (.aload_n 0, 1) := dk_42 (dk_at dksX0_isEnd_0 8 rfl rfl)
theorem dX0_isEnd_9 : decode cX0_isEnd 9 = .ok (.getfield 12, 3) := dk_180 0 12 (dk_at dksX0_isEnd_0 9 rfl rfl)
theorem dX0_isEnd_12 : decode cX0_isEnd 12 = .ok (.getfield 219, 3) := dk_180 0 219 (dk_at dksX0_isEnd_0 12 rfl rfl)
theorem dX0_isEnd_15 : decode cX0_isEnd 15 = .ok (.iconst (-1), 1) := dk_2 (dk_at dksX0_isEnd_0 15 rfl rfl)
theorem dX0_isEnd_16 : decode cX0_isEnd 16 = .ok (.ixor, 1) := dk_130 (dk_at dksX0_isEnd_0 16 rfl rfl)
theorem dX0_isEnd_17 : decode cX0_isEnd 17 = .ok (.iand, 1) := dk_126 (dk_at dksX0_isEnd_0 17 rfl rfl)
theorem dX0_isEnd_18 : decode cX0_isEnd 18 = .ok (.if_icmp .ne 7, 3) := dk_160 0 7 (dk_at dksX0_isEnd_0 18 rfl rfl)
theorem dX0_isEnd_21 : decode cX0_isEnd 21 = .ok (.iconst 1, 1) := dk_4 (dk_at dksX0_isEnd_0 21 rfl rfl)
theorem dX0_isEnd_22 : decode cX0_isEnd 22 = .ok (.goto 4, 3) := dk_167 0 4 (dk_at dksX0_isEnd_1 0 rfl rfl)
theorem dX0_isEnd_25 : decode cX0_isEnd 25 = .ok (.iconst 0, 1) := dk_3 (dk_at dksX0_isEnd_1 3 rfl rfl)
theorem dX0_isEnd_26 : decode cX0_isEnd 26 = .ok (.ireturn, 1) := dk_172 (dk_at dksX0_isEnd_1 4 rfl rfl)

theorem okX0_isEnd : wOkV yX0_isEnd cX0_isEnd 1 (some .boolean) 0 := ⟨q910, qs42, q136, q911, by decide, by decide, by decide +kernel⟩
def fX0_isEnd (N : Nat)   (μ : wMem) : Option (Int32 × wMem) :=
  wBind (fX0_all N   μ) fun v3 μ2 => if (μ.1 0 5) = (v3 &&& ((μ2.1 1 5) ^^^ (-1 : Int32))) then some (1, μ2) else some (0, μ2)
set_option maxHeartbeats 4000000 in
set_option maxRecDepth 100000 in
theorem tX0_isEnd (l : Launch) {D : va_G} {E : List wCell} {q : Nat → Nat} {ca : wCA} (N : Nat)    (μ : wMem) (r0 : (Int32 × wMem)) (hf : fX0_isEnd N   μ = some r0) : wMi l yX0_isEnd cX0_isEnd 1 (some .boolean) ({ frames := 1, cells := 0, slots := 0, locals := 20 } : Room) D vwCl (spX ++ E) q ca [.ref (q 0)] μ r0 := by
  refine wMi_intro (by decide) (Nat.le_of_ble_eq_true rfl) ?_
  intro p e s m args below meth c A C
  unfold fX0_isEnd at hf
  refine wr_sub [(0, .ref (q 0))] [0] rfl ?_
  refine wr_aload_n 0 C dX0_isEnd_0 0 rfl rfl ?_
  refine gespX_0_5_X0 1 C dX0_isEnd_1 ?_
  refine wr_aload_n 4 C dX0_isEnd_4 0 rfl rfl ?_
  obtain ⟨v3, μ2, h1, hf⟩ := o_bind hf
  refine wr_Vi (kc1 := 0) (ks1 := 0) 5 [.int (μ.1 0 5)] C dX0_isEnd_5 (tX0_all l N    μ (v3, μ2) h1) okX0_all q912 (b := 0) spX_0 rfl ⟨rfl, rfl, Nat.le_of_ble_eq_true rfl, Nat.le_of_ble_eq_true rfl, Nat.zero_le _, Nat.zero_le _⟩ (Nat.le_of_ble_eq_true rfl) rfl ?_
  refine wr_aload_n 8 C dX0_isEnd_8 0 rfl rfl ?_
  refine gespX_0_0_X0 9 C dX0_isEnd_9 ?_
  refine gespX_1_5_X0 12 C dX0_isEnd_12 ?_
  refine wr_iconst 15 C dX0_isEnd_15 (v := (-1)) rfl ?_
  refine wr_ixor 16 C dX0_isEnd_16 ?_
  refine wr_iand 17 C dX0_isEnd_17 ?_
  refine wr_icmp_ne 18 25 C dX0_isEnd_18 (by decide) (fun c4 => ?_) (fun c4 => ?_)
  · replace hf := o_neg c4 hf
    refine wr_iconst 25 C dX0_isEnd_25 (v := 0) rfl ?_
    exact wr_zret 26 C dX0_isEnd_26 rfl ⟨Nat.zero_le _, Nat.zero_le _⟩ (Option.some.inj hf)
  · replace hf := o_pos c4 hf
    refine wr_iconst 21 C dX0_isEnd_21 (v := 1) rfl ?_
    refine wr_goto 22 C dX0_isEnd_22 (tgt := 26) (by decide) ?_
    exact wr_zret 26 C dX0_isEnd_26 rfl ⟨Nat.zero_le _, Nat.zero_le _⟩ (Option.some.inj hf)
abbrev cX0_nearestEnd : ByteArray := prog_1_method_57_code
def yX0_nearestEnd : MethodName := ⟨RX0, "nearestEnd", "()I"⟩
def dkwX0_nearestEnd_2 : List UInt8 := [172]
abbrev dktX0_nearestEnd_2 : List UInt8 := dkwX0_nearestEnd_2 ++ []
def dkwX0_nearestEnd_1 : List UInt8 := [153, 0, 15, 42, 180, 0, 52, 42, 180, 0, 61, 27, 46, 46, 172, 132, 1, 1, 167, 255, 216, 19, 1, 35]
abbrev dktX0_nearestEnd_1 : List UInt8 := dkwX0_nearestEnd_1 ++ dktX0_nearestEnd_2
def dkwX0_nearestEnd_0 : List UInt8 := [3, 60, 27, 42, 180, 1, 39, 162, 0, 38, 42, 42, 180, 0, 61, 27, 46, 182, 1, 51, 42, 182, 1, 57]
abbrev dktX0_nearestEnd_0 : List UInt8 := dkwX0_nearestEnd_0 ++ dktX0_nearestEnd_1
theorem dksX0_nearestEnd_0 : cX0_nearestEnd.data.toList.drop 0 = dktX0_nearestEnd_0 := by decide +kernel
theorem dksX0_nearestEnd_1 : cX0_nearestEnd.data.toList.drop 24 = dktX0_nearestEnd_1 := dk_seg dksX0_nearestEnd_0 24 rfl rfl
theorem dksX0_nearestEnd_2 : cX0_nearestEnd.data.toList.drop 48 = dktX0_nearestEnd_2 := dk_seg dksX0_nearestEnd_1 24 rfl rfl
theorem dX0_nearestEnd_0 : decode cX0_nearestEnd 0 = .ok (.iconst 0, 1) := dk_3 (dk_at dksX0_nearestEnd_0 0 rfl rfl)
theorem dX0_nearestEnd_1 : decode cX0_nearestEnd 1 = .ok (.istore_n 1, 1) := dk_60 (dk_at dksX0_nearestEnd_0 1 rfl rfl)
theorem dX0_nearestEnd_2 : decode cX0_nearestEnd 2 = .ok (.iload_n 1, 1) := dk_27 (dk_at dksX0_nearestEnd_0 2 rfl rfl)
theorem dX0_nearestEnd_3 : decode cX0_nearestEnd 3 = .ok (.aload_n 0, 1) := dk_42 (dk_at dksX0_nearestEnd_0 3 rfl rfl)
theorem dX0_nearestEnd_4 : decode cX0_nearestEnd 4 = .ok (.getfield 295, 3) := dk_180 1 39 (dk_at dksX0_nearestEnd_0 4 rfl rfl)
theorem dX0_nearestEnd_7 : decode cX0_nearestEnd 7 = .ok (.if_icmp .ge 38, 3) := dk_162 0 38 (dk_at dksX0_nearestEnd_0 7 rfl rfl)
theorem dX0_nearestEnd_10 : decode cX0_nearestEnd 10 = .ok (.aload_n 0, 1) := dk_42 (dk_at dksX0_nearestEnd_0 10 rfl rfl)
theorem dX0_nearestEnd_11 : decode cX0_nearestEnd 11 = .ok (.aload_n 0, 1) := dk_42 (dk_at dksX0_nearestEnd_0 11 rfl rfl)
theorem dX0_nearestEnd_12 : decode cX0_nearestEnd 12 = .ok (.getfield 61, 3) := dk_180 0 61 (dk_at dksX0_nearestEnd_0 12 rfl rfl)
theorem dX0_nearestEnd_15 : decode cX0_nearestEnd 15 = .ok (.iload_n 1, 1) := dk_27 (dk_at dksX0_nearestEnd_0 15 rfl rfl)
theorem dX0_nearestEnd_16 : decode cX0_nearestEnd 16 = .ok (.iaload, 1) := dk_46 (dk_at dksX0_nearestEnd_0 16 rfl rfl)
theorem dX0_nearestEnd_17 : decode cX0_nearestEnd 17 = .ok (.invokevirtual 307, 3) := dk_182 1 51 (dk_at dksX0_nearestEnd_0 17 rfl rfl)
theorem dX0_nearestEnd_20 : decode cX0_nearestEnd 20 = .ok (.aload_n 0, 1) := dk_42 (dk_at dksX0_nearestEnd_0 20 rfl rfl)
theorem dX0_nearestEnd_21 : decode cX0_nearestEnd 21 = .ok (.invokevirtual 313, 3) := dk_182 1 57 (dk_at dksX0_nearestEnd_0 21 rfl rfl)
theorem dX0_nearestEnd_24 : decode cX0_nearestEnd 24 = .ok (.ifCond .eq 15, 3) := dk_153 0 15 (dk_at dksX0_nearestEnd_1 0 rfl rfl)
theorem dX0_nearestEnd_27 : decode cX0_nearestEnd 27 = .ok (.aload_n 0, 1) := dk_42 (dk_at dksX0_nearestEnd_1 3 rfl rfl)
theorem dX0_nearestEnd_28 : decode cX0_nearestEnd 28 = .ok (.getfield 52, 3) := dk_180 0 52 (dk_at dksX0_nearestEnd_1 4 rfl rfl)
theorem dX0_nearestEnd_31 : decode cX0_nearestEnd 31 = .ok (.aload_n 0, 1) := dk_42 (dk_at dksX0_nearestEnd_1 7 rfl rfl)
theorem dX0_nearestEnd_32 : decode cX0_nearestEnd 32 = .ok (.getfield 61, 3) := dk_180 0 61 (dk_at dksX0_nearestEnd_1 8 rfl rfl)
theorem dX0_nearestEnd_35 : decode cX0_nearestEnd 35 = .ok (.iload_n 1, 1) := dk_27 (dk_at dksX0_nearestEnd_1 11 rfl rfl)
theorem dX0_nearestEnd_36 : decode cX0_nearestEnd 36 = .ok (.iaload, 1) := dk_46 (dk_at dksX0_nearestEnd_1 12 rfl rfl)
theorem dX0_nearestEnd_37 : decode cX0_nearestEnd 37 = .ok (.iaload, 1) := dk_46 (dk_at dksX0_nearestEnd_1 13 rfl rfl)
theorem dX0_nearestEnd_38 : decode cX0_nearestEnd 38 = .ok (.ireturn, 1) := dk_172 (dk_at dksX0_nearestEnd_1 14 rfl rfl)
theorem dX0_nearestEnd_39 : decode cX0_nearestEnd 39 = .ok (.iinc 1 1, 3) := dk_132 1 1 (dk_at dksX0_nearestEnd_1 15 rfl rfl)
theorem dX0_nearestEnd_42 : decode cX0_nearestEnd 42 = .ok (.goto (-40), 3) := dk_167 255 216 (dk_at dksX0_nearestEnd_1 18 rfl rfl)
theorem dX0_nearestEnd_45 : decode cX0_nearestEnd 45 = .ok (.ldc_w 291, 3) := dk_19 1 35 (dk_at dksX0_nearestEnd_1 21 rfl rfl)
theorem dX0_nearestEnd_48 : decode cX0_nearestEnd 48 = .ok (.ireturn, 1) := dk_172 (dk_at dksX0_nearestEnd_2 0 rfl rfl)

theorem okX0_nearestEnd : wOkV yX0_nearestEnd cX0_nearestEnd 2 (some .int) 0 := ⟨q906, qs41, q136, q907, by decide, by decide, by decide +kernel⟩
def gbX0_nearestEnd_2 (N : Nat)   (K : (wMem → Option (Int32 × wMem))) (rec : (Int32 → wMem → Option (Int32 × wMem))) (x1_ : Int32) (μ : wMem) : Option (Int32 × wMem) :=
  if (μ.1 0 21) ≤ x1_ then K  μ else wG (ok_in x1_ 100352) (wBindV (fX0_be N  (μ.1 13 (Int32.toNatClampNeg x1_)) μ) fun μ4 => wBind (fX0_isEnd N   μ4) fun v7 μ6 => if v7 = 0 then wLet (x1_ + 1 : Int32) fun x9 => rec x9 μ6 else wG (ok_in x1_ 100352) (wG (ok_in (μ6.1 13 (Int32.toNatClampNeg x1_)) 100352) (some (μ6.1 10 (Int32.toNatClampNeg (μ6.1 13 (Int32.toNatClampNeg x1_))), μ6))))
def gX0_nearestEnd_2 (N : Nat)   (K : (wMem → Option (Int32 × wMem))) : Nat → (Int32 → wMem → Option (Int32 × wMem))
  | 0 => fun _ _ => none
  | k + 1 => gbX0_nearestEnd_2 N   K (gX0_nearestEnd_2 N   K k)
set_option maxHeartbeats 4000000 in
set_option maxRecDepth 100000 in
theorem tX0_nearestEnd_2 {p : Program} {l : Launch} {e : Env} {s : State} {m : MethodId} {args : Array Value} {below : List Frame} {meth : Method} {c : Code} {D : va_G} {E : List wCell} {q : Nat → Nat} {ca : wCA} {A : Nat → Prop} (C : wC p ({ frames := 2, cells := 0, slots := 0, locals := 40 } : Room) s m args meth c cX0_nearestEnd yX0_nearestEnd.cls 2 (some .int) D vwCl (spX ++ E) q ca A) (N : Nat)    (K : (wMem → Option (Int32 × wMem))) (r0 : (Int32 × wMem)) (hK : ∀  (μ : wMem), K  μ = some r0 → wJ p l e ({ frames := 2, cells := 0, slots := 0, locals := 40 } : Room) s m args below meth c 2 D vwCl (spX ++ E) q ca A (wQi ({ frames := 2, cells := 0, slots := 0, locals := 40 } : Room) D vwCl (spX ++ E) q ca below args s A r0) 0 0 μ 45 [] []) : ∀ (k : Nat) (x1_ : Int32) (μ : wMem), gX0_nearestEnd_2 N   K k x1_ μ = some r0 → wJ p l e ({ frames := 2, cells := 0, slots := 0, locals := 40 } : Room) s m args below meth c 2 D vwCl (spX ++ E) q ca A (wQi ({ frames := 2, cells := 0, slots := 0, locals := 40 } : Room) D vwCl (spX ++ E) q ca below args s A r0) 0 0 μ 2 [(0, .ref (q 0)), (1, .int x1_)] [] := by
  intro k
  induction k with
  | zero =>
    intro x1_ μ hf
    cases hf
  | succ k ih =>
    intro x1_ μ hf
    replace hf : gbX0_nearestEnd_2 N   K (gX0_nearestEnd_2 N   K k) x1_ μ = some r0 := hf
    unfold gbX0_nearestEnd_2 at hf
    refine wr_iload_n 2 C dX0_nearestEnd_2 1 rfl rfl ?_
    refine wr_aload_n 3 C dX0_nearestEnd_3 0 rfl rfl ?_
    refine gespX_0_21_X0 4 C dX0_nearestEnd_4 ?_
    refine wr_icmp_ge 7 45 C dX0_nearestEnd_7 (by decide) (fun c1 => ?_) (fun c1 => ?_)
    · replace hf := o_pos c1 hf
      refine wr_sub [] [] rfl ?_
      exact hK  μ hf
    · replace hf := o_neg c1 hf
      refine wr_aload_n 10 C dX0_nearestEnd_10 0 rfl rfl ?_
      refine wr_aload_n 11 C dX0_nearestEnd_11 0 rfl rfl ?_
      refine gespX_0_19_X0 12 C dX0_nearestEnd_12 ?_
      refine wr_iload_n 15 C dX0_nearestEnd_15 1 rfl rfl ?_
      obtain ⟨g2, hf⟩ := o_g hf
      refine wr_iald 16 C dX0_nearestEnd_16 spX_13 g2 ?_
      obtain ⟨μ4, h3, hf⟩ := o_bindV hf
      refine wr_Vv (kc1 := 0) (ks1 := 0) 17 [] C dX0_nearestEnd_17 (tX0_be l N   (μ.1 13 (Int32.toNatClampNeg x1_)) μ μ4 h3) okX0_be q885 (b := 0) spX_0 rfl ⟨rfl, rfl, Nat.le_of_ble_eq_true rfl, Nat.le_of_ble_eq_true rfl, Nat.zero_le _, Nat.zero_le _⟩ (Nat.le_of_ble_eq_true rfl) rfl ?_
      refine wr_aload_n 20 C dX0_nearestEnd_20 0 rfl rfl ?_
      obtain ⟨v7, μ6, h5, hf⟩ := o_bind hf
      refine wr_Vi (kc1 := 0) (ks1 := 0) 21 [] C dX0_nearestEnd_21 (tX0_isEnd l N    μ4 (v7, μ6) h5) okX0_isEnd q908 (b := 0) spX_0 rfl ⟨rfl, rfl, Nat.le_of_ble_eq_true rfl, Nat.le_of_ble_eq_true rfl, Nat.zero_le _, Nat.zero_le _⟩ (Nat.le_of_ble_eq_true rfl) rfl ?_
      refine wr_if_eq 24 39 C dX0_nearestEnd_24 (by decide) (fun c8 => ?_) (fun c8 => ?_)
      · replace hf := o_pos c8 hf
        obtain ⟨x9, ex9, hf⟩ := o_let hf
        refine wr_iinc 39 [(1, .int x9), (0, .ref (q 0))] C dX0_nearestEnd_39 1 rfl (ex9.trans rfl) (Nat.le_of_ble_eq_true rfl) rfl ?_
        refine wr_goto 42 C dX0_nearestEnd_42 (tgt := 2) (by decide) ?_
        refine wr_sub [(0, .ref (q 0)), (1, .int x9)] [1, 0] rfl ?_
        exact ih x9 μ6 hf
      · replace hf := o_neg c8 hf
        refine wr_aload_n 27 C dX0_nearestEnd_27 0 rfl rfl ?_
        refine gespX_0_16_X0 28 C dX0_nearestEnd_28 ?_
        refine wr_aload_n 31 C dX0_nearestEnd_31 0 rfl rfl ?_
        refine gespX_0_19_X0 32 C dX0_nearestEnd_32 ?_
        refine wr_iload_n 35 C dX0_nearestEnd_35 1 rfl rfl ?_
        obtain ⟨g10, hf⟩ := o_g hf
        refine wr_iald 36 C dX0_nearestEnd_36 spX_13 g10 ?_
        obtain ⟨g11, hf⟩ := o_g hf
        refine wr_iald 37 C dX0_nearestEnd_37 spX_10 g11 ?_
        exact wr_iret 38 C dX0_nearestEnd_38 ⟨Nat.zero_le _, Nat.zero_le _⟩ (Option.some.inj hf)
def fX0_nearestEnd (N : Nat)   (μ : wMem) : Option (Int32 × wMem) :=
  gX0_nearestEnd_2 N   (fun  (μ12 : wMem) => some (1000000000, μ12)) N 0 μ
set_option maxHeartbeats 4000000 in
set_option maxRecDepth 100000 in
theorem tX0_nearestEnd (l : Launch) {D : va_G} {E : List wCell} {q : Nat → Nat} {ca : wCA} (N : Nat)    (μ : wMem) (r0 : (Int32 × wMem)) (hf : fX0_nearestEnd N   μ = some r0) : wMi l yX0_nearestEnd cX0_nearestEnd 2 (some .int) ({ frames := 2, cells := 0, slots := 0, locals := 40 } : Room) D vwCl (spX ++ E) q ca [.ref (q 0)] μ r0 := by
  refine wMi_intro (by decide) (Nat.le_of_ble_eq_true rfl) ?_
  intro p e s m args below meth c A C
  unfold fX0_nearestEnd at hf
  refine wr_sub [(0, .ref (q 0))] [0] rfl ?_
  refine wr_iconst 0 C dX0_nearestEnd_0 (v := 0) rfl ?_
  refine wr_istore_n 1 [(1, .int 0), (0, .ref (q 0))] C dX0_nearestEnd_1 rfl rfl (Nat.le_of_ble_eq_true rfl) rfl ?_
  refine wr_sub [(0, .ref (q 0)), (1, .int 0)] [1, 0] rfl ?_
  refine tX0_nearestEnd_2 C N    _ r0 (fun  μ12 hf => ?_) N 0 μ hf
  · replace hf := hf
    refine wr_ldcw 45 C dX0_nearestEnd_45 q864 ?_
    exact wr_iret 48 C dX0_nearestEnd_48 ⟨Nat.zero_le _, Nat.zero_le _⟩ (Option.some.inj hf)
