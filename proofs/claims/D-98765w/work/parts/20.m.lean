set_option maxRecDepth 100000
abbrev cX0_puts : ByteArray := prog_1_method_4_code
def yX0_puts : MethodName := ⟨RX0, "puts", "(I)V"⟩
def dkwX0_puts_1 : List UInt8 := [180, 0, 96, 4, 96, 181, 0, 96, 132, 2, 248, 167, 255, 226, 177]
abbrev dktX0_puts_1 : List UInt8 := dkwX0_puts_1 ++ []
def dkwX0_puts_0 : List UInt8 := [16, 24, 61, 28, 155, 0, 32, 42, 180, 0, 16, 42, 180, 0, 96, 27, 28, 122, 145, 84, 42, 89]
abbrev dktX0_puts_0 : List UInt8 := dkwX0_puts_0 ++ dktX0_puts_1
theorem dksX0_puts_0 : cX0_puts.data.toList.drop 0 = dktX0_puts_0 := by decide +kernel
theorem dksX0_puts_1 : cX0_puts.data.toList.drop 22 = dktX0_puts_1 := dk_seg dksX0_puts_0 22 rfl rfl
theorem dX0_puts_0 : decode cX0_puts 0 = .ok (.bipush 24, 2) := dk_16 24 (dk_at dksX0_puts_0 0 rfl rfl)
theorem dX0_puts_2 : decode cX0_puts 2 = .ok (.istore_n 2, 1) := dk_61 (dk_at dksX0_puts_0 2 rfl rfl)
theorem dX0_puts_3 : decode cX0_puts 3 = .ok (.iload_n 2, 1) := dk_28 (dk_at dksX0_puts_0 3 rfl rfl)
theorem dX0_puts_4 : decode cX0_puts 4 = .ok (.ifCond .lt 32, 3) := dk_155 0 32 (dk_at dksX0_puts_0 4 rfl rfl)
theorem dX0_puts_7 : decode cX0_puts 7 = .ok (.aload_n 0, 1) := dk_42 (dk_at dksX0_puts_0 7 rfl rfl)
theorem dX0_puts_8 : decode cX0_puts 8 = .ok (.getfield 16, 3) := dk_180 0 16 (dk_at dksX0_puts_0 8 rfl rfl)
theorem dX0_puts_11 : decode cX0_puts 11 = .ok (.aload_n 0, 1) := dk_42 (dk_at dksX0_puts_0 11 rfl rfl)
theorem dX0_puts_12 : decode cX0_puts 12 = .ok (.getfield 96, 3) := dk_180 0 96 (dk_at dksX0_puts_0 12 rfl rfl)
theorem dX0_puts_15 : decode cX0_puts 15 = .ok (.iload_n 1, 1) := dk_27 (dk_at dksX0_puts_0 15 rfl rfl)
theorem dX0_puts_16 : decode cX0_puts 16 = .ok (.iload_n 2, 1) := dk_28 (dk_at dksX0_puts_0 16 rfl rfl)
theorem dX0_puts_17 : decode cX0_puts 17 = .ok (.ishr, 1) := dk_122 (dk_at dksX0_puts_0 17 rfl rfl)
theorem dX0_puts_18 : decode cX0_puts 18 = .ok (.i2b, 1) := dk_145 (dk_at dksX0_puts_0 18 rfl rfl)
theorem dX0_puts_19 : decode cX0_puts 19 = .ok (.bastore, 1) := dk_84 (dk_at dksX0_puts_0 19 rfl rfl)
theorem dX0_puts_20 : decode cX0_puts 20 = .ok (.aload_n 0, 1) := dk_42 (dk_at dksX0_puts_0 20 rfl rfl)
theorem dX0_puts_21 : decode cX0_puts 21 = .ok (.dup, 1) := dk_89 (dk_at dksX0_puts_0 21 rfl rfl)
theorem dX0_puts_22 : decode cX0_puts 22 = .ok (.getfield 96, 3) := dk_180 0 96 (dk_at dksX0_puts_1 0 rfl rfl)
theorem dX0_puts_25 : decode cX0_puts 25 = .ok (.iconst 1, 1) := dk_4 (dk_at dksX0_puts_1 3 rfl rfl)
theorem dX0_puts_26 : decode cX0_puts 26 = .ok (.iadd, 1) := dk_96 (dk_at dksX0_puts_1 4 rfl rfl)
theorem dX0_puts_27 : decode cX0_puts 27 = .ok (.putfield 96, 3) := dk_181 0 96 (dk_at dksX0_puts_1 5 rfl rfl)
theorem dX0_puts_30 : decode cX0_puts 30 = .ok (.iinc 2 (-8), 3) := dk_132 2 248 (dk_at dksX0_puts_1 8 rfl rfl)
theorem dX0_puts_33 : decode cX0_puts 33 = .ok (.goto (-30), 3) := dk_167 255 226 (dk_at dksX0_puts_1 11 rfl rfl)
theorem dX0_puts_36 : decode cX0_puts 36 = .ok (.return_, 1) := dk_177 (dk_at dksX0_puts_1 14 rfl rfl)
theorem gespX_0_1_X0 {p : Program} {l : Launch} {e : Env} {R : Room} {s : State} {m : MethodId} {args : Array Value} {below : List Frame} {meth : Method} {c : Code} {cc : ByteArray} {nL : Nat} {ret : Option FieldType} {D : va_G} {E : List wCell} {q : Nat → Nat} {ca : wCA} {A : Nat → Prop} {Q : State → Prop} {kc ks : Nat} {μ : wMem} {lv : List (Nat × Value)} {st : List Value} (pc : Nat) (C : wC p R s m args meth c cc "OnePassport" nL ret D vwCl (spX ++ E) q ca A) (hd : decode cc pc = .ok (.getfield 16, 3)) (k : wJ p l e R s m args below meth c nL D vwCl (spX ++ E) q ca A Q kc ks μ (pc + 3) lv (.ref (q 8) :: st)) : wJ p l e R s m args below meth c nL D vwCl (spX ++ E) q ca A Q kc ks μ pc lv (.ref (q 0) :: st) := wr_getR pc 1 C hd spX_0 rfl in_X0 (by decide) rfl q331 k
theorem gespX_0_2_X0 {p : Program} {l : Launch} {e : Env} {R : Room} {s : State} {m : MethodId} {args : Array Value} {below : List Frame} {meth : Method} {c : Code} {cc : ByteArray} {nL : Nat} {ret : Option FieldType} {D : va_G} {E : List wCell} {q : Nat → Nat} {ca : wCA} {A : Nat → Prop} {Q : State → Prop} {kc ks : Nat} {μ : wMem} {lv : List (Nat × Value)} {st : List Value} (pc : Nat) (C : wC p R s m args meth c cc "OnePassport" nL ret D vwCl (spX ++ E) q ca A) (hd : decode cc pc = .ok (.getfield 96, 3)) (k : wJ p l e R s m args below meth c nL D vwCl (spX ++ E) q ca A Q kc ks μ (pc + 3) lv (.int (μ.1 0 2) :: st)) : wJ p l e R s m args below meth c nL D vwCl (spX ++ E) q ca A Q kc ks μ pc lv (.ref (q 0) :: st) := wr_getI pc 2 C hd spX_0 rfl in_X0 (by decide) rfl q333 k
theorem puspX_0_2_X0 {p : Program} {l : Launch} {e : Env} {R : Room} {s : State} {m : MethodId} {args : Array Value} {below : List Frame} {meth : Method} {c : Code} {cc : ByteArray} {nL : Nat} {ret : Option FieldType} {D : va_G} {E : List wCell} {q : Nat → Nat} {ca : wCA} {A : Nat → Prop} {Q : State → Prop} {kc ks : Nat} {μ : wMem} {lv : List (Nat × Value)} {st : List Value} {v : Int32} {μ1 : wMem} (pc : Nat) (C : wC p R s m args meth c cc "OnePassport" nL ret D vwCl (spX ++ E) q ca A) (hd : decode cc pc = .ok (.putfield 96, 3)) (hμ : μ1 = wSI μ 0 2 v) (k : wJ p l e R s m args below meth c nL D vwCl (spX ++ E) q ca A Q kc ks μ1 (pc + 3) lv st) : wJ p l e R s m args below meth c nL D vwCl (spX ++ E) q ca A Q kc ks μ pc lv (.int v :: .ref (q 0) :: st) := wr_putI pc 2 C hd spX_0 rfl in_X0 tyX0 tyX0_ok nmX0 (by decide) rfl q333 rfl rfl hμ k
theorem okX0_puts : wOkV yX0_puts cX0_puts 3 none 1 := ⟨q440, qs0, q136, q441, by decide, by decide, by decide +kernel⟩
def gbX0_puts_3 (N : Nat)  (x1_ : Int32) (K : (wMem → Option wMem)) (rec : (Int32 → wMem → Option wMem)) (x2_ : Int32) (μ : wMem) : Option wMem :=
  if x2_ < 0 then K  μ else wG (ok_in (μ.1 0 2) 600) (wLet (wSI μ 8 (Int32.toNatClampNeg (μ.1 0 2)) (Int8.toInt32 (Int32.toInt8 (x1_ >>> (x2_ &&& 31))))) fun μ3 => wLet (wSI μ3 0 2 ((μ3.1 0 2) + (1 : Int32))) fun μ4 => wLet (x2_ + (-8) : Int32) fun x5 => rec x5 μ4)
def gX0_puts_3 (N : Nat)  (x1_ : Int32) (K : (wMem → Option wMem)) : Nat → (Int32 → wMem → Option wMem)
  | 0 => fun _ _ => none
  | k + 1 => gbX0_puts_3 N  x1_ K (gX0_puts_3 N  x1_ K k)
set_option maxHeartbeats 4000000 in
set_option maxRecDepth 100000 in
theorem tX0_puts_3 {p : Program} {l : Launch} {e : Env} {s : State} {m : MethodId} {args : Array Value} {below : List Frame} {meth : Method} {c : Code} {D : va_G} {E : List wCell} {q : Nat → Nat} {ca : wCA} {A : Nat → Prop} (C : wC p ({ frames := 0, cells := 0, slots := 0, locals := 0 } : Room) s m args meth c cX0_puts yX0_puts.cls 3 none D vwCl (spX ++ E) q ca A) (N : Nat)   (x1_ : Int32) (K : (wMem → Option wMem)) (r0 : wMem) (hK : ∀  (μ : wMem), K  μ = some r0 → wJ p l e ({ frames := 0, cells := 0, slots := 0, locals := 0 } : Room) s m args below meth c 3 D vwCl (spX ++ E) q ca A (wQv ({ frames := 0, cells := 0, slots := 0, locals := 0 } : Room) D vwCl (spX ++ E) q ca below args s A r0) 0 0 μ 36 [] []) : ∀ (k : Nat) (x2_ : Int32) (μ : wMem), gX0_puts_3 N  x1_ K k x2_ μ = some r0 → wJ p l e ({ frames := 0, cells := 0, slots := 0, locals := 0 } : Room) s m args below meth c 3 D vwCl (spX ++ E) q ca A (wQv ({ frames := 0, cells := 0, slots := 0, locals := 0 } : Room) D vwCl (spX ++ E) q ca below args s A r0) 0 0 μ 3 [(0, .ref (q 0)), (1, .int x1_), (2, .int x2_)] [] := by
  intro k
  induction k with
  | zero =>
    intro x2_ μ hf
    cases hf
  | succ k ih =>
    intro x2_ μ hf
    replace hf : gbX0_puts_3 N  x1_ K (gX0_puts_3 N  x1_ K k) x2_ μ = some r0 := hf
    unfold gbX0_puts_3 at hf
    refine wr_iload_n 3 C dX0_puts_3 2 rfl rfl ?_
    refine wr_if_lt 4 36 C dX0_puts_4 (by decide) (fun c1 => ?_) (fun c1 => ?_)
    · replace hf := o_pos c1 hf
      refine wr_sub [] [] rfl ?_
      exact hK  μ hf
    · replace hf := o_neg c1 hf
      refine wr_aload_n 7 C dX0_puts_7 0 rfl rfl ?_
      refine gespX_0_1_X0 8 C dX0_puts_8 ?_
      refine wr_aload_n 11 C dX0_puts_11 0 rfl rfl ?_
      refine gespX_0_2_X0 12 C dX0_puts_12 ?_
      refine wr_iload_n 15 C dX0_puts_15 1 rfl rfl ?_
      refine wr_iload_n 16 C dX0_puts_16 2 rfl rfl ?_
      refine wr_ishr 17 C dX0_puts_17 ?_
      refine wr_i2b 18 C dX0_puts_18 ?_
      obtain ⟨g2, hf⟩ := o_g hf
      obtain ⟨μ3, eμ3, hf⟩ := o_let hf
      refine wr_bast 19 C dX0_puts_19 spX_8 g2 (pk_vb _) eμ3 ?_
      refine wr_aload_n 20 C dX0_puts_20 0 rfl rfl ?_
      refine wr_dup 21 C dX0_puts_21 rfl ?_
      refine gespX_0_2_X0 22 C dX0_puts_22 ?_
      refine wr_iconst 25 C dX0_puts_25 (v := 1) rfl ?_
      refine wr_iadd 26 C dX0_puts_26 ?_
      obtain ⟨μ4, eμ4, hf⟩ := o_let hf
      refine puspX_0_2_X0 27 C dX0_puts_27 eμ4 ?_
      obtain ⟨x5, ex5, hf⟩ := o_let hf
      refine wr_iinc 30 [(2, .int x5), (0, .ref (q 0)), (1, .int x1_)] C dX0_puts_30 2 rfl (ex5.trans rfl) (Nat.le_of_ble_eq_true rfl) rfl ?_
      refine wr_goto 33 C dX0_puts_33 (tgt := 3) (by decide) ?_
      refine wr_sub [(0, .ref (q 0)), (1, .int x1_), (2, .int x5)] [1, 2, 0] rfl ?_
      exact ih x5 μ4 hf
def fX0_puts (N : Nat)  (a1 : Int32) (μ : wMem) : Option wMem :=
  gX0_puts_3 N  a1 (fun  (μ6 : wMem) => some μ6) N 24 μ
set_option maxHeartbeats 4000000 in
set_option maxRecDepth 100000 in
theorem tX0_puts (l : Launch) {D : va_G} {E : List wCell} {q : Nat → Nat} {ca : wCA} (N : Nat)   (a1 : Int32) (μ : wMem) (r0 : wMem) (hf : fX0_puts N  a1 μ = some r0) : wMv l yX0_puts cX0_puts 3 none ({ frames := 0, cells := 0, slots := 0, locals := 0 } : Room) D vwCl (spX ++ E) q ca [.ref (q 0), .int a1] μ r0 := by
  refine wMv_intro (by decide) (Nat.le_of_ble_eq_true rfl) ?_
  intro p e s m args below meth c A C
  unfold fX0_puts at hf
  refine wr_sub [(0, .ref (q 0)), (1, .int a1)] [0, 1] rfl ?_
  refine wr_bipush 0 C dX0_puts_0 (v := 24) rfl ?_
  refine wr_istore_n 2 [(2, .int 24), (0, .ref (q 0)), (1, .int a1)] C dX0_puts_2 rfl rfl (Nat.le_of_ble_eq_true rfl) rfl ?_
  refine wr_sub [(0, .ref (q 0)), (1, .int a1), (2, .int 24)] [1, 2, 0] rfl ?_
  refine tX0_puts_3 C N   a1 _ r0 (fun  μ6 hf => ?_) N 24 μ hf
  · replace hf := hf
    exact wr_vret 36 C dX0_puts_36 ⟨Nat.zero_le _, Nat.zero_le _⟩ (Option.some.inj hf)
abbrev cX0_feed : ByteArray := prog_1_method_5_code
def yX0_feed : MethodName := ⟨RX0, "feed", "(IIIII)I"⟩
def dkwX0_feed_2 : List UInt8 := [172]
abbrev dktX0_feed_2 : List UInt8 := dkwX0_feed_2 ++ []
def dkwX0_feed_1 : List UInt8 := [182, 0, 99, 42, 29, 182, 0, 99, 42, 21, 4, 182, 0, 99, 42, 21, 5, 182, 0, 99, 42, 180, 0, 96]
abbrev dktX0_feed_1 : List UInt8 := dkwX0_feed_1 ++ dktX0_feed_2
def dkwX0_feed_0 : List UInt8 := [42, 180, 0, 96, 16, 20, 96, 17, 2, 88, 164, 0, 5, 2, 172, 42, 27, 182, 0, 99, 42, 28]
abbrev dktX0_feed_0 : List UInt8 := dkwX0_feed_0 ++ dktX0_feed_1
theorem dksX0_feed_0 : cX0_feed.data.toList.drop 0 = dktX0_feed_0 := by decide +kernel
theorem dksX0_feed_1 : cX0_feed.data.toList.drop 22 = dktX0_feed_1 := dk_seg dksX0_feed_0 22 rfl rfl
theorem dksX0_feed_2 : cX0_feed.data.toList.drop 46 = dktX0_feed_2 := dk_seg dksX0_feed_1 24 rfl rfl
theorem dX0_feed_0 : decode cX0_feed 0 = .ok (.aload_n 0, 1) := dk_42 (dk_at dksX0_feed_0 0 rfl rfl)
theorem dX0_feed_1 : decode cX0_feed 1 = .ok (.getfield 96, 3) := dk_180 0 96 (dk_at dksX0_feed_0 1 rfl rfl)
theorem dX0_feed_4 : decode cX0_feed 4 = .ok (.bipush 20, 2) := dk_16 20 (dk_at dksX0_feed_0 4 rfl rfl)
theorem dX0_feed_6 : decode cX0_feed 6 = .ok (.iadd, 1) := dk_96 (dk_at dksX0_feed_0 6 rfl rfl)
theorem dX0_feed_7 : decode cX0_feed 7 = .ok (.sipush 600, 3) := dk_17 2 88 (dk_at dksX0_feed_0 7 rfl rfl)
theorem dX0_feed_10 : decode cX0_feed 10 = .ok (.if_icmp .le 5, 3) := dk_164 0 5 (dk_at dksX0_feed_0 10 rfl rfl)
theorem dX0_feed_13 : decode cX0_feed 13 = .ok (.iconst (-1), 1) := dk_2 (dk_at dksX0_feed_0 13 rfl rfl)
theorem dX0_feed_14 : decode cX0_feed 14 = .ok (.ireturn, 1) := dk_172 (dk_at dksX0_feed_0 14 rfl rfl)
theorem dX0_feed_15 : decode cX0_feed 15 = .ok (.aload_n 0, 1) := dk_42 (dk_at dksX0_feed_0 15 rfl rfl)
theorem dX0_feed_16 : decode cX0_feed 16 = .ok (.iload_n 1, 1) := dk_27 (dk_at dksX0_feed_0 16 rfl rfl)
theorem dX0_feed_17 : decode cX0_feed 17 = .ok (.invokevirtual 99, 3) := dk_182 0 99 (dk_at dksX0_feed_0 17 rfl rfl)
theorem dX0_feed_20 : decode cX0_feed 20 = .ok (.aload_n 0, 1) := dk_42 (dk_at dksX0_feed_0 20 rfl rfl)
theorem dX0_feed_21 : decode cX0_feed 21 = .ok (.iload_n 2, 1) := dk_28 (dk_at dksX0_feed_0 21 rfl rfl)
theorem dX0_feed_22 : decode cX0_feed 22 = .ok (.invokevirtual 99, 3) := dk_182 0 99 (dk_at dksX0_feed_1 0 rfl rfl)
theorem dX0_feed_25 : decode cX0_feed 25 = .ok (.aload_n 0, 1) := dk_42 (dk_at dksX0_feed_1 3 rfl rfl)
theorem dX0_feed_26 : decode cX0_feed 26 = .ok (.iload_n 3, 1) := dk_29 (dk_at dksX0_feed_1 4 rfl rfl)
theorem dX0_feed_27 : decode cX0_feed 27 = .ok (.invokevirtual 99, 3) := dk_182 0 99 (dk_at dksX0_feed_1 5 rfl rfl)
theorem dX0_feed_30 : decode cX0_feed 30 = .ok (.aload_n 0, 1) := dk_42 (dk_at dksX0_feed_1 8 rfl rfl)
theorem dX0_feed_31 : decode cX0_feed 31 = .ok (.iload 4, 2) := dk_21 4 (dk_at dksX0_feed_1 9 rfl rfl)
theorem dX0_feed_33 : decode cX0_feed 33 = .ok (.invokevirtual 99, 3) := dk_182 0 99 (dk_at dksX0_feed_1 11 rfl rfl)
theorem dX0_feed_36 : decode cX0_feed 36 = .ok (.aload_n 0, 1) := dk_42 (dk_at dksX0_feed_1 14 rfl rfl)
theorem dX0_feed_37 : decode cX0_feed 37 = .ok (.iload 5, 2) := dk_21 5 (dk_at dksX0_feed_1 15 rfl rfl)
theorem dX0_feed_39 : decode cX0_feed 39 = .ok (.invokevirtual 99, 3) := dk_182 0 99 (dk_at dksX0_feed_1 17 rfl rfl)
theorem dX0_feed_42 : decode cX0_feed 42 = .ok (.aload_n 0, 1) := dk_42 (dk_at dksX0_feed_1 20 rfl rfl)
theorem dX0_feed_43 : decode cX0_feed 43 = .ok (.getfield 96, 3) := dk_180 0 96 (dk_at dksX0_feed_1 21 rfl rfl)
theorem dX0_feed_46 : decode cX0_feed 46 = .ok (.ireturn, 1) := dk_172 (dk_at dksX0_feed_2 0 rfl rfl)

theorem okX0_feed : wOkV yX0_feed cX0_feed 6 (some .int) 5 := ⟨q435, q436, q136, q437, by decide, by decide, by decide +kernel⟩
def fX0_feed (N : Nat)  (a1 : Int32) (a2 : Int32) (a3 : Int32) (a4 : Int32) (a5 : Int32) (μ : wMem) : Option (Int32 × wMem) :=
  if ((μ.1 0 2) + (20 : Int32)) ≤ (600 : Int32) then wBindV (fX0_puts N  a1 μ) fun μ3 => wBindV (fX0_puts N  a2 μ3) fun μ5 => wBindV (fX0_puts N  a3 μ5) fun μ7 => wBindV (fX0_puts N  a4 μ7) fun μ9 => wBindV (fX0_puts N  a5 μ9) fun μ11 => some (μ11.1 0 2, μ11) else some ((-1), μ)
set_option maxHeartbeats 4000000 in
set_option maxRecDepth 100000 in
theorem tX0_feed (l : Launch) {D : va_G} {E : List wCell} {q : Nat → Nat} {ca : wCA} (N : Nat)   (a1 : Int32) (a2 : Int32) (a3 : Int32) (a4 : Int32) (a5 : Int32) (μ : wMem) (r0 : (Int32 × wMem)) (hf : fX0_feed N  a1 a2 a3 a4 a5 μ = some r0) : wMi l yX0_feed cX0_feed 6 (some .int) ({ frames := 1, cells := 0, slots := 0, locals := 22 } : Room) D vwCl (spX ++ E) q ca [.ref (q 0), .int a1, .int a2, .int a3, .int a4, .int a5] μ r0 := by
  refine wMi_intro (by decide) (Nat.le_of_ble_eq_true rfl) ?_
  intro p e s m args below meth c A C
  unfold fX0_feed at hf
  refine wr_sub [(0, .ref (q 0)), (1, .int a1), (2, .int a2), (3, .int a3), (4, .int a4), (5, .int a5)] [0, 1, 2, 3, 4, 5] rfl ?_
  refine wr_aload_n 0 C dX0_feed_0 0 rfl rfl ?_
  refine gespX_0_2_X0 1 C dX0_feed_1 ?_
  refine wr_bipush 4 C dX0_feed_4 (v := 20) rfl ?_
  refine wr_iadd 6 C dX0_feed_6 ?_
  refine wr_sipush 7 C dX0_feed_7 (v := 600) rfl ?_
  refine wr_icmp_le 10 15 C dX0_feed_10 (by decide) (fun c1 => ?_) (fun c1 => ?_)
  · replace hf := o_pos c1 hf
    refine wr_aload_n 15 C dX0_feed_15 0 rfl rfl ?_
    refine wr_iload_n 16 C dX0_feed_16 1 rfl rfl ?_
    obtain ⟨μ3, h2, hf⟩ := o_bindV hf
    refine wr_Vv (kc1 := 0) (ks1 := 0) 17 [] C dX0_feed_17 (tX0_puts l N   a1 μ μ3 h2) okX0_puts q438 (b := 0) spX_0 rfl ⟨rfl, rfl, Nat.le_of_ble_eq_true rfl, Nat.le_of_ble_eq_true rfl, Nat.zero_le _, Nat.zero_le _⟩ (Nat.le_of_ble_eq_true rfl) rfl ?_
    refine wr_aload_n 20 C dX0_feed_20 0 rfl rfl ?_
    refine wr_iload_n 21 C dX0_feed_21 2 rfl rfl ?_
    obtain ⟨μ5, h4, hf⟩ := o_bindV hf
    refine wr_Vv (kc1 := 0) (ks1 := 0) 22 [] C dX0_feed_22 (tX0_puts l N   a2 μ3 μ5 h4) okX0_puts q438 (b := 0) spX_0 rfl ⟨rfl, rfl, Nat.le_of_ble_eq_true rfl, Nat.le_of_ble_eq_true rfl, Nat.zero_le _, Nat.zero_le _⟩ (Nat.le_of_ble_eq_true rfl) rfl ?_
    refine wr_aload_n 25 C dX0_feed_25 0 rfl rfl ?_
    refine wr_iload_n 26 C dX0_feed_26 3 rfl rfl ?_
    obtain ⟨μ7, h6, hf⟩ := o_bindV hf
    refine wr_Vv (kc1 := 0) (ks1 := 0) 27 [] C dX0_feed_27 (tX0_puts l N   a3 μ5 μ7 h6) okX0_puts q438 (b := 0) spX_0 rfl ⟨rfl, rfl, Nat.le_of_ble_eq_true rfl, Nat.le_of_ble_eq_true rfl, Nat.zero_le _, Nat.zero_le _⟩ (Nat.le_of_ble_eq_true rfl) rfl ?_
    refine wr_aload_n 30 C dX0_feed_30 0 rfl rfl ?_
    refine wr_iload 31 C dX0_feed_31 4 rfl ?_
    obtain ⟨μ9, h8, hf⟩ := o_bindV hf
    refine wr_Vv (kc1 := 0) (ks1 := 0) 33 [] C dX0_feed_33 (tX0_puts l N   a4 μ7 μ9 h8) okX0_puts q438 (b := 0) spX_0 rfl ⟨rfl, rfl, Nat.le_of_ble_eq_true rfl, Nat.le_of_ble_eq_true rfl, Nat.zero_le _, Nat.zero_le _⟩ (Nat.le_of_ble_eq_true rfl) rfl ?_
    refine wr_aload_n 36 C dX0_feed_36 0 rfl rfl ?_
    refine wr_iload 37 C dX0_feed_37 5 rfl ?_
    obtain ⟨μ11, h10, hf⟩ := o_bindV hf
    refine wr_Vv (kc1 := 0) (ks1 := 0) 39 [] C dX0_feed_39 (tX0_puts l N   a5 μ9 μ11 h10) okX0_puts q438 (b := 0) spX_0 rfl ⟨rfl, rfl, Nat.le_of_ble_eq_true rfl, Nat.le_of_ble_eq_true rfl, Nat.zero_le _, Nat.zero_le _⟩ (Nat.le_of_ble_eq_true rfl) rfl ?_
    refine wr_aload_n 42 C dX0_feed_42 0 rfl rfl ?_
    refine gespX_0_2_X0 43 C dX0_feed_43 ?_
    exact wr_iret 46 C dX0_feed_46 ⟨Nat.zero_le _, Nat.zero_le _⟩ (Option.some.inj hf)
  · replace hf := o_neg c1 hf
    refine wr_iconst 13 C dX0_feed_13 (v := (-1)) rfl ?_
    exact wr_iret 14 C dX0_feed_14 ⟨Nat.zero_le _, Nat.zero_le _⟩ (Option.some.inj hf)
abbrev cX0_isIn : ByteArray := prog_1_method_1_code
def yX0_isIn : MethodName := ⟨RX0, "isIn", "(JJJ)Z"⟩
def dkwX0_isIn_0 : List UInt8 := [30, 32, 148, 155, 0, 14, 30, 22, 4, 148, 157, 0, 7, 4, 167, 0, 4, 3, 172]
abbrev dktX0_isIn_0 : List UInt8 := dkwX0_isIn_0 ++ []
theorem dksX0_isIn_0 : cX0_isIn.data.toList.drop 0 = dktX0_isIn_0 := by decide +kernel
theorem dX0_isIn_0 : decode cX0_isIn 0 = .ok (.lload_n 0, 1) := dk_30 (dk_at dksX0_isIn_0 0 rfl rfl)
theorem dX0_isIn_1 : decode cX0_isIn 1 = .ok (.lload_n 2, 1) := dk_32 (dk_at dksX0_isIn_0 1 rfl rfl)
theorem dX0_isIn_2 : decode cX0_isIn 2 = .ok (.lcmp, 1) := dk_148 (dk_at dksX0_isIn_0 2 rfl rfl)
theorem dX0_isIn_3 : decode cX0_isIn 3 = .ok (.ifCond .lt 14, 3) := dk_155 0 14 (dk_at dksX0_isIn_0 3 rfl rfl)
theorem dX0_isIn_6 : decode cX0_isIn 6 = .ok (.lload_n 0, 1) := dk_30 (dk_at dksX0_isIn_0 6 rfl rfl)
theorem dX0_isIn_7 : decode cX0_isIn 7 = .ok (.lload 4, 2) := dk_22 4 (dk_at dksX0_isIn_0 7 rfl rfl)
theorem dX0_isIn_9 : decode cX0_isIn 9 = .ok (.lcmp, 1) := dk_148 (dk_at dksX0_isIn_0 9 rfl rfl)
theorem dX0_isIn_10 : decode cX0_isIn 10 = .ok (.ifCond .gt 7, 3) := dk_157 0 7 (dk_at dksX0_isIn_0 10 rfl rfl)
theorem dX0_isIn_13 : decode cX0_isIn 13 = .ok (.iconst 1, 1) := dk_4 (dk_at dksX0_isIn_0 13 rfl rfl)
theorem dX0_isIn_14 : decode cX0_isIn 14 = .ok (.goto 4, 3) := dk_167 0 4 (dk_at dksX0_isIn_0 14 rfl rfl)
theorem dX0_isIn_17 : decode cX0_isIn 17 = .ok (.iconst 0, 1) := dk_3 (dk_at dksX0_isIn_0 17 rfl rfl)
theorem dX0_isIn_18 : decode cX0_isIn 18 = .ok (.ireturn, 1) := dk_172 (dk_at dksX0_isIn_0 18 rfl rfl)

theorem okX0_isIn : wOkS yX0_isIn cX0_isIn 6 (some .boolean) 3 := ⟨q447, q136, q448, by decide, by decide, by decide +kernel⟩
def fX0_isIn (N : Nat)  (a0 : Int64) (a2 : Int64) (a4 : Int64) (μ : wMem) : Option (Int32 × wMem) :=
  if a0 < a2 then some (0, μ) else if a4 < a0 then some (0, μ) else some (1, μ)
set_option maxHeartbeats 4000000 in
set_option maxRecDepth 100000 in
theorem tX0_isIn (l : Launch) {D : va_G} {E : List wCell} {q : Nat → Nat} {ca : wCA} (N : Nat)   (a0 : Int64) (a2 : Int64) (a4 : Int64) (μ : wMem) (r0 : (Int32 × wMem)) (hf : fX0_isIn N  a0 a2 a4 μ = some r0) : wMi l yX0_isIn cX0_isIn 6 (some .boolean) ({ frames := 0, cells := 0, slots := 0, locals := 0 } : Room) D vwCl (spX ++ E) q ca [.long a0, .long a2, .long a4] μ r0 := by
  refine wMi_intro (by decide) (Nat.le_of_ble_eq_true rfl) ?_
  intro p e s m args below meth c A C
  unfold fX0_isIn at hf
  refine wr_sub [(0, .long a0), (2, .long a2), (4, .long a4)] [0, 1, 2] rfl ?_
  refine wr_lload_n 0 C dX0_isIn_0 0 rfl rfl ?_
  refine wr_lload_n 1 C dX0_isIn_1 1 rfl rfl ?_
  refine wr_lcmp_lt 2 17 C dX0_isIn_2 dX0_isIn_3 (by decide) (fun c1 => ?_) (fun c1 => ?_)
  · replace hf := o_pos c1 hf
    refine wr_iconst 17 C dX0_isIn_17 (v := 0) rfl ?_
    exact wr_zret 18 C dX0_isIn_18 rfl ⟨Nat.zero_le _, Nat.zero_le _⟩ (Option.some.inj hf)
  · replace hf := o_neg c1 hf
    refine wr_lload_n 6 C dX0_isIn_6 0 rfl rfl ?_
    refine wr_lload 7 C dX0_isIn_7 2 rfl ?_
    refine wr_lcmp_gt 9 17 C dX0_isIn_9 dX0_isIn_10 (by decide) (fun c2 => ?_) (fun c2 => ?_)
    · replace hf := o_pos c2 hf
      refine wr_iconst 17 C dX0_isIn_17 (v := 0) rfl ?_
      exact wr_zret 18 C dX0_isIn_18 rfl ⟨Nat.zero_le _, Nat.zero_le _⟩ (Option.some.inj hf)
    · replace hf := o_neg c2 hf
      refine wr_iconst 13 C dX0_isIn_13 (v := 1) rfl ?_
      refine wr_goto 14 C dX0_isIn_14 (tgt := 18) (by decide) ?_
      exact wr_zret 18 C dX0_isIn_18 rfl ⟨Nat.zero_le _, Nat.zero_le _⟩ (Option.some.inj hf)
abbrev cX0_end : ByteArray := prog_1_method_6_code
def yX0_end : MethodName := ⟨RX0, "end", "(I)I"⟩
def dkwX0_end_0 : List UInt8 := [27, 133, 9, 42, 180, 0, 96, 133, 184, 0, 103, 154, 0, 5, 2, 172, 42, 27, 181, 0, 96, 27, 172]
abbrev dktX0_end_0 : List UInt8 := dkwX0_end_0 ++ []
theorem dksX0_end_0 : cX0_end.data.toList.drop 0 = dktX0_end_0 := by decide +kernel
theorem dX0_end_0 : decode cX0_end 0 = .ok (.iload_n 1, 1) := dk_27 (dk_at dksX0_end_0 0 rfl rfl)
theorem dX0_end_1 : decode cX0_end 1 = .ok (.i2l, 1) := dk_133 (dk_at dksX0_end_0 1 rfl rfl)
theorem dX0_end_2 : decode cX0_end 2 = .ok (.lconst 0, 1) := dk_9 (dk_at dksX0_end_0 2 rfl rfl)
theorem dX0_end_3 : decode cX0_end 3 = .ok (.aload_n 0, 1) := dk_42 (dk_at dksX0_end_0 3 rfl rfl)
theorem dX0_end_4 : decode cX0_end 4 = .ok (.getfield 96, 3) := dk_180 0 96 (dk_at dksX0_end_0 4 rfl rfl)
theorem dX0_end_7 : decode cX0_end 7 = .ok (.i2l, 1) := dk_133 (dk_at dksX0_end_0 7 rfl rfl)
theorem dX0_end_8 : decode cX0_end 8 = .ok (.invokestatic 103, 3) := dk_184 0 103 (dk_at dksX0_end_0 8 rfl rfl)
theorem dX0_end_11 : decode cX0_end 11 = .ok (.ifCond .ne 5, 3) := dk_154 0 5 (dk_at dksX0_end_0 11 rfl rfl)
theorem dX0_end_14 : decode cX0_end 14 = .ok (.iconst (-1), 1) := dk_2 (dk_at dksX0_end_0 14 rfl rfl)
theorem dX0_end_15 : decode cX0_end 15 = .ok (.ireturn, 1) := dk_172 (dk_at dksX0_end_0 15 rfl rfl)
theorem dX0_end_16 : decode cX0_end 16 = .ok (.aload_n 0, 1) := dk_42 (dk_at dksX0_end_0 16 rfl rfl)
theorem dX0_end_17 : decode cX0_end 17 = .ok (.iload_n 1, 1) := dk_27 (dk_at dksX0_end_0 17 rfl rfl)
theorem dX0_end_18 : decode cX0_end 18 = .ok (.putfield 96, 3) := dk_181 0 96 (dk_at dksX0_end_0 18 rfl rfl)
theorem dX0_end_21 : decode cX0_end 21 = .ok (.iload_n 1, 1) := dk_27 (dk_at dksX0_end_0 21 rfl rfl)
theorem dX0_end_22 : decode cX0_end 22 = .ok (.ireturn, 1) := dk_172 (dk_at dksX0_end_0 22 rfl rfl)

theorem okX0_end : wOkV yX0_end cX0_end 2 (some .int) 1 := ⟨q443, q444, q136, q445, by decide, by decide, by decide +kernel⟩
def fX0_end (N : Nat)  (a1 : Int32) (μ : wMem) : Option (Int32 × wMem) :=
  wBind (fX0_isIn N  (Int32.toInt64 a1) 0 (Int32.toInt64 (μ.1 0 2)) μ) fun v3 μ2 => if v3 = 0 then some ((-1), μ2) else wLet (wSI μ2 0 2 a1) fun μ5 => some (a1, μ5)
set_option maxHeartbeats 4000000 in
set_option maxRecDepth 100000 in
theorem tX0_end (l : Launch) {D : va_G} {E : List wCell} {q : Nat → Nat} {ca : wCA} (N : Nat)   (a1 : Int32) (μ : wMem) (r0 : (Int32 × wMem)) (hf : fX0_end N  a1 μ = some r0) : wMi l yX0_end cX0_end 2 (some .int) ({ frames := 1, cells := 0, slots := 0, locals := 25 } : Room) D vwCl (spX ++ E) q ca [.ref (q 0), .int a1] μ r0 := by
  refine wMi_intro (by decide) (Nat.le_of_ble_eq_true rfl) ?_
  intro p e s m args below meth c A C
  unfold fX0_end at hf
  refine wr_sub [(0, .ref (q 0)), (1, .int a1)] [0, 1] rfl ?_
  refine wr_iload_n 0 C dX0_end_0 1 rfl rfl ?_
  refine wr_i2l 1 C dX0_end_1 ?_
  refine wr_lconst 2 C dX0_end_2 (v := 0) rfl ?_
  refine wr_aload_n 3 C dX0_end_3 0 rfl rfl ?_
  refine gespX_0_2_X0 4 C dX0_end_4 ?_
  refine wr_i2l 7 C dX0_end_7 ?_
  obtain ⟨v3, μ2, h1, hf⟩ := o_bind hf
  refine wr_Si (kc1 := 0) (ks1 := 0) 8 [] C dX0_end_8 (tX0_isIn l N   (Int32.toInt64 a1) 0 (Int32.toInt64 (μ.1 0 2)) μ (v3, μ2) h1) okX0_isIn q446 ⟨rfl, rfl, Nat.le_of_ble_eq_true rfl, Nat.le_of_ble_eq_true rfl, Nat.zero_le _, Nat.zero_le _⟩ (Nat.le_of_ble_eq_true rfl) rfl ?_
  refine wr_if_ne 11 16 C dX0_end_11 (by decide) (fun c4 => ?_) (fun c4 => ?_)
  · replace hf := o_neg c4 hf
    refine wr_aload_n 16 C dX0_end_16 0 rfl rfl ?_
    refine wr_iload_n 17 C dX0_end_17 1 rfl rfl ?_
    obtain ⟨μ5, eμ5, hf⟩ := o_let hf
    refine puspX_0_2_X0 18 C dX0_end_18 eμ5 ?_
    refine wr_iload_n 21 C dX0_end_21 1 rfl rfl ?_
    exact wr_iret 22 C dX0_end_22 ⟨Nat.zero_le _, Nat.zero_le _⟩ (Option.some.inj hf)
  · replace hf := o_pos c4 hf
    refine wr_iconst 14 C dX0_end_14 (v := (-1)) rfl ?_
    exact wr_iret 15 C dX0_end_15 ⟨Nat.zero_le _, Nat.zero_le _⟩ (Option.some.inj hf)
abbrev cX0_has : ByteArray := prog_1_method_2_code
def yX0_has : MethodName := ⟨RX0, "has", "(II)Z"⟩
def dkwX0_has_0 : List UInt8 := [26, 27, 122, 4, 126, 4, 160, 0, 7, 4, 167, 0, 4, 3, 172]
abbrev dktX0_has_0 : List UInt8 := dkwX0_has_0 ++ []
theorem dksX0_has_0 : cX0_has.data.toList.drop 0 = dktX0_has_0 := by decide +kernel
theorem dX0_has_0 : decode cX0_has 0 = .ok (.iload_n 0, 1) := dk_26 (dk_at dksX0_has_0 0 rfl rfl)
theorem dX0_has_1 : decode cX0_has 1 = .ok (.iload_n 1, 1) := dk_27 (dk_at dksX0_has_0 1 rfl rfl)
theorem dX0_has_2 : decode cX0_has 2 = .ok (.ishr, 1) := dk_122 (dk_at dksX0_has_0 2 rfl rfl)
theorem dX0_has_3 : decode cX0_has 3 = .ok (.iconst 1, 1) := dk_4 (dk_at dksX0_has_0 3 rfl rfl)
theorem dX0_has_4 : decode cX0_has 4 = .ok (.iand, 1) := dk_126 (dk_at dksX0_has_0 4 rfl rfl)
theorem dX0_has_5 : decode cX0_has 5 = .ok (.iconst 1, 1) := dk_4 (dk_at dksX0_has_0 5 rfl rfl)
theorem dX0_has_6 : decode cX0_has 6 = .ok (.if_icmp .ne 7, 3) := dk_160 0 7 (dk_at dksX0_has_0 6 rfl rfl)
theorem dX0_has_9 : decode cX0_has 9 = .ok (.iconst 1, 1) := dk_4 (dk_at dksX0_has_0 9 rfl rfl)
theorem dX0_has_10 : decode cX0_has 10 = .ok (.goto 4, 3) := dk_167 0 4 (dk_at dksX0_has_0 10 rfl rfl)
theorem dX0_has_13 : decode cX0_has 13 = .ok (.iconst 0, 1) := dk_3 (dk_at dksX0_has_0 13 rfl rfl)
theorem dX0_has_14 : decode cX0_has 14 = .ok (.ireturn, 1) := dk_172 (dk_at dksX0_has_0 14 rfl rfl)

theorem okX0_has : wOkS yX0_has cX0_has 2 (some .boolean) 2 := ⟨q682, q136, q683, by decide, by decide, by decide +kernel⟩
def fX0_has (N : Nat)  (a0 : Int32) (a1 : Int32) (μ : wMem) : Option (Int32 × wMem) :=
  if ((a0 >>> (a1 &&& 31)) &&& (1 : Int32)) = (1 : Int32) then some (1, μ) else some (0, μ)
set_option maxHeartbeats 4000000 in
set_option maxRecDepth 100000 in
theorem tX0_has (l : Launch) {D : va_G} {E : List wCell} {q : Nat → Nat} {ca : wCA} (N : Nat)   (a0 : Int32) (a1 : Int32) (μ : wMem) (r0 : (Int32 × wMem)) (hf : fX0_has N  a0 a1 μ = some r0) : wMi l yX0_has cX0_has 2 (some .boolean) ({ frames := 0, cells := 0, slots := 0, locals := 0 } : Room) D vwCl (spX ++ E) q ca [.int a0, .int a1] μ r0 := by
  refine wMi_intro (by decide) (Nat.le_of_ble_eq_true rfl) ?_
  intro p e s m args below meth c A C
  unfold fX0_has at hf
  refine wr_sub [(0, .int a0), (1, .int a1)] [0, 1] rfl ?_
  refine wr_iload_n 0 C dX0_has_0 0 rfl rfl ?_
  refine wr_iload_n 1 C dX0_has_1 1 rfl rfl ?_
  refine wr_ishr 2 C dX0_has_2 ?_
  refine wr_iconst 3 C dX0_has_3 (v := 1) rfl ?_
  refine wr_iand 4 C dX0_has_4 ?_
  refine wr_iconst 5 C dX0_has_5 (v := 1) rfl ?_
  refine wr_icmp_ne 6 13 C dX0_has_6 (by decide) (fun c1 => ?_) (fun c1 => ?_)
  · replace hf := o_neg c1 hf
    refine wr_iconst 13 C dX0_has_13 (v := 0) rfl ?_
    exact wr_zret 14 C dX0_has_14 rfl ⟨Nat.zero_le _, Nat.zero_le _⟩ (Option.some.inj hf)
  · replace hf := o_pos c1 hf
    refine wr_iconst 9 C dX0_has_9 (v := 1) rfl ?_
    refine wr_goto 10 C dX0_has_10 (tgt := 14) (by decide) ?_
    exact wr_zret 14 C dX0_has_14 rfl ⟨Nat.zero_le _, Nat.zero_le _⟩ (Option.some.inj hf)
abbrev cX0_fault : ByteArray := prog_1_method_8_code
def yX0_fault : MethodName := ⟨RX0, "fault", "(I)I"⟩
def dkwX0_fault_1 : List UInt8 := [172]
abbrev dktX0_fault_1 : List UInt8 := dkwX0_fault_1 ++ []
def dkwX0_fault_0 : List UInt8 := [27, 154, 0, 10, 42, 180, 0, 114, 167, 0, 16, 27, 4, 160, 0, 10, 42, 180, 0, 20, 167, 0, 4, 2]
abbrev dktX0_fault_0 : List UInt8 := dkwX0_fault_0 ++ dktX0_fault_1
theorem dksX0_fault_0 : cX0_fault.data.toList.drop 0 = dktX0_fault_0 := by decide +kernel
theorem dksX0_fault_1 : cX0_fault.data.toList.drop 24 = dktX0_fault_1 := dk_seg dksX0_fault_0 24 rfl rfl
theorem dX0_fault_0 : decode cX0_fault 0 = .ok (.iload_n 1, 1) := dk_27 (dk_at dksX0_fault_0 0 rfl rfl)
theorem dX0_fault_1 : decode cX0_fault 1 = .ok (.ifCond .ne 10, 3) := dk_154 0 10 (dk_at dksX0_fault_0 1 rfl rfl)
theorem dX0_fault_4 : decode cX0_fault 4 = .ok (.aload_n 0, 1) := dk_42 (dk_at dksX0_fault_0 4 rfl rfl)
theorem dX0_fault_5 : decode cX0_fault 5 = .ok (.getfield 114, 3) := dk_180 0 114 (dk_at dksX0_fault_0 5 rfl rfl)
theorem dX0_fault_8 : decode cX0_fault 8 = .ok (.goto 16, 3) := dk_167 0 16 (dk_at dksX0_fault_0 8 rfl rfl)
theorem dX0_fault_11 : decode cX0_fault 11 = .ok (.iload_n 1, 1) := dk_27 (dk_at dksX0_fault_0 11 rfl rfl)
theorem dX0_fault_12 : decode cX0_fault 12 = .ok (.iconst 1, 1) := dk_4 (dk_at dksX0_fault_0 12 rfl rfl)
theorem dX0_fault_13 : decode cX0_fault 13 = .ok (.if_icmp .ne 10, 3) := dk_160 0 10 (dk_at dksX0_fault_0 13 rfl rfl)
theorem dX0_fault_16 : decode cX0_fault 16 = .ok (.aload_n 0, 1) := dk_42 (dk_at dksX0_fault_0 16 rfl rfl)
theorem dX0_fault_17 : decode cX0_fault 17 = .ok (.getfield 20, 3) := dk_180 0 20 (dk_at dksX0_fault_0 17 rfl rfl)
theorem dX0_fault_20 : decode cX0_fault 20 = .ok (.goto 4, 3) := dk_167 0 4 (dk_at dksX0_fault_0 20 rfl rfl)
theorem dX0_fault_23 : decode cX0_fault 23 = .ok (.iconst (-1), 1) := dk_2 (dk_at dksX0_fault_0 23 rfl rfl)
theorem dX0_fault_24 : decode cX0_fault 24 = .ok (.ireturn, 1) := dk_172 (dk_at dksX0_fault_1 0 rfl rfl)
theorem gespX_0_3_X0 {p : Program} {l : Launch} {e : Env} {R : Room} {s : State} {m : MethodId} {args : Array Value} {below : List Frame} {meth : Method} {c : Code} {cc : ByteArray} {nL : Nat} {ret : Option FieldType} {D : va_G} {E : List wCell} {q : Nat → Nat} {ca : wCA} {A : Nat → Prop} {Q : State → Prop} {kc ks : Nat} {μ : wMem} {lv : List (Nat × Value)} {st : List Value} (pc : Nat) (C : wC p R s m args meth c cc "OnePassport" nL ret D vwCl (spX ++ E) q ca A) (hd : decode cc pc = .ok (.getfield 114, 3)) (k : wJ p l e R s m args below meth c nL D vwCl (spX ++ E) q ca A Q kc ks μ (pc + 3) lv (.int (μ.1 0 3) :: st)) : wJ p l e R s m args below meth c nL D vwCl (spX ++ E) q ca A Q kc ks μ pc lv (.ref (q 0) :: st) := wr_getI pc 3 C hd spX_0 rfl in_X0 (by decide) rfl q334 k
theorem gespX_0_4_X0 {p : Program} {l : Launch} {e : Env} {R : Room} {s : State} {m : MethodId} {args : Array Value} {below : List Frame} {meth : Method} {c : Code} {cc : ByteArray} {nL : Nat} {ret : Option FieldType} {D : va_G} {E : List wCell} {q : Nat → Nat} {ca : wCA} {A : Nat → Prop} {Q : State → Prop} {kc ks : Nat} {μ : wMem} {lv : List (Nat × Value)} {st : List Value} (pc : Nat) (C : wC p R s m args meth c cc "OnePassport" nL ret D vwCl (spX ++ E) q ca A) (hd : decode cc pc = .ok (.getfield 20, 3)) (k : wJ p l e R s m args below meth c nL D vwCl (spX ++ E) q ca A Q kc ks μ (pc + 3) lv (.int (μ.1 0 4) :: st)) : wJ p l e R s m args below meth c nL D vwCl (spX ++ E) q ca A Q kc ks μ pc lv (.ref (q 0) :: st) := wr_getI pc 4 C hd spX_0 rfl in_X0 (by decide) rfl q335 k
theorem okX0_fault : wOkV yX0_fault cX0_fault 2 (some .int) 1 := ⟨q695, q696, q136, q697, by decide, by decide, by decide +kernel⟩
def fX0_fault (N : Nat)  (a1 : Int32) (μ : wMem) : Option (Int32 × wMem) :=
  if a1 = 0 then some (μ.1 0 3, μ) else if a1 = (1 : Int32) then some (μ.1 0 4, μ) else some ((-1), μ)
set_option maxHeartbeats 4000000 in
set_option maxRecDepth 100000 in
theorem tX0_fault (l : Launch) {D : va_G} {E : List wCell} {q : Nat → Nat} {ca : wCA} (N : Nat)   (a1 : Int32) (μ : wMem) (r0 : (Int32 × wMem)) (hf : fX0_fault N  a1 μ = some r0) : wMi l yX0_fault cX0_fault 2 (some .int) ({ frames := 0, cells := 0, slots := 0, locals := 0 } : Room) D vwCl (spX ++ E) q ca [.ref (q 0), .int a1] μ r0 := by
  refine wMi_intro (by decide) (Nat.le_of_ble_eq_true rfl) ?_
  intro p e s m args below meth c A C
  unfold fX0_fault at hf
  refine wr_sub [(0, .ref (q 0)), (1, .int a1)] [0, 1] rfl ?_
  refine wr_iload_n 0 C dX0_fault_0 1 rfl rfl ?_
  refine wr_if_ne 1 11 C dX0_fault_1 (by decide) (fun c1 => ?_) (fun c1 => ?_)
  · replace hf := o_neg c1 hf
    refine wr_iload_n 11 C dX0_fault_11 1 rfl rfl ?_
    refine wr_iconst 12 C dX0_fault_12 (v := 1) rfl ?_
    refine wr_icmp_ne 13 23 C dX0_fault_13 (by decide) (fun c2 => ?_) (fun c2 => ?_)
    · replace hf := o_neg c2 hf
      refine wr_iconst 23 C dX0_fault_23 (v := (-1)) rfl ?_
      exact wr_iret 24 C dX0_fault_24 ⟨Nat.zero_le _, Nat.zero_le _⟩ (Option.some.inj hf)
    · replace hf := o_pos c2 hf
      refine wr_aload_n 16 C dX0_fault_16 0 rfl rfl ?_
      refine gespX_0_4_X0 17 C dX0_fault_17 ?_
      refine wr_goto 20 C dX0_fault_20 (tgt := 24) (by decide) ?_
      exact wr_iret 24 C dX0_fault_24 ⟨Nat.zero_le _, Nat.zero_le _⟩ (Option.some.inj hf)
  · replace hf := o_pos c1 hf
    refine wr_aload_n 4 C dX0_fault_4 0 rfl rfl ?_
    refine gespX_0_3_X0 5 C dX0_fault_5 ?_
    refine wr_goto 8 C dX0_fault_8 (tgt := 24) (by decide) ?_
    exact wr_iret 24 C dX0_fault_24 ⟨Nat.zero_le _, Nat.zero_le _⟩ (Option.some.inj hf)
abbrev cX0_isPerson : ByteArray := prog_1_method_10_code
def yX0_isPerson : MethodName := ⟨RX0, "isPerson", "(I)Z"⟩
def dkwX0_isPerson_0 : List UInt8 := [27, 133, 9, 42, 180, 0, 12, 180, 0, 128, 4, 100, 133, 184, 0, 103, 172]
abbrev dktX0_isPerson_0 : List UInt8 := dkwX0_isPerson_0 ++ []
theorem dksX0_isPerson_0 : cX0_isPerson.data.toList.drop 0 = dktX0_isPerson_0 := by decide +kernel
theorem dX0_isPerson_0 : decode cX0_isPerson 0 = .ok (.iload_n 1, 1) := dk_27 (dk_at dksX0_isPerson_0 0 rfl rfl)
theorem dX0_isPerson_1 : decode cX0_isPerson 1 = .ok (.i2l, 1) := dk_133 (dk_at dksX0_isPerson_0 1 rfl rfl)
theorem dX0_isPerson_2 : decode cX0_isPerson 2 = .ok (.lconst 0, 1) := dk_9 (dk_at dksX0_isPerson_0 2 rfl rfl)
theorem dX0_isPerson_3 : decode cX0_isPerson 3 = .ok (.aload_n 0, 1) := dk_42 (dk_at dksX0_isPerson_0 3 rfl rfl)
theorem dX0_isPerson_4 : decode cX0_isPerson 4 = .ok (.getfield 12, 3) := dk_180 0 12 (dk_at dksX0_isPerson_0 4 rfl rfl)
theorem dX0_isPerson_7 : decode cX0_isPerson 7 = .ok (.getfield 128, 3) := dk_180 0 128 (dk_at dksX0_isPerson_0 7 rfl rfl)
theorem dX0_isPerson_10 : decode cX0_isPerson 10 = .ok (.iconst 1, 1) := dk_4 (dk_at dksX0_isPerson_0 10 rfl rfl)
theorem dX0_isPerson_11 : decode cX0_isPerson 11 = .ok (.isub, 1) := dk_100 (dk_at dksX0_isPerson_0 11 rfl rfl)
theorem dX0_isPerson_12 : decode cX0_isPerson 12 = .ok (.i2l, 1) := dk_133 (dk_at dksX0_isPerson_0 12 rfl rfl)
theorem dX0_isPerson_13 : decode cX0_isPerson 13 = .ok (.invokestatic 103, 3) := dk_184 0 103 (dk_at dksX0_isPerson_0 13 rfl rfl)
theorem dX0_isPerson_16 : decode cX0_isPerson 16 = .ok (.ireturn, 1) := dk_172 (dk_at dksX0_isPerson_0 16 rfl rfl)
theorem gespX_0_0_X0 {p : Program} {l : Launch} {e : Env} {R : Room} {s : State} {m : MethodId} {args : Array Value} {below : List Frame} {meth : Method} {c : Code} {cc : ByteArray} {nL : Nat} {ret : Option FieldType} {D : va_G} {E : List wCell} {q : Nat → Nat} {ca : wCA} {A : Nat → Prop} {Q : State → Prop} {kc ks : Nat} {μ : wMem} {lv : List (Nat × Value)} {st : List Value} (pc : Nat) (C : wC p R s m args meth c cc "OnePassport" nL ret D vwCl (spX ++ E) q ca A) (hd : decode cc pc = .ok (.getfield 12, 3)) (k : wJ p l e R s m args below meth c nL D vwCl (spX ++ E) q ca A Q kc ks μ (pc + 3) lv (.ref (q 1) :: st)) : wJ p l e R s m args below meth c nL D vwCl (spX ++ E) q ca A Q kc ks μ pc lv (.ref (q 0) :: st) := wr_getR pc 0 C hd spX_0 rfl in_X0 (by decide) rfl q329 k
theorem gespX_1_2_X0 {p : Program} {l : Launch} {e : Env} {R : Room} {s : State} {m : MethodId} {args : Array Value} {below : List Frame} {meth : Method} {c : Code} {cc : ByteArray} {nL : Nat} {ret : Option FieldType} {D : va_G} {E : List wCell} {q : Nat → Nat} {ca : wCA} {A : Nat → Prop} {Q : State → Prop} {kc ks : Nat} {μ : wMem} {lv : List (Nat × Value)} {st : List Value} (pc : Nat) (C : wC p R s m args meth c cc "OnePassport" nL ret D vwCl (spX ++ E) q ca A) (hd : decode cc pc = .ok (.getfield 128, 3)) (k : wJ p l e R s m args below meth c nL D vwCl (spX ++ E) q ca A Q kc ks μ (pc + 3) lv (.int (μ.1 1 2) :: st)) : wJ p l e R s m args below meth c nL D vwCl (spX ++ E) q ca A Q kc ks μ pc lv (.ref (q 1) :: st) := wr_getNI pc 2 C hd spX_1 rfl in_X1 (by decide) rfl q191 k
theorem okX0_isPerson : wOkV yX0_isPerson cX0_isPerson 2 (some .boolean) 1 := ⟨q704, qs14, q136, q705, by decide, by decide, by decide +kernel⟩
def fX0_isPerson (N : Nat)  (a1 : Int32) (μ : wMem) : Option (Int32 × wMem) :=
  wBind (fX0_isIn N  (Int32.toInt64 a1) 0 (Int32.toInt64 ((μ.1 1 2) - (1 : Int32))) μ) fun v3 μ2 => wG (ok_b v3) (some (v3, μ2))
set_option maxHeartbeats 4000000 in
set_option maxRecDepth 100000 in
theorem tX0_isPerson (l : Launch) {D : va_G} {E : List wCell} {q : Nat → Nat} {ca : wCA} (N : Nat)   (a1 : Int32) (μ : wMem) (r0 : (Int32 × wMem)) (hf : fX0_isPerson N  a1 μ = some r0) : wMi l yX0_isPerson cX0_isPerson 2 (some .boolean) ({ frames := 1, cells := 0, slots := 0, locals := 25 } : Room) D vwCl (spX ++ E) q ca [.ref (q 0), .int a1] μ r0 := by
  refine wMi_intro (by decide) (Nat.le_of_ble_eq_true rfl) ?_
  intro p e s m args below meth c A C
  unfold fX0_isPerson at hf
  refine wr_sub [(0, .ref (q 0)), (1, .int a1)] [0, 1] rfl ?_
  refine wr_iload_n 0 C dX0_isPerson_0 1 rfl rfl ?_
  refine wr_i2l 1 C dX0_isPerson_1 ?_
  refine wr_lconst 2 C dX0_isPerson_2 (v := 0) rfl ?_
  refine wr_aload_n 3 C dX0_isPerson_3 0 rfl rfl ?_
  refine gespX_0_0_X0 4 C dX0_isPerson_4 ?_
  refine gespX_1_2_X0 7 C dX0_isPerson_7 ?_
  refine wr_iconst 10 C dX0_isPerson_10 (v := 1) rfl ?_
  refine wr_isub 11 C dX0_isPerson_11 ?_
  refine wr_i2l 12 C dX0_isPerson_12 ?_
  obtain ⟨v3, μ2, h1, hf⟩ := o_bind hf
  refine wr_Si (kc1 := 0) (ks1 := 0) 13 [] C dX0_isPerson_13 (tX0_isIn l N   (Int32.toInt64 a1) 0 (Int32.toInt64 ((μ.1 1 2) - (1 : Int32))) μ (v3, μ2) h1) okX0_isIn q446 ⟨rfl, rfl, Nat.le_of_ble_eq_true rfl, Nat.le_of_ble_eq_true rfl, Nat.zero_le _, Nat.zero_le _⟩ (Nat.le_of_ble_eq_true rfl) rfl ?_
  obtain ⟨g4, hf⟩ := o_g hf
  exact wr_zret 16 C dX0_isPerson_16 g4 ⟨Nat.zero_le _, Nat.zero_le _⟩ (Option.some.inj hf)
abbrev cX0_isPost : ByteArray := prog_1_method_11_code
def yX0_isPost : MethodName := ⟨RX0, "isPost", "(I)Z"⟩
def dkwX0_isPost_0 : List UInt8 := [27, 133, 9, 42, 180, 0, 12, 180, 0, 131, 4, 100, 133, 184, 0, 103, 172]
abbrev dktX0_isPost_0 : List UInt8 := dkwX0_isPost_0 ++ []
theorem dksX0_isPost_0 : cX0_isPost.data.toList.drop 0 = dktX0_isPost_0 := by decide +kernel
theorem dX0_isPost_0 : decode cX0_isPost 0 = .ok (.iload_n 1, 1) := dk_27 (dk_at dksX0_isPost_0 0 rfl rfl)
theorem dX0_isPost_1 : decode cX0_isPost 1 = .ok (.i2l, 1) := dk_133 (dk_at dksX0_isPost_0 1 rfl rfl)
theorem dX0_isPost_2 : decode cX0_isPost 2 = .ok (.lconst 0, 1) := dk_9 (dk_at dksX0_isPost_0 2 rfl rfl)
theorem dX0_isPost_3 : decode cX0_isPost 3 = .ok (.aload_n 0, 1) := dk_42 (dk_at dksX0_isPost_0 3 rfl rfl)
theorem dX0_isPost_4 : decode cX0_isPost 4 = .ok (.getfield 12, 3) := dk_180 0 12 (dk_at dksX0_isPost_0 4 rfl rfl)
theorem dX0_isPost_7 : decode cX0_isPost 7 = .ok (.getfield 131, 3) := dk_180 0 131 (dk_at dksX0_isPost_0 7 rfl rfl)
theorem dX0_isPost_10 : decode cX0_isPost 10 = .ok (.iconst 1, 1) := dk_4 (dk_at dksX0_isPost_0 10 rfl rfl)
theorem dX0_isPost_11 : decode cX0_isPost 11 = .ok (.isub, 1) := dk_100 (dk_at dksX0_isPost_0 11 rfl rfl)
theorem dX0_isPost_12 : decode cX0_isPost 12 = .ok (.i2l, 1) := dk_133 (dk_at dksX0_isPost_0 12 rfl rfl)
theorem dX0_isPost_13 : decode cX0_isPost 13 = .ok (.invokestatic 103, 3) := dk_184 0 103 (dk_at dksX0_isPost_0 13 rfl rfl)
theorem dX0_isPost_16 : decode cX0_isPost 16 = .ok (.ireturn, 1) := dk_172 (dk_at dksX0_isPost_0 16 rfl rfl)
theorem gespX_1_3_X0 {p : Program} {l : Launch} {e : Env} {R : Room} {s : State} {m : MethodId} {args : Array Value} {below : List Frame} {meth : Method} {c : Code} {cc : ByteArray} {nL : Nat} {ret : Option FieldType} {D : va_G} {E : List wCell} {q : Nat → Nat} {ca : wCA} {A : Nat → Prop} {Q : State → Prop} {kc ks : Nat} {μ : wMem} {lv : List (Nat × Value)} {st : List Value} (pc : Nat) (C : wC p R s m args meth c cc "OnePassport" nL ret D vwCl (spX ++ E) q ca A) (hd : decode cc pc = .ok (.getfield 131, 3)) (k : wJ p l e R s m args below meth c nL D vwCl (spX ++ E) q ca A Q kc ks μ (pc + 3) lv (.int (μ.1 1 3) :: st)) : wJ p l e R s m args below meth c nL D vwCl (spX ++ E) q ca A Q kc ks μ pc lv (.ref (q 1) :: st) := wr_getNI pc 3 C hd spX_1 rfl in_X1 (by decide) rfl q194 k
theorem okX0_isPost : wOkV yX0_isPost cX0_isPost 2 (some .boolean) 1 := ⟨q708, qs15, q136, q709, by decide, by decide, by decide +kernel⟩
def fX0_isPost (N : Nat)  (a1 : Int32) (μ : wMem) : Option (Int32 × wMem) :=
  wBind (fX0_isIn N  (Int32.toInt64 a1) 0 (Int32.toInt64 ((μ.1 1 3) - (1 : Int32))) μ) fun v3 μ2 => wG (ok_b v3) (some (v3, μ2))
set_option maxHeartbeats 4000000 in
set_option maxRecDepth 100000 in
theorem tX0_isPost (l : Launch) {D : va_G} {E : List wCell} {q : Nat → Nat} {ca : wCA} (N : Nat)   (a1 : Int32) (μ : wMem) (r0 : (Int32 × wMem)) (hf : fX0_isPost N  a1 μ = some r0) : wMi l yX0_isPost cX0_isPost 2 (some .boolean) ({ frames := 1, cells := 0, slots := 0, locals := 25 } : Room) D vwCl (spX ++ E) q ca [.ref (q 0), .int a1] μ r0 := by
  refine wMi_intro (by decide) (Nat.le_of_ble_eq_true rfl) ?_
  intro p e s m args below meth c A C
  unfold fX0_isPost at hf
  refine wr_sub [(0, .ref (q 0)), (1, .int a1)] [0, 1] rfl ?_
  refine wr_iload_n 0 C dX0_isPost_0 1 rfl rfl ?_
  refine wr_i2l 1 C dX0_isPost_1 ?_
  refine wr_lconst 2 C dX0_isPost_2 (v := 0) rfl ?_
  refine wr_aload_n 3 C dX0_isPost_3 0 rfl rfl ?_
  refine gespX_0_0_X0 4 C dX0_isPost_4 ?_
  refine gespX_1_3_X0 7 C dX0_isPost_7 ?_
  refine wr_iconst 10 C dX0_isPost_10 (v := 1) rfl ?_
  refine wr_isub 11 C dX0_isPost_11 ?_
  refine wr_i2l 12 C dX0_isPost_12 ?_
  obtain ⟨v3, μ2, h1, hf⟩ := o_bind hf
  refine wr_Si (kc1 := 0) (ks1 := 0) 13 [] C dX0_isPost_13 (tX0_isIn l N   (Int32.toInt64 a1) 0 (Int32.toInt64 ((μ.1 1 3) - (1 : Int32))) μ (v3, μ2) h1) okX0_isIn q446 ⟨rfl, rfl, Nat.le_of_ble_eq_true rfl, Nat.le_of_ble_eq_true rfl, Nat.zero_le _, Nat.zero_le _⟩ (Nat.le_of_ble_eq_true rfl) rfl ?_
  obtain ⟨g4, hf⟩ := o_g hf
  exact wr_zret 16 C dX0_isPost_16 g4 ⟨Nat.zero_le _, Nat.zero_le _⟩ (Option.some.inj hf)
abbrev cX0_riskOf : ByteArray := prog_1_method_16_code
def yX0_riskOf : MethodName := ⟨RX0, "riskOf", "(II)I"⟩
def dkwX0_riskOf_1 : List UInt8 := [108, 172]
abbrev dktX0_riskOf_1 : List UInt8 := dkwX0_riskOf_1 ++ []
def dkwX0_riskOf_0 : List UInt8 := [16, 100, 42, 180, 0, 12, 180, 0, 140, 27, 46, 100, 42, 180, 0, 12, 180, 0, 143, 28, 46, 104, 16, 100]
abbrev dktX0_riskOf_0 : List UInt8 := dkwX0_riskOf_0 ++ dktX0_riskOf_1
theorem dksX0_riskOf_0 : cX0_riskOf.data.toList.drop 0 = dktX0_riskOf_0 := by decide +kernel
theorem dksX0_riskOf_1 : cX0_riskOf.data.toList.drop 24 = dktX0_riskOf_1 := dk_seg dksX0_riskOf_0 24 rfl rfl
theorem dX0_riskOf_0 : decode cX0_riskOf 0 = .ok (.bipush 100, 2) := dk_16 100 (dk_at dksX0_riskOf_0 0 rfl rfl)
theorem dX0_riskOf_2 : decode cX0_riskOf 2 = .ok (.aload_n 0, 1) := dk_42 (dk_at dksX0_riskOf_0 2 rfl rfl)
theorem dX0_riskOf_3 : decode cX0_riskOf 3 = .ok (.getfield 12, 3) := dk_180 0 12 (dk_at dksX0_riskOf_0 3 rfl rfl)
theorem dX0_riskOf_6 : decode cX0_riskOf 6 = .ok (.getfield 140, 3) := dk_180 0 140 (dk_at dksX0_riskOf_0 6 rfl rfl)
theorem dX0_riskOf_9 : decode cX0_riskOf 9 = .ok (.iload_n 1, 1) := dk_27 (dk_at dksX0_riskOf_0 9 rfl rfl)
theorem dX0_riskOf_10 : decode cX0_riskOf 10 = .ok (.iaload, 1) := dk_46 (dk_at dksX0_riskOf_0 10 rfl rfl)
theorem dX0_riskOf_11 : decode cX0_riskOf 11 = .ok (.isub, 1) := dk_100 (dk_at dksX0_riskOf_0 11 rfl rfl)
theorem dX0_riskOf_12 : decode cX0_riskOf 12 = .ok (.aload_n 0, 1) := dk_42 (dk_at dksX0_riskOf_0 12 rfl rfl)
theorem dX0_riskOf_13 : decode cX0_riskOf 13 = .ok (.getfield 12, 3) := dk_180 0 12 (dk_at dksX0_riskOf_0 13 rfl rfl)
theorem dX0_riskOf_16 : decode cX0_riskOf 16 = .ok (.getfield 143, 3) := dk_180 0 143 (dk_at dksX0_riskOf_0 16 rfl rfl)
theorem dX0_riskOf_19 : decode cX0_riskOf 19 = .ok (.iload_n 2, 1) := dk_28 (dk_at dksX0_riskOf_0 19 rfl rfl)
theorem dX0_riskOf_20 : decode cX0_riskOf 20 = .ok (.iaload, 1) := dk_46 (dk_at dksX0_riskOf_0 20 rfl rfl)
theorem dX0_riskOf_21 : decode cX0_riskOf 21 = .ok (.imul, 1) := dk_104 (dk_at dksX0_riskOf_0 21 rfl rfl)
theorem dX0_riskOf_22 : decode cX0_riskOf 22 = .ok (.bipush 100, 2) := dk_16 100 (dk_at dksX0_riskOf_0 22 rfl rfl)
theorem dX0_riskOf_24 : decode cX0_riskOf 24 = .ok (.idiv, 1) := dk_108 (dk_at dksX0_riskOf_1 0 rfl rfl)
theorem dX0_riskOf_25 : decode cX0_riskOf 25 = .ok (.ireturn, 1) := dk_172 (dk_at dksX0_riskOf_1 1 rfl rfl)
theorem gespX_1_8_X0 {p : Program} {l : Launch} {e : Env} {R : Room} {s : State} {m : MethodId} {args : Array Value} {below : List Frame} {meth : Method} {c : Code} {cc : ByteArray} {nL : Nat} {ret : Option FieldType} {D : va_G} {E : List wCell} {q : Nat → Nat} {ca : wCA} {A : Nat → Prop} {Q : State → Prop} {kc ks : Nat} {μ : wMem} {lv : List (Nat × Value)} {st : List Value} (pc : Nat) (C : wC p R s m args meth c cc "OnePassport" nL ret D vwCl (spX ++ E) q ca A) (hd : decode cc pc = .ok (.getfield 140, 3)) (k : wJ p l e R s m args below meth c nL D vwCl (spX ++ E) q ca A Q kc ks μ (pc + 3) lv (.ref (q 2) :: st)) : wJ p l e R s m args below meth c nL D vwCl (spX ++ E) q ca A Q kc ks μ pc lv (.ref (q 1) :: st) := wr_getNR pc 8 C hd spX_1 rfl in_X1 (by decide) rfl q208 k
theorem gespX_1_10_X0 {p : Program} {l : Launch} {e : Env} {R : Room} {s : State} {m : MethodId} {args : Array Value} {below : List Frame} {meth : Method} {c : Code} {cc : ByteArray} {nL : Nat} {ret : Option FieldType} {D : va_G} {E : List wCell} {q : Nat → Nat} {ca : wCA} {A : Nat → Prop} {Q : State → Prop} {kc ks : Nat} {μ : wMem} {lv : List (Nat × Value)} {st : List Value} (pc : Nat) (C : wC p R s m args meth c cc "OnePassport" nL ret D vwCl (spX ++ E) q ca A) (hd : decode cc pc = .ok (.getfield 143, 3)) (k : wJ p l e R s m args below meth c nL D vwCl (spX ++ E) q ca A Q kc ks μ (pc + 3) lv (.ref (q 4) :: st)) : wJ p l e R s m args below meth c nL D vwCl (spX ++ E) q ca A Q kc ks μ pc lv (.ref (q 1) :: st) := wr_getNR pc 10 C hd spX_1 rfl in_X1 (by decide) rfl q214 k
theorem okX0_riskOf : wOkV yX0_riskOf cX0_riskOf 3 (some .int) 2 := ⟨q712, qs16, q136, q713, by decide, by decide, by decide +kernel⟩
def fX0_riskOf (N : Nat)  (a1 : Int32) (a2 : Int32) (μ : wMem) : Option (Int32 × wMem) :=
  wG (ok_in a1 6) (wG (ok_in a2 2) (some ((((100 : Int32) - (μ.1 2 (Int32.toNatClampNeg a1))) * (μ.1 4 (Int32.toNatClampNeg a2))) / (100 : Int32), μ)))
set_option maxHeartbeats 4000000 in
set_option maxRecDepth 100000 in
theorem tX0_riskOf (l : Launch) {D : va_G} {E : List wCell} {q : Nat → Nat} {ca : wCA} (N : Nat)   (a1 : Int32) (a2 : Int32) (μ : wMem) (r0 : (Int32 × wMem)) (hf : fX0_riskOf N  a1 a2 μ = some r0) : wMi l yX0_riskOf cX0_riskOf 3 (some .int) ({ frames := 0, cells := 0, slots := 0, locals := 0 } : Room) D vwCl (spX ++ E) q ca [.ref (q 0), .int a1, .int a2] μ r0 := by
  refine wMi_intro (by decide) (Nat.le_of_ble_eq_true rfl) ?_
  intro p e s m args below meth c A C
  unfold fX0_riskOf at hf
  refine wr_sub [(0, .ref (q 0)), (1, .int a1), (2, .int a2)] [0, 1, 2] rfl ?_
  refine wr_bipush 0 C dX0_riskOf_0 (v := 100) rfl ?_
  refine wr_aload_n 2 C dX0_riskOf_2 0 rfl rfl ?_
  refine gespX_0_0_X0 3 C dX0_riskOf_3 ?_
  refine gespX_1_8_X0 6 C dX0_riskOf_6 ?_
  refine wr_iload_n 9 C dX0_riskOf_9 1 rfl rfl ?_
  obtain ⟨g1, hf⟩ := o_g hf
  refine wr_iald 10 C dX0_riskOf_10 spX_2 g1 ?_
  refine wr_isub 11 C dX0_riskOf_11 ?_
  refine wr_aload_n 12 C dX0_riskOf_12 0 rfl rfl ?_
  refine gespX_0_0_X0 13 C dX0_riskOf_13 ?_
  refine gespX_1_10_X0 16 C dX0_riskOf_16 ?_
  refine wr_iload_n 19 C dX0_riskOf_19 2 rfl rfl ?_
  obtain ⟨g2, hf⟩ := o_g hf
  refine wr_iald 20 C dX0_riskOf_20 spX_4 g2 ?_
  refine wr_imul 21 C dX0_riskOf_21 ?_
  refine wr_bipush 22 C dX0_riskOf_22 (v := 100) rfl ?_
  refine wr_idiv 24 C dX0_riskOf_24 (by decide) ?_
  exact wr_iret 25 C dX0_riskOf_25 ⟨Nat.zero_le _, Nat.zero_le _⟩ (Option.some.inj hf)
abbrev cX0_risk : ByteArray := prog_1_method_17_code
def yX0_risk : MethodName := ⟨RX0, "risk", "(II)I"⟩
def dkwX0_risk_1 : List UInt8 := [167, 0, 5, 16, 254, 172]
abbrev dktX0_risk_1 : List UInt8 := dkwX0_risk_1 ++ []
def dkwX0_risk_0 : List UInt8 := [42, 27, 182, 0, 134, 153, 0, 20, 42, 28, 182, 0, 146, 153, 0, 12, 42, 27, 28, 182, 0, 149]
abbrev dktX0_risk_0 : List UInt8 := dkwX0_risk_0 ++ dktX0_risk_1
theorem dksX0_risk_0 : cX0_risk.data.toList.drop 0 = dktX0_risk_0 := by decide +kernel
theorem dksX0_risk_1 : cX0_risk.data.toList.drop 22 = dktX0_risk_1 := dk_seg dksX0_risk_0 22 rfl rfl
theorem dX0_risk_0 : decode cX0_risk 0 = .ok (.aload_n 0, 1) := dk_42 (dk_at dksX0_risk_0 0 rfl rfl)
theorem dX0_risk_1 : decode cX0_risk 1 = .ok (.iload_n 1, 1) := dk_27 (dk_at dksX0_risk_0 1 rfl rfl)
theorem dX0_risk_2 : decode cX0_risk 2 = .ok (.invokevirtual 134, 3) := dk_182 0 134 (dk_at dksX0_risk_0 2 rfl rfl)
theorem dX0_risk_5 : decode cX0_risk 5 = .ok (.ifCond .eq 20, 3) := dk_153 0 20 (dk_at dksX0_risk_0 5 rfl rfl)
theorem dX0_risk_8 : decode cX0_risk 8 = .ok (.aload_n 0, 1) := dk_42 (dk_at dksX0_risk_0 8 rfl rfl)
theorem dX0_risk_9 : decode cX0_risk 9 = .ok (.iload_n 2, 1) := dk_28 (dk_at dksX0_risk_0 9 rfl rfl)
theorem dX0_risk_10 : decode cX0_risk 10 = .ok (.invokevirtual 146, 3) := dk_182 0 146 (dk_at dksX0_risk_0 10 rfl rfl)
theorem dX0_risk_13 : decode cX0_risk 13 = .ok (.ifCond .eq 12, 3) := dk_153 0 12 (dk_at dksX0_risk_0 13 rfl rfl)
theorem dX0_risk_16 : decode cX0_risk 16 = .ok (.aload_n 0, 1) := dk_42 (dk_at dksX0_risk_0 16 rfl rfl)
theorem dX0_risk_17 : decode cX0_risk 17 = .ok (.iload_n 1, 1) := dk_27 (dk_at dksX0_risk_0 17 rfl rfl)
theorem dX0_risk_18 : decode cX0_risk 18 = .ok (.iload_n 2, 1) := dk_28 (dk_at dksX0_risk_0 18 rfl rfl)
theorem dX0_risk_19 : decode cX0_risk 19 = .ok (.invokevirtual 149, 3) := dk_182 0 149 (dk_at dksX0_risk_0 19 rfl rfl)
theorem dX0_risk_22 : decode cX0_risk 22 = .ok (.goto 5, 3) := dk_167 0 5 (dk_at dksX0_risk_1 0 rfl rfl)
theorem dX0_risk_25 : decode cX0_risk 25 = .ok (.bipush (-2), 2) := dk_16 254 (dk_at dksX0_risk_1 3 rfl rfl)
theorem dX0_risk_27 : decode cX0_risk 27 = .ok (.ireturn, 1) := dk_172 (dk_at dksX0_risk_1 5 rfl rfl)

theorem okX0_risk : wOkV yX0_risk cX0_risk 3 (some .int) 2 := ⟨q699, q700, q136, q701, by decide, by decide, by decide +kernel⟩
def fX0_risk (N : Nat)  (a1 : Int32) (a2 : Int32) (μ : wMem) : Option (Int32 × wMem) :=
  wBind (fX0_isPerson N  a1 μ) fun v3 μ2 => wLet (fun  (μ4 : wMem) => some ((-2), μ4)) fun Jrisk25 => if v3 = 0 then Jrisk25  μ2 else wBind (fX0_isPost N  a2 μ2) fun v8 μ7 => if v8 = 0 then Jrisk25  μ7 else wBind (fX0_riskOf N  a1 a2 μ7) fun v12 μ11 => some (v12, μ11)
set_option maxHeartbeats 4000000 in
set_option maxRecDepth 100000 in
theorem tX0_risk (l : Launch) {D : va_G} {E : List wCell} {q : Nat → Nat} {ca : wCA} (N : Nat)   (a1 : Int32) (a2 : Int32) (μ : wMem) (r0 : (Int32 × wMem)) (hf : fX0_risk N  a1 a2 μ = some r0) : wMi l yX0_risk cX0_risk 3 (some .int) ({ frames := 2, cells := 0, slots := 0, locals := 46 } : Room) D vwCl (spX ++ E) q ca [.ref (q 0), .int a1, .int a2] μ r0 := by
  refine wMi_intro (by decide) (Nat.le_of_ble_eq_true rfl) ?_
  intro p e s m args below meth c A C
  unfold fX0_risk at hf
  refine wr_sub [(0, .ref (q 0)), (1, .int a1), (2, .int a2)] [0, 1, 2] rfl ?_
  refine wr_aload_n 0 C dX0_risk_0 0 rfl rfl ?_
  refine wr_iload_n 1 C dX0_risk_1 1 rfl rfl ?_
  obtain ⟨v3, μ2, h1, hf⟩ := o_bind hf
  refine wr_Vi (kc1 := 0) (ks1 := 0) 2 [] C dX0_risk_2 (tX0_isPerson l N   a1 μ (v3, μ2) h1) okX0_isPerson q702 (b := 0) spX_0 rfl ⟨rfl, rfl, Nat.le_of_ble_eq_true rfl, Nat.le_of_ble_eq_true rfl, Nat.zero_le _, Nat.zero_le _⟩ (Nat.le_of_ble_eq_true rfl) rfl ?_
  obtain ⟨Jrisk25, eJrisk25, hf⟩ := o_let hf
  have hJrisk25 : ∀  (μ4 : wMem), Jrisk25  μ4 = some r0 → wJ p l e ({ frames := 2, cells := 0, slots := 0, locals := 46 } : Room) s m args below meth c 3 D vwCl (spX ++ E) q ca A (wQi ({ frames := 2, cells := 0, slots := 0, locals := 46 } : Room) D vwCl (spX ++ E) q ca below args s A r0) 0 0 μ4 25 [] [] := by
    intro  μ4 hf
    rw [eJrisk25] at hf
    refine wr_bipush 25 C dX0_risk_25 (v := (-2)) rfl ?_
    exact wr_iret 27 C dX0_risk_27 ⟨Nat.zero_le _, Nat.zero_le _⟩ (Option.some.inj hf)
  refine wr_if_eq 5 25 C dX0_risk_5 (by decide) (fun c5 => ?_) (fun c5 => ?_)
  · replace hf := o_pos c5 hf
    refine wr_sub [] [] rfl ?_
    exact hJrisk25  μ2 hf
  · replace hf := o_neg c5 hf
    refine wr_aload_n 8 C dX0_risk_8 0 rfl rfl ?_
    refine wr_iload_n 9 C dX0_risk_9 2 rfl rfl ?_
    obtain ⟨v8, μ7, h6, hf⟩ := o_bind hf
    refine wr_Vi (kc1 := 0) (ks1 := 0) 10 [] C dX0_risk_10 (tX0_isPost l N   a2 μ2 (v8, μ7) h6) okX0_isPost q706 (b := 0) spX_0 rfl ⟨rfl, rfl, Nat.le_of_ble_eq_true rfl, Nat.le_of_ble_eq_true rfl, Nat.zero_le _, Nat.zero_le _⟩ (Nat.le_of_ble_eq_true rfl) rfl ?_
    refine wr_if_eq 13 25 C dX0_risk_13 (by decide) (fun c9 => ?_) (fun c9 => ?_)
    · replace hf := o_pos c9 hf
      refine wr_sub [] [] rfl ?_
      exact hJrisk25  μ7 hf
    · replace hf := o_neg c9 hf
      refine wr_aload_n 16 C dX0_risk_16 0 rfl rfl ?_
      refine wr_iload_n 17 C dX0_risk_17 1 rfl rfl ?_
      refine wr_iload_n 18 C dX0_risk_18 2 rfl rfl ?_
      obtain ⟨v12, μ11, h10, hf⟩ := o_bind hf
      refine wr_Vi (kc1 := 0) (ks1 := 0) 19 [] C dX0_risk_19 (tX0_riskOf l N   a1 a2 μ7 (v12, μ11) h10) okX0_riskOf q710 (b := 0) spX_0 rfl ⟨rfl, rfl, Nat.le_of_ble_eq_true rfl, Nat.le_of_ble_eq_true rfl, Nat.zero_le _, Nat.zero_le _⟩ (Nat.le_of_ble_eq_true rfl) rfl ?_
      refine wr_goto 22 C dX0_risk_22 (tgt := 27) (by decide) ?_
      exact wr_iret 27 C dX0_risk_27 ⟨Nat.zero_le _, Nat.zero_le _⟩ (Option.some.inj hf)
abbrev cX0_isPersonOrNone : ByteArray := prog_1_method_12_code
def yX0_isPersonOrNone : MethodName := ⟨RX0, "isPersonOrNone", "(I)Z"⟩
def dkwX0_isPersonOrNone_0 : List UInt8 := [27, 2, 159, 0, 11, 42, 27, 182, 0, 134, 153, 0, 7, 4, 167, 0, 4, 3, 172]
abbrev dktX0_isPersonOrNone_0 : List UInt8 := dkwX0_isPersonOrNone_0 ++ []
theorem dksX0_isPersonOrNone_0 : cX0_isPersonOrNone.data.toList.drop 0 = dktX0_isPersonOrNone_0 := by decide +kernel
theorem dX0_isPersonOrNone_0 : decode cX0_isPersonOrNone 0 = .ok (.iload_n 1, 1) := dk_27 (dk_at dksX0_isPersonOrNone_0 0 rfl rfl)
theorem dX0_isPersonOrNone_1 : decode cX0_isPersonOrNone 1 = .ok (.iconst (-1), 1) := dk_2 (dk_at dksX0_isPersonOrNone_0 1 rfl rfl)
theorem dX0_isPersonOrNone_2 : decode cX0_isPersonOrNone 2 = .ok (.if_icmp .eq 11, 3) := dk_159 0 11 (dk_at dksX0_isPersonOrNone_0 2 rfl rfl)
theorem dX0_isPersonOrNone_5 : decode cX0_isPersonOrNone 5 = .ok (.aload_n 0, 1) := dk_42 (dk_at dksX0_isPersonOrNone_0 5 rfl rfl)
theorem dX0_isPersonOrNone_6 : decode cX0_isPersonOrNone 6 = .ok (.iload_n 1, 1) := dk_27 (dk_at dksX0_isPersonOrNone_0 6 rfl rfl)
theorem dX0_isPersonOrNone_7 : decode cX0_isPersonOrNone 7 = .ok (.invokevirtual 134, 3) := dk_182 0 134 (dk_at dksX0_isPersonOrNone_0 7 rfl rfl)
theorem dX0_isPersonOrNone_10 : decode cX0_isPersonOrNone 10 = .ok (.ifCond .eq 7, 3) := dk_153 0 7 (dk_at dksX0_isPersonOrNone_0 10 rfl rfl)
theorem dX0_isPersonOrNone_13 : decode cX0_isPersonOrNone 13 = .ok (.iconst 1, 1) := dk_4 (dk_at dksX0_isPersonOrNone_0 13 rfl rfl)
theorem dX0_isPersonOrNone_14 : decode cX0_isPersonOrNone 14 = .ok (.goto 4, 3) := dk_167 0 4 (dk_at dksX0_isPersonOrNone_0 14 rfl rfl)
theorem dX0_isPersonOrNone_17 : decode cX0_isPersonOrNone 17 = .ok (.iconst 0, 1) := dk_3 (dk_at dksX0_isPersonOrNone_0 17 rfl rfl)
theorem dX0_isPersonOrNone_18 : decode cX0_isPersonOrNone 18 = .ok (.ireturn, 1) := dk_172 (dk_at dksX0_isPersonOrNone_0 18 rfl rfl)

theorem okX0_isPersonOrNone : wOkV yX0_isPersonOrNone cX0_isPersonOrNone 2 (some .boolean) 1 := ⟨q720, qs17, q136, q721, by decide, by decide, by decide +kernel⟩
def fX0_isPersonOrNone (N : Nat)  (a1 : Int32) (μ : wMem) : Option (Int32 × wMem) :=
  wLet (fun  (μ1 : wMem) => some (1, μ1)) fun JisPersonOrNone13 => if a1 = (-1 : Int32) then JisPersonOrNone13  μ else wBind (fX0_isPerson N  a1 μ) fun v5 μ4 => if v5 = 0 then some (0, μ4) else JisPersonOrNone13  μ4
set_option maxHeartbeats 4000000 in
set_option maxRecDepth 100000 in
theorem tX0_isPersonOrNone (l : Launch) {D : va_G} {E : List wCell} {q : Nat → Nat} {ca : wCA} (N : Nat)   (a1 : Int32) (μ : wMem) (r0 : (Int32 × wMem)) (hf : fX0_isPersonOrNone N  a1 μ = some r0) : wMi l yX0_isPersonOrNone cX0_isPersonOrNone 2 (some .boolean) ({ frames := 2, cells := 0, slots := 0, locals := 46 } : Room) D vwCl (spX ++ E) q ca [.ref (q 0), .int a1] μ r0 := by
  refine wMi_intro (by decide) (Nat.le_of_ble_eq_true rfl) ?_
  intro p e s m args below meth c A C
  unfold fX0_isPersonOrNone at hf
  refine wr_sub [(0, .ref (q 0)), (1, .int a1)] [0, 1] rfl ?_
  refine wr_iload_n 0 C dX0_isPersonOrNone_0 1 rfl rfl ?_
  refine wr_iconst 1 C dX0_isPersonOrNone_1 (v := (-1)) rfl ?_
  obtain ⟨JisPersonOrNone13, eJisPersonOrNone13, hf⟩ := o_let hf
  have hJisPersonOrNone13 : ∀  (μ1 : wMem), JisPersonOrNone13  μ1 = some r0 → wJ p l e ({ frames := 2, cells := 0, slots := 0, locals := 46 } : Room) s m args below meth c 2 D vwCl (spX ++ E) q ca A (wQi ({ frames := 2, cells := 0, slots := 0, locals := 46 } : Room) D vwCl (spX ++ E) q ca below args s A r0) 0 0 μ1 13 [] [] := by
    intro  μ1 hf
    rw [eJisPersonOrNone13] at hf
    refine wr_iconst 13 C dX0_isPersonOrNone_13 (v := 1) rfl ?_
    refine wr_goto 14 C dX0_isPersonOrNone_14 (tgt := 18) (by decide) ?_
    exact wr_zret 18 C dX0_isPersonOrNone_18 rfl ⟨Nat.zero_le _, Nat.zero_le _⟩ (Option.some.inj hf)
  refine wr_icmp_eq 2 13 C dX0_isPersonOrNone_2 (by decide) (fun c2 => ?_) (fun c2 => ?_)
  · replace hf := o_pos c2 hf
    refine wr_sub [] [] rfl ?_
    exact hJisPersonOrNone13  μ hf
  · replace hf := o_neg c2 hf
    refine wr_aload_n 5 C dX0_isPersonOrNone_5 0 rfl rfl ?_
    refine wr_iload_n 6 C dX0_isPersonOrNone_6 1 rfl rfl ?_
    obtain ⟨v5, μ4, h3, hf⟩ := o_bind hf
    refine wr_Vi (kc1 := 0) (ks1 := 0) 7 [] C dX0_isPersonOrNone_7 (tX0_isPerson l N   a1 μ (v5, μ4) h3) okX0_isPerson q702 (b := 0) spX_0 rfl ⟨rfl, rfl, Nat.le_of_ble_eq_true rfl, Nat.le_of_ble_eq_true rfl, Nat.zero_le _, Nat.zero_le _⟩ (Nat.le_of_ble_eq_true rfl) rfl ?_
    refine wr_if_eq 10 17 C dX0_isPersonOrNone_10 (by decide) (fun c6 => ?_) (fun c6 => ?_)
    · replace hf := o_pos c6 hf
      refine wr_iconst 17 C dX0_isPersonOrNone_17 (v := 0) rfl ?_
      exact wr_zret 18 C dX0_isPersonOrNone_18 rfl ⟨Nat.zero_le _, Nat.zero_le _⟩ (Option.some.inj hf)
    · replace hf := o_neg c6 hf
      refine wr_sub [] [] rfl ?_
      exact hJisPersonOrNone13  μ4 hf
abbrev cX0_mayBehind : ByteArray := prog_1_method_18_code
def yX0_mayBehind : MethodName := ⟨RX0, "mayBehind", "(III)Z"⟩
def dkwX0_mayBehind_2 : List UInt8 := [167, 0, 4, 3, 172]
abbrev dktX0_mayBehind_2 : List UInt8 := dkwX0_mayBehind_2 ++ []
def dkwX0_mayBehind_1 : List UInt8 := [180, 0, 153, 28, 46, 100, 184, 0, 156, 42, 180, 0, 12, 180, 0, 162, 29, 46, 163, 0, 7, 4]
abbrev dktX0_mayBehind_1 : List UInt8 := dkwX0_mayBehind_1 ++ dktX0_mayBehind_2
def dkwX0_mayBehind_0 : List UInt8 := [27, 2, 159, 0, 42, 27, 28, 159, 0, 37, 42, 180, 0, 12, 180, 0, 153, 27, 46, 42, 180, 0, 12]
abbrev dktX0_mayBehind_0 : List UInt8 := dkwX0_mayBehind_0 ++ dktX0_mayBehind_1
theorem dksX0_mayBehind_0 : cX0_mayBehind.data.toList.drop 0 = dktX0_mayBehind_0 := by decide +kernel
theorem dksX0_mayBehind_1 : cX0_mayBehind.data.toList.drop 23 = dktX0_mayBehind_1 := dk_seg dksX0_mayBehind_0 23 rfl rfl
theorem dksX0_mayBehind_2 : cX0_mayBehind.data.toList.drop 45 = dktX0_mayBehind_2 := dk_seg dksX0_mayBehind_1 22 rfl rfl
theorem dX0_mayBehind_0 : decode cX0_mayBehind 0 = .ok (.iload_n 1, 1) := dk_27 (dk_at dksX0_mayBehind_0 0 rfl rfl)
theorem dX0_mayBehind_1 : decode cX0_mayBehind 1 = .ok (.iconst (-1), 1) := dk_2 (dk_at dksX0_mayBehind_0 1 rfl rfl)
theorem dX0_mayBehind_2 : decode cX0_mayBehind 2 = .ok (.if_icmp .eq 42, 3) := dk_159 0 42 (dk_at dksX0_mayBehind_0 2 rfl rfl)
theorem dX0_mayBehind_5 : decode cX0_mayBehind 5 = .ok (.iload_n 1, 1) := dk_27 (dk_at dksX0_mayBehind_0 5 rfl rfl)
theorem dX0_mayBehind_6 : decode cX0_mayBehind 6 = .ok (.iload_n 2, 1) := dk_28 (dk_at dksX0_mayBehind_0 6 rfl rfl)
theorem dX0_mayBehind_7 : decode cX0_mayBehind 7 = .ok (.if_icmp .eq 37, 3) := dk_159 0 37 (dk_at dksX0_mayBehind_0 7 rfl rfl)
theorem dX0_mayBehind_10 : decode cX0_mayBehind 10 = .ok (.aload_n 0, 1) := dk_42 (dk_at dksX0_mayBehind_0 10 rfl rfl)
theorem dX0_mayBehind_11 : decode cX0_mayBehind 11 = .ok (.getfield 12, 3) := dk_180 0 12 (dk_at dksX0_mayBehind_0 11 rfl rfl)
theorem dX0_mayBehind_14 : decode cX0_mayBehind 14 = .ok (.getfield 153, 3) := dk_180 0 153 (dk_at dksX0_mayBehind_0 14 rfl rfl)
theorem dX0_mayBehind_17 : decode cX0_mayBehind 17 = .ok (.iload_n 1, 1) := dk_27 (dk_at dksX0_mayBehind_0 17 rfl rfl)
theorem dX0_mayBehind_18 : decode cX0_mayBehind 18 = .ok (.iaload, 1) := dk_46 (dk_at dksX0_mayBehind_0 18 rfl rfl)
theorem dX0_mayBehind_19 : decode cX0_mayBehind 19 = .ok (.aload_n 0, 1) := dk_42 (dk_at dksX0_mayBehind_0 19 rfl rfl)
theorem dX0_mayBehind_20 : decode cX0_mayBehind 20 = .ok (.getfield 12, 3) := dk_180 0 12 (dk_at dksX0_mayBehind_0 20 rfl rfl)
theorem dX0_mayBehind_23 : decode cX0_mayBehind 23 = .ok (.getfield 153, 3) := dk_180 0 153 (dk_at dksX0_mayBehind_1 0 rfl rfl)
theorem dX0_mayBehind_26 : decode cX0_mayBehind 26 = .ok (.iload_n 2, 1) := dk_28 (dk_at dksX0_mayBehind_1 3 rfl rfl)
theorem dX0_mayBehind_27 : decode cX0_mayBehind 27 = .ok (.iaload, 1) := dk_46 (dk_at dksX0_mayBehind_1 4 rfl rfl)
theorem dX0_mayBehind_28 : decode cX0_mayBehind 28 = .ok (.isub, 1) := dk_100 (dk_at dksX0_mayBehind_1 5 rfl rfl)
theorem dX0_mayBehind_29 : decode cX0_mayBehind 29 = .ok (.invokestatic 156, 3) := dk_184 0 156 (dk_at dksX0_mayBehind_1 6 rfl rfl)
theorem dX0_mayBehind_32 : decode cX0_mayBehind 32 = .ok (.aload_n 0, 1) := dk_42 (dk_at dksX0_mayBehind_1 9 rfl rfl)
theorem dX0_mayBehind_33 : decode cX0_mayBehind 33 = .ok (.getfield 12, 3) := dk_180 0 12 (dk_at dksX0_mayBehind_1 10 rfl rfl)
theorem dX0_mayBehind_36 : decode cX0_mayBehind 36 = .ok (.getfield 162, 3) := dk_180 0 162 (dk_at dksX0_mayBehind_1 13 rfl rfl)
theorem dX0_mayBehind_39 : decode cX0_mayBehind 39 = .ok (.iload_n 3, 1) := dk_29 (dk_at dksX0_mayBehind_1 16 rfl rfl)
theorem dX0_mayBehind_40 : decode cX0_mayBehind 40 = .ok (.iaload, 1) := dk_46 (dk_at dksX0_mayBehind_1 17 rfl rfl)
theorem dX0_mayBehind_41 : decode cX0_mayBehind 41 = .ok (.if_icmp .gt 7, 3) := dk_163 0 7 (dk_at dksX0_mayBehind_1 18 rfl rfl)
theorem dX0_mayBehind_44 : decode cX0_mayBehind 44 = .ok (.iconst 1, 1) := dk_4 (dk_at dksX0_mayBehind_1 21 rfl rfl)
theorem dX0_mayBehind_45 : decode cX0_mayBehind 45 = .ok (.goto 4, 3) := dk_167 0 4 (dk_at dksX0_mayBehind_2 0 rfl rfl)
theorem dX0_mayBehind_48 : decode cX0_mayBehind 48 = .ok (.iconst 0, 1) := dk_3 (dk_at dksX0_mayBehind_2 3 rfl rfl)
theorem dX0_mayBehind_49 : decode cX0_mayBehind 49 = .ok (.ireturn, 1) := dk_172 (dk_at dksX0_mayBehind_2 4 rfl rfl)
theorem gespX_1_9_X0 {p : Program} {l : Launch} {e : Env} {R : Room} {s : State} {m : MethodId} {args : Array Value} {below : List Frame} {meth : Method} {c : Code} {cc : ByteArray} {nL : Nat} {ret : Option FieldType} {D : va_G} {E : List wCell} {q : Nat → Nat} {ca : wCA} {A : Nat → Prop} {Q : State → Prop} {kc ks : Nat} {μ : wMem} {lv : List (Nat × Value)} {st : List Value} (pc : Nat) (C : wC p R s m args meth c cc "OnePassport" nL ret D vwCl (spX ++ E) q ca A) (hd : decode cc pc = .ok (.getfield 153, 3)) (k : wJ p l e R s m args below meth c nL D vwCl (spX ++ E) q ca A Q kc ks μ (pc + 3) lv (.ref (q 3) :: st)) : wJ p l e R s m args below meth c nL D vwCl (spX ++ E) q ca A Q kc ks μ pc lv (.ref (q 1) :: st) := wr_getNR pc 9 C hd spX_1 rfl in_X1 (by decide) rfl q211 k
theorem gespX_1_11_X0 {p : Program} {l : Launch} {e : Env} {R : Room} {s : State} {m : MethodId} {args : Array Value} {below : List Frame} {meth : Method} {c : Code} {cc : ByteArray} {nL : Nat} {ret : Option FieldType} {D : va_G} {E : List wCell} {q : Nat → Nat} {ca : wCA} {A : Nat → Prop} {Q : State → Prop} {kc ks : Nat} {μ : wMem} {lv : List (Nat × Value)} {st : List Value} (pc : Nat) (C : wC p R s m args meth c cc "OnePassport" nL ret D vwCl (spX ++ E) q ca A) (hd : decode cc pc = .ok (.getfield 162, 3)) (k : wJ p l e R s m args below meth c nL D vwCl (spX ++ E) q ca A Q kc ks μ (pc + 3) lv (.ref (q 5) :: st)) : wJ p l e R s m args below meth c nL D vwCl (spX ++ E) q ca A Q kc ks μ pc lv (.ref (q 1) :: st) := wr_getNR pc 11 C hd spX_1 rfl in_X1 (by decide) rfl q217 k
theorem okX0_mayBehind : wOkV yX0_mayBehind cX0_mayBehind 4 (some .boolean) 3 := ⟨q725, qs18, q136, q726, by decide, by decide, by decide +kernel⟩
def fX0_mayBehind (N : Nat)  (a1 : Int32) (a2 : Int32) (a3 : Int32) (μ : wMem) : Option (Int32 × wMem) :=
  wLet (fun  (μ1 : wMem) => some (1, μ1)) fun JmayBehind44 => if a1 = (-1 : Int32) then JmayBehind44  μ else if a1 = a2 then JmayBehind44  μ else wG (ok_in a1 6) (wG (ok_in a2 6) (wG (ok_in a3 2) (if (μ.1 5 (Int32.toNatClampNeg a3)) < (if 0 ≤ ((μ.1 3 (Int32.toNatClampNeg a1)) - (μ.1 3 (Int32.toNatClampNeg a2))) then ((μ.1 3 (Int32.toNatClampNeg a1)) - (μ.1 3 (Int32.toNatClampNeg a2))) else 0 - ((μ.1 3 (Int32.toNatClampNeg a1)) - (μ.1 3 (Int32.toNatClampNeg a2)))) then some (0, μ) else JmayBehind44  μ)))
set_option maxHeartbeats 4000000 in
set_option maxRecDepth 100000 in
theorem tX0_mayBehind (l : Launch) {D : va_G} {E : List wCell} {q : Nat → Nat} {ca : wCA} (N : Nat)   (a1 : Int32) (a2 : Int32) (a3 : Int32) (μ : wMem) (r0 : (Int32 × wMem)) (hf : fX0_mayBehind N  a1 a2 a3 μ = some r0) : wMi l yX0_mayBehind cX0_mayBehind 4 (some .boolean) ({ frames := 1, cells := 0, slots := 0, locals := 21 } : Room) D vwCl (spX ++ E) q ca [.ref (q 0), .int a1, .int a2, .int a3] μ r0 := by
  refine wMi_intro (by decide) (Nat.le_of_ble_eq_true rfl) ?_
  intro p e s m args below meth c A C
  unfold fX0_mayBehind at hf
  refine wr_sub [(0, .ref (q 0)), (1, .int a1), (2, .int a2), (3, .int a3)] [0, 1, 2, 3] rfl ?_
  refine wr_iload_n 0 C dX0_mayBehind_0 1 rfl rfl ?_
  refine wr_iconst 1 C dX0_mayBehind_1 (v := (-1)) rfl ?_
  obtain ⟨JmayBehind44, eJmayBehind44, hf⟩ := o_let hf
  have hJmayBehind44 : ∀  (μ1 : wMem), JmayBehind44  μ1 = some r0 → wJ p l e ({ frames := 1, cells := 0, slots := 0, locals := 21 } : Room) s m args below meth c 4 D vwCl (spX ++ E) q ca A (wQi ({ frames := 1, cells := 0, slots := 0, locals := 21 } : Room) D vwCl (spX ++ E) q ca below args s A r0) 0 0 μ1 44 [] [] := by
    intro  μ1 hf
    rw [eJmayBehind44] at hf
    refine wr_iconst 44 C dX0_mayBehind_44 (v := 1) rfl ?_
    refine wr_goto 45 C dX0_mayBehind_45 (tgt := 49) (by decide) ?_
    exact wr_zret 49 C dX0_mayBehind_49 rfl ⟨Nat.zero_le _, Nat.zero_le _⟩ (Option.some.inj hf)
  refine wr_icmp_eq 2 44 C dX0_mayBehind_2 (by decide) (fun c2 => ?_) (fun c2 => ?_)
  · replace hf := o_pos c2 hf
    refine wr_sub [] [] rfl ?_
    exact hJmayBehind44  μ hf
  · replace hf := o_neg c2 hf
    refine wr_iload_n 5 C dX0_mayBehind_5 1 rfl rfl ?_
    refine wr_iload_n 6 C dX0_mayBehind_6 2 rfl rfl ?_
    refine wr_icmp_eq 7 44 C dX0_mayBehind_7 (by decide) (fun c3 => ?_) (fun c3 => ?_)
    · replace hf := o_pos c3 hf
      refine wr_sub [] [] rfl ?_
      exact hJmayBehind44  μ hf
    · replace hf := o_neg c3 hf
      refine wr_aload_n 10 C dX0_mayBehind_10 0 rfl rfl ?_
      refine gespX_0_0_X0 11 C dX0_mayBehind_11 ?_
      refine gespX_1_9_X0 14 C dX0_mayBehind_14 ?_
      refine wr_iload_n 17 C dX0_mayBehind_17 1 rfl rfl ?_
      obtain ⟨g4, hf⟩ := o_g hf
      refine wr_iald 18 C dX0_mayBehind_18 spX_3 g4 ?_
      refine wr_aload_n 19 C dX0_mayBehind_19 0 rfl rfl ?_
      refine gespX_0_0_X0 20 C dX0_mayBehind_20 ?_
      refine gespX_1_9_X0 23 C dX0_mayBehind_23 ?_
      refine wr_iload_n 26 C dX0_mayBehind_26 2 rfl rfl ?_
      obtain ⟨g5, hf⟩ := o_g hf
      refine wr_iald 27 C dX0_mayBehind_27 spX_3 g5 ?_
      refine wr_isub 28 C dX0_mayBehind_28 ?_
      refine wr_mabs 29 C dX0_mayBehind_29 q727 q728 q149 q729 ⟨Nat.le_of_ble_eq_true rfl, Nat.le_of_ble_eq_true rfl, Nat.zero_le _, Nat.zero_le _⟩ (Nat.le_of_ble_eq_true rfl) ?_
      refine wr_aload_n 32 C dX0_mayBehind_32 0 rfl rfl ?_
      refine gespX_0_0_X0 33 C dX0_mayBehind_33 ?_
      refine gespX_1_11_X0 36 C dX0_mayBehind_36 ?_
      refine wr_iload_n 39 C dX0_mayBehind_39 3 rfl rfl ?_
      obtain ⟨g6, hf⟩ := o_g hf
      refine wr_iald 40 C dX0_mayBehind_40 spX_5 g6 ?_
      refine wr_icmp_gt 41 48 C dX0_mayBehind_41 (by decide) (fun c7 => ?_) (fun c7 => ?_)
      · replace hf := o_pos c7 hf
        refine wr_iconst 48 C dX0_mayBehind_48 (v := 0) rfl ?_
        exact wr_zret 49 C dX0_mayBehind_49 rfl ⟨Nat.zero_le _, Nat.zero_le _⟩ (Option.some.inj hf)
      · replace hf := o_neg c7 hf
        refine wr_sub [] [] rfl ?_
        exact hJmayBehind44  μ hf
abbrev cX0_after : ByteArray := prog_1_method_19_code
def yX0_after : MethodName := ⟨RX0, "after", "(II)I"⟩
def dkwX0_after_3 : List UInt8 := [3, 128, 62, 132, 4, 1, 167, 255, 204, 29, 172]
abbrev dktX0_after_3 : List UInt8 := dkwX0_after_3 ++ []
def dkwX0_after_2 : List UInt8 := [184, 0, 171, 154, 0, 21, 42, 27, 21, 4, 28, 182, 0, 175, 153, 0, 10, 4, 21, 4, 120, 167, 0, 4]
abbrev dktX0_after_2 : List UInt8 := dkwX0_after_2 ++ dktX0_after_3
def dkwX0_after_1 : List UInt8 := [21, 4, 42, 180, 0, 12, 180, 0, 128, 162, 0, 46, 29, 42, 180, 0, 12, 180, 0, 168, 21, 4]
abbrev dktX0_after_1 : List UInt8 := dkwX0_after_1 ++ dktX0_after_2
def dkwX0_after_0 : List UInt8 := [42, 27, 182, 0, 165, 153, 0, 11, 42, 28, 182, 0, 146, 154, 0, 6, 16, 254, 172, 3, 62, 3, 54, 4]
abbrev dktX0_after_0 : List UInt8 := dkwX0_after_0 ++ dktX0_after_1
theorem dksX0_after_0 : cX0_after.data.toList.drop 0 = dktX0_after_0 := by decide +kernel
theorem dksX0_after_1 : cX0_after.data.toList.drop 24 = dktX0_after_1 := dk_seg dksX0_after_0 24 rfl rfl
theorem dksX0_after_2 : cX0_after.data.toList.drop 46 = dktX0_after_2 := dk_seg dksX0_after_1 22 rfl rfl
theorem dksX0_after_3 : cX0_after.data.toList.drop 70 = dktX0_after_3 := dk_seg dksX0_after_2 24 rfl rfl
theorem dX0_after_0 : decode cX0_after 0 = .ok (.aload_n 0, 1) := dk_42 (dk_at dksX0_after_0 0 rfl rfl)
theorem dX0_after_1 : decode cX0_after 1 = .ok (.iload_n 1, 1) := dk_27 (dk_at dksX0_after_0 1 rfl rfl)
theorem dX0_after_2 : decode cX0_after 2 = .ok (.invokevirtual 165, 3) := dk_182 0 165 (dk_at dksX0_after_0 2 rfl rfl)
theorem dX0_after_5 : decode cX0_after 5 = .ok (.ifCond .eq 11, 3) := dk_153 0 11 (dk_at dksX0_after_0 5 rfl rfl)
theorem dX0_after_8 : decode cX0_after 8 = .ok (.aload_n 0, 1) := dk_42 (dk_at dksX0_after_0 8 rfl rfl)
theorem dX0_after_9 : decode cX0_after 9 = .ok (.iload_n 2, 1) := dk_28 (dk_at dksX0_after_0 9 rfl rfl)
theorem dX0_after_10 : decode cX0_after 10 = .ok (.invokevirtual 146, 3) := dk_182 0 146 (dk_at dksX0_after_0 10 rfl rfl)
theorem dX0_after_13 : decode cX0_after 13 = .ok (.ifCond .ne 6, 3) := dk_154 0 6 (dk_at dksX0_after_0 13 rfl rfl)
theorem dX0_after_16 : decode cX0_after 16 = .ok (.bipush (-2), 2) := dk_16 254 (dk_at dksX0_after_0 16 rfl rfl)
theorem dX0_after_18 : decode cX0_after 18 = .ok (.ireturn, 1) := dk_172 (dk_at dksX0_after_0 18 rfl rfl)
theorem dX0_after_19 : decode cX0_after 19 = .ok (.iconst 0, 1) := dk_3 (dk_at dksX0_after_0 19 rfl rfl)
theorem dX0_after_20 : decode cX0_after 20 = .ok (.istore_n 3, 1) := dk_62 (dk_at dksX0_after_0 20 rfl rfl)
theorem dX0_after_21 : decode cX0_after 21 = .ok (.iconst 0, 1) := dk_3 (dk_at dksX0_after_0 21 rfl rfl)
theorem dX0_after_22 : decode cX0_after 22 = .ok (.istore 4, 2) := dk_54 4 (dk_at dksX0_after_0 22 rfl rfl)
theorem dX0_after_24 : decode cX0_after 24 = .ok (.iload 4, 2) := dk_21 4 (dk_at dksX0_after_1 0 rfl rfl)
theorem dX0_after_26 : decode cX0_after 26 = .ok (.aload_n 0, 1) := dk_42 (dk_at dksX0_after_1 2 rfl rfl)
theorem dX0_after_27 : decode cX0_after 27 = .ok (.getfield 12, 3) := dk_180 0 12 (dk_at dksX0_after_1 3 rfl rfl)
theorem dX0_after_30 : decode cX0_after 30 = .ok (.getfield 128, 3) := dk_180 0 128 (dk_at dksX0_after_1 6 rfl rfl)
theorem dX0_after_33 : decode cX0_after 33 = .ok (.if_icmp .ge 46, 3) := dk_162 0 46 (dk_at dksX0_after_1 9 rfl rfl)
theorem dX0_after_36 : decode cX0_after 36 = .ok (.iload_n 3, 1) := dk_29 (dk_at dksX0_after_1 12 rfl rfl)
theorem dX0_after_37 : decode cX0_after 37 = .ok (.aload_n 0, 1) := dk_42 (dk_at dksX0_after_1 13 rfl rfl)
theorem dX0_after_38 : decode cX0_after 38 = .ok (.getfield 12, 3) := dk_180 0 12 (dk_at dksX0_after_1 14 rfl rfl)
theorem dX0_after_41 : decode cX0_after 41 = .ok (.getfield 168, 3) := dk_180 0 168 (dk_at dksX0_after_1 17 rfl rfl)
theorem dX0_after_44 : decode cX0_after 44 = .ok (.iload 4, 2) := dk_21 4 (dk_at dksX0_after_1 20 rfl rfl)
theorem dX0_after_46 : decode cX0_after 46 = .ok (.invokestatic 171, 3) := dk_184 0 171 (dk_at dksX0_after_2 0 rfl rfl)
theorem dX0_after_49 : decode cX0_after 49 = .ok (.ifCond .ne 21, 3) := dk_154 0 21 (dk_at dksX0_after_2 3 rfl rfl)
theorem dX0_after_52 : decode cX0_after 52 = .ok (.aload_n 0, 1) := dk_42 (dk_at dksX0_after_2 6 rfl rfl)
theorem dX0_after_53 : decode cX0_after 53 = .ok (.iload_n 1, 1) := dk_27 (dk_at dksX0_after_2 7 rfl rfl)
theorem dX0_after_54 : decode cX0_after 54 = .ok (.iload 4, 2) := dk_21 4 (dk_at dksX0_after_2 8 rfl rfl)
theorem dX0_after_56 : decode cX0_after 56 = .ok (.iload_n 2, 1) := dk_28 (dk_at dksX0_after_2 10 rfl rfl)
theorem dX0_after_57 : decode cX0_after 57 = .ok (.invokevirtual 175, 3) := dk_182 0 175 (dk_at dksX0_after_2 11 rfl rfl)
theorem dX0_after_60 : decode cX0_after 60 = .ok (.ifCond .eq 10, 3) := dk_153 0 10 (dk_at dksX0_after_2 14 rfl rfl)
theorem dX0_after_63 : decode cX0_after 63 = .ok (.iconst 1, 1) := dk_4 (dk_at dksX0_after_2 17 rfl rfl)
theorem dX0_after_64 : decode cX0_after 64 = .ok (.iload 4, 2) := dk_21 4 (dk_at dksX0_after_2 18 rfl rfl)
theorem dX0_after_66 : decode cX0_after 66 = .ok (.ishl, 1) := dk_120 (dk_at dksX0_after_2 20 rfl rfl)
theorem dX0_after_67 : decode cX0_after 67 = .ok (.goto 4, 3) := dk_167 0 4 (dk_at dksX0_after_2 21 rfl rfl)
theorem dX0_after_70 : decode cX0_after 70 = .ok (.iconst 0, 1) := dk_3 (dk_at dksX0_after_3 0 rfl rfl)
theorem dX0_after_71 : decode cX0_after 71 = .ok (.ior, 1) := dk_128 (dk_at dksX0_after_3 1 rfl rfl)
theorem dX0_after_72 : decode cX0_after 72 = .ok (.istore_n 3, 1) := dk_62 (dk_at dksX0_after_3 2 rfl rfl)
theorem dX0_after_73 : decode cX0_after 73 = .ok (.iinc 4 1, 3) := dk_132 4 1 (dk_at dksX0_after_3 3 rfl rfl)
theorem dX0_after_76 : decode cX0_after 76 = .ok (.goto (-52), 3) := dk_167 255 204 (dk_at dksX0_after_3 6 rfl rfl)
theorem dX0_after_79 : decode cX0_after 79 = .ok (.iload_n 3, 1) := dk_29 (dk_at dksX0_after_3 9 rfl rfl)
theorem dX0_after_80 : decode cX0_after 80 = .ok (.ireturn, 1) := dk_172 (dk_at dksX0_after_3 10 rfl rfl)
theorem gespX_1_4_X0 {p : Program} {l : Launch} {e : Env} {R : Room} {s : State} {m : MethodId} {args : Array Value} {below : List Frame} {meth : Method} {c : Code} {cc : ByteArray} {nL : Nat} {ret : Option FieldType} {D : va_G} {E : List wCell} {q : Nat → Nat} {ca : wCA} {A : Nat → Prop} {Q : State → Prop} {kc ks : Nat} {μ : wMem} {lv : List (Nat × Value)} {st : List Value} (pc : Nat) (C : wC p R s m args meth c cc "OnePassport" nL ret D vwCl (spX ++ E) q ca A) (hd : decode cc pc = .ok (.getfield 168, 3)) (k : wJ p l e R s m args below meth c nL D vwCl (spX ++ E) q ca A Q kc ks μ (pc + 3) lv (.int (μ.1 1 4) :: st)) : wJ p l e R s m args below meth c nL D vwCl (spX ++ E) q ca A Q kc ks μ pc lv (.ref (q 1) :: st) := wr_getNI pc 4 C hd spX_1 rfl in_X1 (by decide) rfl q197 k
theorem okX0_after : wOkV yX0_after cX0_after 5 (some .int) 2 := ⟨q715, q716, q136, q717, by decide, by decide, by decide +kernel⟩
def gbX0_after_24 (N : Nat)  (x1_ : Int32) (x2_ : Int32) (K : (Int32 → wMem → Option (Int32 × wMem))) (rec : (Int32 → Int32 → wMem → Option (Int32 × wMem))) (x3_ : Int32) (x4_ : Int32) (μ : wMem) : Option (Int32 × wMem) :=
  if (μ.1 1 2) ≤ x4_ then K x3_ μ else wBind (fX0_has N  (μ.1 1 4) x4_ μ) fun v13 μ12 => wLet (fun (v15 : Int32) (v16 : Int32) (μ14 : wMem) => wLet (v16 ||| v15 : Int32) fun x17 => wLet (x4_ + 1 : Int32) fun x18 => rec x17 x18 μ14) fun Jafter71 => wLet (fun (v20 : Int32) (μ19 : wMem) => Jafter71 0 v20 μ19) fun Jafter70 => if v13 = 0 then wBind (fX0_mayBehind N  x1_ x4_ x2_ μ12) fun v24 μ23 => if v24 = 0 then Jafter70 x3_ μ23 else Jafter71 ((1 : Int32) <<< (x4_ &&& 31)) x3_ μ23 else Jafter70 x3_ μ12
def gX0_after_24 (N : Nat)  (x1_ : Int32) (x2_ : Int32) (K : (Int32 → wMem → Option (Int32 × wMem))) : Nat → (Int32 → Int32 → wMem → Option (Int32 × wMem))
  | 0 => fun _ _ _ => none
  | k + 1 => gbX0_after_24 N  x1_ x2_ K (gX0_after_24 N  x1_ x2_ K k)
set_option maxHeartbeats 4000000 in
set_option maxRecDepth 100000 in
theorem tX0_after_24 {p : Program} {l : Launch} {e : Env} {s : State} {m : MethodId} {args : Array Value} {below : List Frame} {meth : Method} {c : Code} {D : va_G} {E : List wCell} {q : Nat → Nat} {ca : wCA} {A : Nat → Prop} (C : wC p ({ frames := 3, cells := 0, slots := 0, locals := 67 } : Room) s m args meth c cX0_after yX0_after.cls 5 (some .int) D vwCl (spX ++ E) q ca A) (N : Nat)   (x1_ : Int32) (x2_ : Int32) (K : (Int32 → wMem → Option (Int32 × wMem))) (r0 : (Int32 × wMem)) (hK : ∀ (y3_ : Int32) (μ : wMem), K y3_ μ = some r0 → wJ p l e ({ frames := 3, cells := 0, slots := 0, locals := 67 } : Room) s m args below meth c 5 D vwCl (spX ++ E) q ca A (wQi ({ frames := 3, cells := 0, slots := 0, locals := 67 } : Room) D vwCl (spX ++ E) q ca below args s A r0) 0 0 μ 79 [(3, .int y3_)] []) : ∀ (k : Nat) (x3_ : Int32) (x4_ : Int32) (μ : wMem), gX0_after_24 N  x1_ x2_ K k x3_ x4_ μ = some r0 → wJ p l e ({ frames := 3, cells := 0, slots := 0, locals := 67 } : Room) s m args below meth c 5 D vwCl (spX ++ E) q ca A (wQi ({ frames := 3, cells := 0, slots := 0, locals := 67 } : Room) D vwCl (spX ++ E) q ca below args s A r0) 0 0 μ 24 [(0, .ref (q 0)), (1, .int x1_), (2, .int x2_), (3, .int x3_), (4, .int x4_)] [] := by
  intro k
  induction k with
  | zero =>
    intro x3_ x4_ μ hf
    cases hf
  | succ k ih =>
    intro x3_ x4_ μ hf
    replace hf : gbX0_after_24 N  x1_ x2_ K (gX0_after_24 N  x1_ x2_ K k) x3_ x4_ μ = some r0 := hf
    unfold gbX0_after_24 at hf
    refine wr_iload 24 C dX0_after_24 4 rfl ?_
    refine wr_aload_n 26 C dX0_after_26 0 rfl rfl ?_
    refine gespX_0_0_X0 27 C dX0_after_27 ?_
    refine gespX_1_2_X0 30 C dX0_after_30 ?_
    refine wr_icmp_ge 33 79 C dX0_after_33 (by decide) (fun c10 => ?_) (fun c10 => ?_)
    · replace hf := o_pos c10 hf
      refine wr_sub [(3, .int x3_)] [3] rfl ?_
      exact hK x3_ μ hf
    · replace hf := o_neg c10 hf
      refine wr_iload_n 36 C dX0_after_36 3 rfl rfl ?_
      refine wr_aload_n 37 C dX0_after_37 0 rfl rfl ?_
      refine gespX_0_0_X0 38 C dX0_after_38 ?_
      refine gespX_1_4_X0 41 C dX0_after_41 ?_
      refine wr_iload 44 C dX0_after_44 4 rfl ?_
      obtain ⟨v13, μ12, h11, hf⟩ := o_bind hf
      refine wr_Si (kc1 := 0) (ks1 := 0) 46 [.int x3_] C dX0_after_46 (tX0_has l N   (μ.1 1 4) x4_ μ (v13, μ12) h11) okX0_has q722 ⟨rfl, rfl, Nat.le_of_ble_eq_true rfl, Nat.le_of_ble_eq_true rfl, Nat.zero_le _, Nat.zero_le _⟩ (Nat.le_of_ble_eq_true rfl) rfl ?_
      obtain ⟨Jafter71, eJafter71, hf⟩ := o_let hf
      have hJafter71 : ∀ (v15 : Int32) (v16 : Int32) (μ14 : wMem), Jafter71 v15 v16 μ14 = some r0 → wJ p l e ({ frames := 3, cells := 0, slots := 0, locals := 67 } : Room) s m args below meth c 5 D vwCl (spX ++ E) q ca A (wQi ({ frames := 3, cells := 0, slots := 0, locals := 67 } : Room) D vwCl (spX ++ E) q ca below args s A r0) 0 0 μ14 71 [(0, .ref (q 0)), (1, .int x1_), (2, .int x2_), (4, .int x4_)] [.int v15, .int v16] := by
        intro v15 v16 μ14 hf
        rw [eJafter71] at hf
        refine wr_ior 71 C dX0_after_71 ?_
        obtain ⟨x17, ex17, hf⟩ := o_let hf
        refine wr_istore_n 72 [(3, .int x17), (0, .ref (q 0)), (1, .int x1_), (2, .int x2_), (4, .int x4_)] C dX0_after_72 ex17 rfl (Nat.le_of_ble_eq_true rfl) rfl ?_
        obtain ⟨x18, ex18, hf⟩ := o_let hf
        refine wr_iinc 73 [(4, .int x18), (3, .int x17), (0, .ref (q 0)), (1, .int x1_), (2, .int x2_)] C dX0_after_73 4 rfl (ex18.trans rfl) (Nat.le_of_ble_eq_true rfl) rfl ?_
        refine wr_goto 76 C dX0_after_76 (tgt := 24) (by decide) ?_
        refine wr_sub [(0, .ref (q 0)), (1, .int x1_), (2, .int x2_), (3, .int x17), (4, .int x18)] [2, 3, 4, 1, 0] rfl ?_
        exact ih x17 x18 μ14 hf
      obtain ⟨Jafter70, eJafter70, hf⟩ := o_let hf
      have hJafter70 : ∀ (v20 : Int32) (μ19 : wMem), Jafter70 v20 μ19 = some r0 → wJ p l e ({ frames := 3, cells := 0, slots := 0, locals := 67 } : Room) s m args below meth c 5 D vwCl (spX ++ E) q ca A (wQi ({ frames := 3, cells := 0, slots := 0, locals := 67 } : Room) D vwCl (spX ++ E) q ca below args s A r0) 0 0 μ19 70 [(0, .ref (q 0)), (1, .int x1_), (2, .int x2_), (4, .int x4_)] [.int v20] := by
        intro v20 μ19 hf
        rw [eJafter70] at hf
        refine wr_iconst 70 C dX0_after_70 (v := 0) rfl ?_
        exact hJafter71 0 v20 μ19 hf
      refine wr_if_ne 49 70 C dX0_after_49 (by decide) (fun c21 => ?_) (fun c21 => ?_)
      · replace hf := o_neg c21 hf
        refine wr_sub [(0, .ref (q 0)), (1, .int x1_), (2, .int x2_), (4, .int x4_)] [0, 1, 2, 4] rfl ?_
        exact hJafter70 x3_ μ12 hf
      · replace hf := o_pos c21 hf
        refine wr_aload_n 52 C dX0_after_52 0 rfl rfl ?_
        refine wr_iload_n 53 C dX0_after_53 1 rfl rfl ?_
        refine wr_iload 54 C dX0_after_54 4 rfl ?_
        refine wr_iload_n 56 C dX0_after_56 2 rfl rfl ?_
        obtain ⟨v24, μ23, h22, hf⟩ := o_bind hf
        refine wr_Vi (kc1 := 0) (ks1 := 0) 57 [.int x3_] C dX0_after_57 (tX0_mayBehind l N   x1_ x4_ x2_ μ12 (v24, μ23) h22) okX0_mayBehind q723 (b := 0) spX_0 rfl ⟨rfl, rfl, Nat.le_of_ble_eq_true rfl, Nat.le_of_ble_eq_true rfl, Nat.zero_le _, Nat.zero_le _⟩ (Nat.le_of_ble_eq_true rfl) rfl ?_
        refine wr_if_eq 60 70 C dX0_after_60 (by decide) (fun c25 => ?_) (fun c25 => ?_)
        · replace hf := o_pos c25 hf
          refine wr_sub [(0, .ref (q 0)), (1, .int x1_), (2, .int x2_), (4, .int x4_)] [0, 1, 2, 4] rfl ?_
          exact hJafter70 x3_ μ23 hf
        · replace hf := o_neg c25 hf
          refine wr_iconst 63 C dX0_after_63 (v := 1) rfl ?_
          refine wr_iload 64 C dX0_after_64 4 rfl ?_
          refine wr_ishl 66 C dX0_after_66 ?_
          refine wr_goto 67 C dX0_after_67 (tgt := 71) (by decide) ?_
          refine wr_sub [(0, .ref (q 0)), (1, .int x1_), (2, .int x2_), (4, .int x4_)] [0, 1, 2, 4] rfl ?_
          exact hJafter71 ((1 : Int32) <<< (x4_ &&& 31)) x3_ μ23 hf
def fX0_after (N : Nat)  (a1 : Int32) (a2 : Int32) (μ : wMem) : Option (Int32 × wMem) :=
  wBind (fX0_isPersonOrNone N  a1 μ) fun v3 μ2 => wLet (fun  (μ4 : wMem) => some ((-2), μ4)) fun Jafter16 => if v3 = 0 then Jafter16  μ2 else wBind (fX0_isPost N  a2 μ2) fun v8 μ7 => if v8 = 0 then Jafter16  μ7 else gX0_after_24 N  a1 a2 (fun (x27 : Int32) (μ26 : wMem) => some (x27, μ26)) N 0 0 μ7
set_option maxHeartbeats 4000000 in
set_option maxRecDepth 100000 in
theorem tX0_after (l : Launch) {D : va_G} {E : List wCell} {q : Nat → Nat} {ca : wCA} (N : Nat)   (a1 : Int32) (a2 : Int32) (μ : wMem) (r0 : (Int32 × wMem)) (hf : fX0_after N  a1 a2 μ = some r0) : wMi l yX0_after cX0_after 5 (some .int) ({ frames := 3, cells := 0, slots := 0, locals := 67 } : Room) D vwCl (spX ++ E) q ca [.ref (q 0), .int a1, .int a2] μ r0 := by
  refine wMi_intro (by decide) (Nat.le_of_ble_eq_true rfl) ?_
  intro p e s m args below meth c A C
  unfold fX0_after at hf
  refine wr_sub [(0, .ref (q 0)), (1, .int a1), (2, .int a2)] [0, 1, 2] rfl ?_
  refine wr_aload_n 0 C dX0_after_0 0 rfl rfl ?_
  refine wr_iload_n 1 C dX0_after_1 1 rfl rfl ?_
  obtain ⟨v3, μ2, h1, hf⟩ := o_bind hf
  refine wr_Vi (kc1 := 0) (ks1 := 0) 2 [] C dX0_after_2 (tX0_isPersonOrNone l N   a1 μ (v3, μ2) h1) okX0_isPersonOrNone q718 (b := 0) spX_0 rfl ⟨rfl, rfl, Nat.le_of_ble_eq_true rfl, Nat.le_of_ble_eq_true rfl, Nat.zero_le _, Nat.zero_le _⟩ (Nat.le_of_ble_eq_true rfl) rfl ?_
  obtain ⟨Jafter16, eJafter16, hf⟩ := o_let hf
  have hJafter16 : ∀  (μ4 : wMem), Jafter16  μ4 = some r0 → wJ p l e ({ frames := 3, cells := 0, slots := 0, locals := 67 } : Room) s m args below meth c 5 D vwCl (spX ++ E) q ca A (wQi ({ frames := 3, cells := 0, slots := 0, locals := 67 } : Room) D vwCl (spX ++ E) q ca below args s A r0) 0 0 μ4 16 [] [] := by
    intro  μ4 hf
    rw [eJafter16] at hf
    refine wr_bipush 16 C dX0_after_16 (v := (-2)) rfl ?_
    exact wr_iret 18 C dX0_after_18 ⟨Nat.zero_le _, Nat.zero_le _⟩ (Option.some.inj hf)
  refine wr_if_eq 5 16 C dX0_after_5 (by decide) (fun c5 => ?_) (fun c5 => ?_)
  · replace hf := o_pos c5 hf
    refine wr_sub [] [] rfl ?_
    exact hJafter16  μ2 hf
  · replace hf := o_neg c5 hf
    refine wr_aload_n 8 C dX0_after_8 0 rfl rfl ?_
    refine wr_iload_n 9 C dX0_after_9 2 rfl rfl ?_
    obtain ⟨v8, μ7, h6, hf⟩ := o_bind hf
    refine wr_Vi (kc1 := 0) (ks1 := 0) 10 [] C dX0_after_10 (tX0_isPost l N   a2 μ2 (v8, μ7) h6) okX0_isPost q706 (b := 0) spX_0 rfl ⟨rfl, rfl, Nat.le_of_ble_eq_true rfl, Nat.le_of_ble_eq_true rfl, Nat.zero_le _, Nat.zero_le _⟩ (Nat.le_of_ble_eq_true rfl) rfl ?_
    refine wr_if_ne 13 19 C dX0_after_13 (by decide) (fun c9 => ?_) (fun c9 => ?_)
    · replace hf := o_neg c9 hf
      refine wr_iconst 19 C dX0_after_19 (v := 0) rfl ?_
      refine wr_istore_n 20 [(3, .int 0), (0, .ref (q 0)), (1, .int a1), (2, .int a2)] C dX0_after_20 rfl rfl (Nat.le_of_ble_eq_true rfl) rfl ?_
      refine wr_iconst 21 C dX0_after_21 (v := 0) rfl ?_
      refine wr_istore 22 [(4, .int 0), (3, .int 0), (0, .ref (q 0)), (1, .int a1), (2, .int a2)] C dX0_after_22 rfl (Nat.le_of_ble_eq_true rfl) rfl ?_
      refine wr_sub [(0, .ref (q 0)), (1, .int a1), (2, .int a2), (3, .int 0), (4, .int 0)] [2, 3, 4, 1, 0] rfl ?_
      refine tX0_after_24 C N   a1 a2 _ r0 (fun x27 μ26 hf => ?_) N 0 0 μ7 hf
      · replace hf := hf
        refine wr_iload_n 79 C dX0_after_79 0 rfl rfl ?_
        exact wr_iret 80 C dX0_after_80 ⟨Nat.zero_le _, Nat.zero_le _⟩ (Option.some.inj hf)
    · replace hf := o_pos c9 hf
      refine wr_sub [] [] rfl ?_
      exact hJafter16  μ7 hf
abbrev cX0_isOneOf : ByteArray := prog_1_method_13_code
def yX0_isOneOf : MethodName := ⟨RX0, "isOneOf", "(II)Z"⟩
def dkwX0_isOneOf_0 : List UInt8 := [26, 133, 9, 27, 4, 100, 133, 184, 0, 103, 172]
abbrev dktX0_isOneOf_0 : List UInt8 := dkwX0_isOneOf_0 ++ []
theorem dksX0_isOneOf_0 : cX0_isOneOf.data.toList.drop 0 = dktX0_isOneOf_0 := by decide +kernel
theorem dX0_isOneOf_0 : decode cX0_isOneOf 0 = .ok (.iload_n 0, 1) := dk_26 (dk_at dksX0_isOneOf_0 0 rfl rfl)
theorem dX0_isOneOf_1 : decode cX0_isOneOf 1 = .ok (.i2l, 1) := dk_133 (dk_at dksX0_isOneOf_0 1 rfl rfl)
theorem dX0_isOneOf_2 : decode cX0_isOneOf 2 = .ok (.lconst 0, 1) := dk_9 (dk_at dksX0_isOneOf_0 2 rfl rfl)
theorem dX0_isOneOf_3 : decode cX0_isOneOf 3 = .ok (.iload_n 1, 1) := dk_27 (dk_at dksX0_isOneOf_0 3 rfl rfl)
theorem dX0_isOneOf_4 : decode cX0_isOneOf 4 = .ok (.iconst 1, 1) := dk_4 (dk_at dksX0_isOneOf_0 4 rfl rfl)
theorem dX0_isOneOf_5 : decode cX0_isOneOf 5 = .ok (.isub, 1) := dk_100 (dk_at dksX0_isOneOf_0 5 rfl rfl)
theorem dX0_isOneOf_6 : decode cX0_isOneOf 6 = .ok (.i2l, 1) := dk_133 (dk_at dksX0_isOneOf_0 6 rfl rfl)
theorem dX0_isOneOf_7 : decode cX0_isOneOf 7 = .ok (.invokestatic 103, 3) := dk_184 0 103 (dk_at dksX0_isOneOf_0 7 rfl rfl)
theorem dX0_isOneOf_10 : decode cX0_isOneOf 10 = .ok (.ireturn, 1) := dk_172 (dk_at dksX0_isOneOf_0 10 rfl rfl)

theorem okX0_isOneOf : wOkS yX0_isOneOf cX0_isOneOf 2 (some .boolean) 2 := ⟨q735, q136, q736, by decide, by decide, by decide +kernel⟩
def fX0_isOneOf (N : Nat)  (a0 : Int32) (a1 : Int32) (μ : wMem) : Option (Int32 × wMem) :=
  wBind (fX0_isIn N  (Int32.toInt64 a0) 0 (Int32.toInt64 (a1 - (1 : Int32))) μ) fun v3 μ2 => wG (ok_b v3) (some (v3, μ2))
set_option maxHeartbeats 4000000 in
set_option maxRecDepth 100000 in
theorem tX0_isOneOf (l : Launch) {D : va_G} {E : List wCell} {q : Nat → Nat} {ca : wCA} (N : Nat)   (a0 : Int32) (a1 : Int32) (μ : wMem) (r0 : (Int32 × wMem)) (hf : fX0_isOneOf N  a0 a1 μ = some r0) : wMi l yX0_isOneOf cX0_isOneOf 2 (some .boolean) ({ frames := 1, cells := 0, slots := 0, locals := 25 } : Room) D vwCl (spX ++ E) q ca [.int a0, .int a1] μ r0 := by
  refine wMi_intro (by decide) (Nat.le_of_ble_eq_true rfl) ?_
  intro p e s m args below meth c A C
  unfold fX0_isOneOf at hf
  refine wr_sub [(0, .int a0), (1, .int a1)] [0, 1] rfl ?_
  refine wr_iload_n 0 C dX0_isOneOf_0 0 rfl rfl ?_
  refine wr_i2l 1 C dX0_isOneOf_1 ?_
  refine wr_lconst 2 C dX0_isOneOf_2 (v := 0) rfl ?_
  refine wr_iload_n 3 C dX0_isOneOf_3 1 rfl rfl ?_
  refine wr_iconst 4 C dX0_isOneOf_4 (v := 1) rfl ?_
  refine wr_isub 5 C dX0_isOneOf_5 ?_
  refine wr_i2l 6 C dX0_isOneOf_6 ?_
  obtain ⟨v3, μ2, h1, hf⟩ := o_bind hf
  refine wr_Si (kc1 := 0) (ks1 := 0) 7 [] C dX0_isOneOf_7 (tX0_isIn l N   (Int32.toInt64 a0) 0 (Int32.toInt64 (a1 - (1 : Int32))) μ (v3, μ2) h1) okX0_isIn q446 ⟨rfl, rfl, Nat.le_of_ble_eq_true rfl, Nat.le_of_ble_eq_true rfl, Nat.zero_le _, Nat.zero_le _⟩ (Nat.le_of_ble_eq_true rfl) rfl ?_
  obtain ⟨g4, hf⟩ := o_g hf
  exact wr_zret 10 C dX0_isOneOf_10 g4 ⟨Nat.zero_le _, Nat.zero_le _⟩ (Option.some.inj hf)
abbrev cX0_asAtFirst : ByteArray := prog_1_method_20_code
def yX0_asAtFirst : MethodName := ⟨RX0, "asAtFirst", "()V"⟩
def dkwX0_asAtFirst_1 : List UInt8 := [180, 0, 24, 4, 2, 79, 177]
abbrev dktX0_asAtFirst_1 : List UInt8 := dkwX0_asAtFirst_1 ++ []
def dkwX0_asAtFirst_0 : List UInt8 := [42, 3, 181, 0, 179, 42, 3, 181, 0, 182, 42, 4, 181, 0, 185, 42, 180, 0, 24, 3, 2, 79, 42]
abbrev dktX0_asAtFirst_0 : List UInt8 := dkwX0_asAtFirst_0 ++ dktX0_asAtFirst_1
theorem dksX0_asAtFirst_0 : cX0_asAtFirst.data.toList.drop 0 = dktX0_asAtFirst_0 := by decide +kernel
theorem dksX0_asAtFirst_1 : cX0_asAtFirst.data.toList.drop 23 = dktX0_asAtFirst_1 := dk_seg dksX0_asAtFirst_0 23 rfl rfl
theorem dX0_asAtFirst_0 : decode cX0_asAtFirst 0 = .ok (.aload_n 0, 1) := dk_42 (dk_at dksX0_asAtFirst_0 0 rfl rfl)
theorem dX0_asAtFirst_1 : decode cX0_asAtFirst 1 = .ok (.iconst 0, 1) := dk_3 (dk_at dksX0_asAtFirst_0 1 rfl rfl)
theorem dX0_asAtFirst_2 : decode cX0_asAtFirst 2 = .ok (.putfield 179, 3) := dk_181 0 179 (dk_at dksX0_asAtFirst_0 2 rfl rfl)
theorem dX0_asAtFirst_5 : decode cX0_asAtFirst 5 = .ok (.aload_n 0, 1) := dk_42 (dk_at dksX0_asAtFirst_0 5 rfl rfl)
theorem dX0_asAtFirst_6 : decode cX0_asAtFirst 6 = .ok (.iconst 0, 1) := dk_3 (dk_at dksX0_asAtFirst_0 6 rfl rfl)
theorem dX0_asAtFirst_7 : decode cX0_asAtFirst 7 = .ok (.putfield 182, 3) := dk_181 0 182 (dk_at dksX0_asAtFirst_0 7 rfl rfl)
theorem dX0_asAtFirst_10 : decode cX0_asAtFirst 10 = .ok (.aload_n 0, 1) := dk_42 (dk_at dksX0_asAtFirst_0 10 rfl rfl)
theorem dX0_asAtFirst_11 : decode cX0_asAtFirst 11 = .ok (.iconst 1, 1) := dk_4 (dk_at dksX0_asAtFirst_0 11 rfl rfl)
theorem dX0_asAtFirst_12 : decode cX0_asAtFirst 12 = .ok (.putfield 185, 3) := dk_181 0 185 (dk_at dksX0_asAtFirst_0 12 rfl rfl)
theorem dX0_asAtFirst_15 : decode cX0_asAtFirst 15 = .ok (.aload_n 0, 1) := dk_42 (dk_at dksX0_asAtFirst_0 15 rfl rfl)
theorem dX0_asAtFirst_16 : decode cX0_asAtFirst 16 = .ok (.getfield 24, 3) := dk_180 0 24 (dk_at dksX0_asAtFirst_0 16 rfl rfl)
theorem dX0_asAtFirst_19 : decode cX0_asAtFirst 19 = .ok (.iconst 0, 1) := dk_3 (dk_at dksX0_asAtFirst_0 19 rfl rfl)
theorem dX0_asAtFirst_20 : decode cX0_asAtFirst 20 = .ok (.iconst (-1), 1) := dk_2 (dk_at dksX0_asAtFirst_0 20 rfl rfl)
theorem dX0_asAtFirst_21 : decode cX0_asAtFirst 21 = .ok (.iastore, 1) := dk_79 (dk_at dksX0_asAtFirst_0 21 rfl rfl)
theorem dX0_asAtFirst_22 : decode cX0_asAtFirst 22 = .ok (.aload_n 0, 1) := dk_42 (dk_at dksX0_asAtFirst_0 22 rfl rfl)
theorem dX0_asAtFirst_23 : decode cX0_asAtFirst 23 = .ok (.getfield 24, 3) := dk_180 0 24 (dk_at dksX0_asAtFirst_1 0 rfl rfl)
theorem dX0_asAtFirst_26 : decode cX0_asAtFirst 26 = .ok (.iconst 1, 1) := dk_4 (dk_at dksX0_asAtFirst_1 3 rfl rfl)
theorem dX0_asAtFirst_27 : decode cX0_asAtFirst 27 = .ok (.iconst (-1), 1) := dk_2 (dk_at dksX0_asAtFirst_1 4 rfl rfl)
theorem dX0_asAtFirst_28 : decode cX0_asAtFirst 28 = .ok (.iastore, 1) := dk_79 (dk_at dksX0_asAtFirst_1 5 rfl rfl)
theorem dX0_asAtFirst_29 : decode cX0_asAtFirst 29 = .ok (.return_, 1) := dk_177 (dk_at dksX0_asAtFirst_1 6 rfl rfl)
theorem puspX_0_5_X0 {p : Program} {l : Launch} {e : Env} {R : Room} {s : State} {m : MethodId} {args : Array Value} {below : List Frame} {meth : Method} {c : Code} {cc : ByteArray} {nL : Nat} {ret : Option FieldType} {D : va_G} {E : List wCell} {q : Nat → Nat} {ca : wCA} {A : Nat → Prop} {Q : State → Prop} {kc ks : Nat} {μ : wMem} {lv : List (Nat × Value)} {st : List Value} {v : Int32} {μ1 : wMem} (pc : Nat) (C : wC p R s m args meth c cc "OnePassport" nL ret D vwCl (spX ++ E) q ca A) (hd : decode cc pc = .ok (.putfield 179, 3)) (hμ : μ1 = wSI μ 0 5 v) (k : wJ p l e R s m args below meth c nL D vwCl (spX ++ E) q ca A Q kc ks μ1 (pc + 3) lv st) : wJ p l e R s m args below meth c nL D vwCl (spX ++ E) q ca A Q kc ks μ pc lv (.int v :: .ref (q 0) :: st) := wr_putI pc 5 C hd spX_0 rfl in_X0 tyX0 tyX0_ok nmX0 (by decide) rfl q336 rfl rfl hμ k
theorem puspX_0_6_X0 {p : Program} {l : Launch} {e : Env} {R : Room} {s : State} {m : MethodId} {args : Array Value} {below : List Frame} {meth : Method} {c : Code} {cc : ByteArray} {nL : Nat} {ret : Option FieldType} {D : va_G} {E : List wCell} {q : Nat → Nat} {ca : wCA} {A : Nat → Prop} {Q : State → Prop} {kc ks : Nat} {μ : wMem} {lv : List (Nat × Value)} {st : List Value} {v : Int32} {μ1 : wMem} (pc : Nat) (C : wC p R s m args meth c cc "OnePassport" nL ret D vwCl (spX ++ E) q ca A) (hd : decode cc pc = .ok (.putfield 182, 3)) (hμ : μ1 = wSI μ 0 6 v) (k : wJ p l e R s m args below meth c nL D vwCl (spX ++ E) q ca A Q kc ks μ1 (pc + 3) lv st) : wJ p l e R s m args below meth c nL D vwCl (spX ++ E) q ca A Q kc ks μ pc lv (.int v :: .ref (q 0) :: st) := wr_putI pc 6 C hd spX_0 rfl in_X0 tyX0 tyX0_ok nmX0 (by decide) rfl q337 rfl rfl hμ k
theorem puspX_0_7_X0 {p : Program} {l : Launch} {e : Env} {R : Room} {s : State} {m : MethodId} {args : Array Value} {below : List Frame} {meth : Method} {c : Code} {cc : ByteArray} {nL : Nat} {ret : Option FieldType} {D : va_G} {E : List wCell} {q : Nat → Nat} {ca : wCA} {A : Nat → Prop} {Q : State → Prop} {kc ks : Nat} {μ : wMem} {lv : List (Nat × Value)} {st : List Value} {v : Int32} {μ1 : wMem} (pc : Nat) (C : wC p R s m args meth c cc "OnePassport" nL ret D vwCl (spX ++ E) q ca A) (hd : decode cc pc = .ok (.putfield 185, 3)) (hμ : μ1 = wSI μ 0 7 v) (k : wJ p l e R s m args below meth c nL D vwCl (spX ++ E) q ca A Q kc ks μ1 (pc + 3) lv st) : wJ p l e R s m args below meth c nL D vwCl (spX ++ E) q ca A Q kc ks μ pc lv (.int v :: .ref (q 0) :: st) := wr_putI pc 7 C hd spX_0 rfl in_X0 tyX0 tyX0_ok nmX0 (by decide) rfl q338 rfl rfl hμ k
theorem gespX_0_8_X0 {p : Program} {l : Launch} {e : Env} {R : Room} {s : State} {m : MethodId} {args : Array Value} {below : List Frame} {meth : Method} {c : Code} {cc : ByteArray} {nL : Nat} {ret : Option FieldType} {D : va_G} {E : List wCell} {q : Nat → Nat} {ca : wCA} {A : Nat → Prop} {Q : State → Prop} {kc ks : Nat} {μ : wMem} {lv : List (Nat × Value)} {st : List Value} (pc : Nat) (C : wC p R s m args meth c cc "OnePassport" nL ret D vwCl (spX ++ E) q ca A) (hd : decode cc pc = .ok (.getfield 24, 3)) (k : wJ p l e R s m args below meth c nL D vwCl (spX ++ E) q ca A Q kc ks μ (pc + 3) lv (.ref (q 9) :: st)) : wJ p l e R s m args below meth c nL D vwCl (spX ++ E) q ca A Q kc ks μ pc lv (.ref (q 0) :: st) := wr_getR pc 8 C hd spX_0 rfl in_X0 (by decide) rfl q339 k
theorem okX0_asAtFirst : wOkV yX0_asAtFirst cX0_asAtFirst 1 none 0 := ⟨q743, qs20, q136, q744, by decide, by decide, by decide +kernel⟩
def fX0_asAtFirst (N : Nat)   (μ : wMem) : Option wMem :=
  wLet (wSI μ 0 5 (0 : Int32)) fun μ1 => wLet (wSI μ1 0 6 (0 : Int32)) fun μ2 => wLet (wSI μ2 0 7 (1 : Int32)) fun μ3 => wG (ok_in (0 : Int32) 2) (wLet (wSI μ3 9 (Int32.toNatClampNeg (0 : Int32)) (-1 : Int32)) fun μ5 => wG (ok_in (1 : Int32) 2) (wLet (wSI μ5 9 (Int32.toNatClampNeg (1 : Int32)) (-1 : Int32)) fun μ7 => some μ7))
set_option maxHeartbeats 4000000 in
set_option maxRecDepth 100000 in
theorem tX0_asAtFirst (l : Launch) {D : va_G} {E : List wCell} {q : Nat → Nat} {ca : wCA} (N : Nat)    (μ : wMem) (r0 : wMem) (hf : fX0_asAtFirst N   μ = some r0) : wMv l yX0_asAtFirst cX0_asAtFirst 1 none ({ frames := 0, cells := 0, slots := 0, locals := 0 } : Room) D vwCl (spX ++ E) q ca [.ref (q 0)] μ r0 := by
  refine wMv_intro (by decide) (Nat.le_of_ble_eq_true rfl) ?_
  intro p e s m args below meth c A C
  unfold fX0_asAtFirst at hf
  refine wr_sub [(0, .ref (q 0))] [0] rfl ?_
  refine wr_aload_n 0 C dX0_asAtFirst_0 0 rfl rfl ?_
  refine wr_iconst 1 C dX0_asAtFirst_1 (v := 0) rfl ?_
  obtain ⟨μ1, eμ1, hf⟩ := o_let hf
  refine puspX_0_5_X0 2 C dX0_asAtFirst_2 eμ1 ?_
  refine wr_aload_n 5 C dX0_asAtFirst_5 0 rfl rfl ?_
  refine wr_iconst 6 C dX0_asAtFirst_6 (v := 0) rfl ?_
  obtain ⟨μ2, eμ2, hf⟩ := o_let hf
  refine puspX_0_6_X0 7 C dX0_asAtFirst_7 eμ2 ?_
  refine wr_aload_n 10 C dX0_asAtFirst_10 0 rfl rfl ?_
  refine wr_iconst 11 C dX0_asAtFirst_11 (v := 1) rfl ?_
  obtain ⟨μ3, eμ3, hf⟩ := o_let hf
  refine puspX_0_7_X0 12 C dX0_asAtFirst_12 eμ3 ?_
  refine wr_aload_n 15 C dX0_asAtFirst_15 0 rfl rfl ?_
  refine gespX_0_8_X0 16 C dX0_asAtFirst_16 ?_
  refine wr_iconst 19 C dX0_asAtFirst_19 (v := 0) rfl ?_
  refine wr_iconst 20 C dX0_asAtFirst_20 (v := (-1)) rfl ?_
  obtain ⟨g4, hf⟩ := o_g hf
  obtain ⟨μ5, eμ5, hf⟩ := o_let hf
  refine wr_iast 21 C dX0_asAtFirst_21 spX_9 g4 eμ5 ?_
  refine wr_aload_n 22 C dX0_asAtFirst_22 0 rfl rfl ?_
  refine gespX_0_8_X0 23 C dX0_asAtFirst_23 ?_
  refine wr_iconst 26 C dX0_asAtFirst_26 (v := 1) rfl ?_
  refine wr_iconst 27 C dX0_asAtFirst_27 (v := (-1)) rfl ?_
  obtain ⟨g6, hf⟩ := o_g hf
  obtain ⟨μ7, eμ7, hf⟩ := o_let hf
  refine wr_iast 28 C dX0_asAtFirst_28 spX_9 g6 eμ7 ?_
  exact wr_vret 29 C dX0_asAtFirst_29 ⟨Nat.zero_le _, Nat.zero_le _⟩ (Option.some.inj hf)
