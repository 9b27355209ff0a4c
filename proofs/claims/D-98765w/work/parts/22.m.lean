set_option maxRecDepth 100000
abbrev cX0_fitsMarks : ByteArray := prog_1_method_23_code
def yX0_fitsMarks : MethodName := ⟨RX0, "fitsMarks", "(I)Z"⟩
def dkwX0_fitsMarks_2 : List UInt8 := [62, 132, 4, 1, 167, 255, 217, 4, 172]
abbrev dktX0_fitsMarks_2 : List UInt8 := dkwX0_fitsMarks_2 ++ []
def dkwX0_fitsMarks_1 : List UInt8 := [162, 0, 31, 29, 4, 164, 0, 26, 29, 5, 112, 28, 160, 0, 5, 3, 172, 29, 5, 112, 61, 29, 5, 108]
abbrev dktX0_fitsMarks_1 : List UInt8 := dkwX0_fitsMarks_1 ++ dktX0_fitsMarks_2
def dkwX0_fitsMarks_0 : List UInt8 := [42, 180, 0, 182, 61, 42, 180, 0, 185, 62, 3, 54, 4, 21, 4, 42, 180, 0, 12, 180, 0, 188, 27, 46]
abbrev dktX0_fitsMarks_0 : List UInt8 := dkwX0_fitsMarks_0 ++ dktX0_fitsMarks_1
theorem dksX0_fitsMarks_0 : cX0_fitsMarks.data.toList.drop 0 = dktX0_fitsMarks_0 := by decide +kernel
theorem dksX0_fitsMarks_1 : cX0_fitsMarks.data.toList.drop 24 = dktX0_fitsMarks_1 := dk_seg dksX0_fitsMarks_0 24 rfl rfl
theorem dksX0_fitsMarks_2 : cX0_fitsMarks.data.toList.drop 48 = dktX0_fitsMarks_2 := dk_seg dksX0_fitsMarks_1 24 rfl rfl
theorem dX0_fitsMarks_0 : decode cX0_fitsMarks 0 = .ok (.aload_n 0, 1) := dk_42 (dk_at dksX0_fitsMarks_0 0 rfl rfl)
theorem dX0_fitsMarks_1 : decode cX0_fitsMarks 1 = .ok (.getfield 182, 3) := dk_180 0 182 (dk_at dksX0_fitsMarks_0 1 rfl rfl)
theorem dX0_fitsMarks_4 : decode cX0_fitsMarks 4 = .ok (.istore_n 2, 1) := dk_61 (dk_at dksX0_fitsMarks_0 4 rfl rfl)
theorem dX0_fitsMarks_5 : decode cX0_fitsMarks 5 = .ok (.aload_n 0, 1) := dk_42 (dk_at dksX0_fitsMarks_0 5 rfl rfl)
theorem dX0_fitsMarks_6 : decode cX0_fitsMarks 6 = .ok (.getfield 185, 3) := dk_180 0 185 (dk_at dksX0_fitsMarks_0 6 rfl rfl)
theorem dX0_fitsMarks_9 : decode cX0_fitsMarks 9 = .ok (.istore_n 3, 1) := dk_62 (dk_at dksX0_fitsMarks_0 9 rfl rfl)
theorem dX0_fitsMarks_10 : decode cX0_fitsMarks 10 = .ok (.iconst 0, 1) := dk_3 (dk_at dksX0_fitsMarks_0 10 rfl rfl)
theorem dX0_fitsMarks_11 : decode cX0_fitsMarks 11 = .ok (.istore 4, 2) := dk_54 4 (dk_at dksX0_fitsMarks_0 11 rfl rfl)
theorem dX0_fitsMarks_13 : decode cX0_fitsMarks 13 = .ok (.iload 4, 2) := dk_21 4 (dk_at dksX0_fitsMarks_0 13 rfl rfl)
theorem dX0_fitsMarks_15 : decode cX0_fitsMarks 15 = .ok (.aload_n 0, 1) := dk_42 (dk_at dksX0_fitsMarks_0 15 rfl rfl)
theorem dX0_fitsMarks_16 : decode cX0_fitsMarks 16 = .ok (.getfield 12, 3) := dk_180 0 12 (dk_at dksX0_fitsMarks_0 16 rfl rfl)
theorem dX0_fitsMarks_19 : decode cX0_fitsMarks 19 = .ok (.getfield 188, 3) := dk_180 0 188 (dk_at dksX0_fitsMarks_0 19 rfl rfl)
theorem dX0_fitsMarks_22 : decode cX0_fitsMarks 22 = .ok (.iload_n 1, 1) := dk_27 (dk_at dksX0_fitsMarks_0 22 rfl rfl)
theorem dX0_fitsMarks_23 : decode cX0_fitsMarks 23 = .ok (.iaload, 1) := dk_46 (dk_at dksX0_fitsMarks_0 23 rfl rfl)
theorem dX0_fitsMarks_24 : decode cX0_fitsMarks 24 = .ok (.if_icmp .ge 31, 3) := dk_162 0 31 (dk_at dksX0_fitsMarks_1 0 rfl rfl)
theorem dX0_fitsMarks_27 : decode cX0_fitsMarks 27 = .ok (.iload_n 3, 1) := dk_29 (dk_at dksX0_fitsMarks_1 3 rfl rfl)
theorem dX0_fitsMarks_28 : decode cX0_fitsMarks 28 = .ok (.iconst 1, 1) := dk_4 (dk_at dksX0_fitsMarks_1 4 rfl rfl)
theorem dX0_fitsMarks_29 : decode cX0_fitsMarks 29 = .ok (.if_icmp .le 26, 3) := dk_164 0 26 (dk_at dksX0_fitsMarks_1 5 rfl rfl)
theorem dX0_fitsMarks_32 : decode cX0_fitsMarks 32 = .ok (.iload_n 3, 1) := dk_29 (dk_at dksX0_fitsMarks_1 8 rfl rfl)
theorem dX0_fitsMarks_33 : decode cX0_fitsMarks 33 = .ok (.iconst 2, 1) := dk_5 (dk_at dksX0_fitsMarks_1 9 rfl rfl)
theorem dX0_fitsMarks_34 : decode cX0_fitsMarks 34 = .ok (.irem, 1) := dk_112 (dk_at dksX0_fitsMarks_1 10 rfl rfl)
theorem dX0_fitsMarks_35 : decode cX0_fitsMarks 35 = .ok (.iload_n 2, 1) := dk_28 (dk_at dksX0_fitsMarks_1 11 rfl rfl)
theorem dX0_fitsMarks_36 : decode cX0_fitsMarks 36 = .ok (.if_icmp .ne 5, 3) := dk_160 0 5 (dk_at dksX0_fitsMarks_1 12 rfl rfl)
theorem dX0_fitsMarks_39 : decode cX0_fitsMarks 39 = .ok (.iconst 0, 1) := dk_3 (dk_at dksX0_fitsMarks_1 15 rfl rfl)
theorem dX0_fitsMarks_40 : decode cX0_fitsMarks 40 = .ok (.ireturn, 1) := dk_172 (dk_at dksX0_fitsMarks_1 16 rfl rfl)
theorem dX0_fitsMarks_41 : decode cX0_fitsMarks 41 = .ok (.iload_n 3, 1) := dk_29 (dk_at dksX0_fitsMarks_1 17 rfl rfl)
theorem dX0_fitsMarks_42 : decode cX0_fitsMarks 42 = .ok (.iconst 2, 1) := dk_5 (dk_at dksX0_fitsMarks_1 18 rfl rfl)
theorem dX0_fitsMarks_43 : decode cX0_fitsMarks 43 = .ok (.irem, 1) := dk_112 (dk_at dksX0_fitsMarks_1 19 rfl rfl)
theorem dX0_fitsMarks_44 : decode cX0_fitsMarks 44 = .ok (.istore_n 2, 1) := dk_61 (dk_at dksX0_fitsMarks_1 20 rfl rfl)
theorem dX0_fitsMarks_45 : decode cX0_fitsMarks 45 = .ok (.iload_n 3, 1) := dk_29 (dk_at dksX0_fitsMarks_1 21 rfl rfl)
theorem dX0_fitsMarks_46 : decode cX0_fitsMarks 46 = .ok (.iconst 2, 1) := dk_5 (dk_at dksX0_fitsMarks_1 22 rfl rfl)
theorem dX0_fitsMarks_47 : decode cX0_fitsMarks 47 = .ok (.idiv, 1) := dk_108 (dk_at dksX0_fitsMarks_1 23 rfl rfl)
theorem dX0_fitsMarks_48 : decode cX0_fitsMarks 48 = .ok (.istore_n 3, 1) := dk_62 (dk_at dksX0_fitsMarks_2 0 rfl rfl)
theorem dX0_fitsMarks_49 : decode cX0_fitsMarks 49 = .ok (.iinc 4 1, 3) := dk_132 4 1 (dk_at dksX0_fitsMarks_2 1 rfl rfl)
theorem dX0_fitsMarks_52 : decode cX0_fitsMarks 52 = .ok (.goto (-39), 3) := dk_167 255 217 (dk_at dksX0_fitsMarks_2 4 rfl rfl)
theorem dX0_fitsMarks_55 : decode cX0_fitsMarks 55 = .ok (.iconst 1, 1) := dk_4 (dk_at dksX0_fitsMarks_2 7 rfl rfl)
theorem dX0_fitsMarks_56 : decode cX0_fitsMarks 56 = .ok (.ireturn, 1) := dk_172 (dk_at dksX0_fitsMarks_2 8 rfl rfl)

theorem okX0_fitsMarks : wOkV yX0_fitsMarks cX0_fitsMarks 5 (some .boolean) 1 := ⟨q804, qs28, q136, q805, by decide, by decide, by decide +kernel⟩
def gbX0_fitsMarks_13 (N : Nat)  (x1_ : Int32) (K : (wMem → Option (Int32 × wMem))) (rec : (Int32 → Int32 → Int32 → wMem → Option (Int32 × wMem))) (x2_ : Int32) (x3_ : Int32) (x4_ : Int32) (μ : wMem) : Option (Int32 × wMem) :=
  wG (ok_in x1_ 2) (if (μ.1 6 (Int32.toNatClampNeg x1_)) ≤ x4_ then K  μ else if x3_ ≤ (1 : Int32) then K  μ else if (x3_ - x3_ / (2 : Int32) * (2 : Int32)) = x2_ then some (0, μ) else wLet (x3_ - x3_ / (2 : Int32) * (2 : Int32) : Int32) fun x7 => wLet (x3_ / (2 : Int32) : Int32) fun x8 => wLet (x4_ + 1 : Int32) fun x9 => rec x7 x8 x9 μ)
def gX0_fitsMarks_13 (N : Nat)  (x1_ : Int32) (K : (wMem → Option (Int32 × wMem))) : Nat → (Int32 → Int32 → Int32 → wMem → Option (Int32 × wMem))
  | 0 => fun _ _ _ _ => none
  | k + 1 => gbX0_fitsMarks_13 N  x1_ K (gX0_fitsMarks_13 N  x1_ K k)
set_option maxHeartbeats 4000000 in
set_option maxRecDepth 100000 in
theorem tX0_fitsMarks_13 {p : Program} {l : Launch} {e : Env} {s : State} {m : MethodId} {args : Array Value} {below : List Frame} {meth : Method} {c : Code} {D : va_G} {E : List wCell} {q : Nat → Nat} {ca : wCA} {A : Nat → Prop} (C : wC p ({ frames := 0, cells := 0, slots := 0, locals := 0 } : Room) s m args meth c cX0_fitsMarks yX0_fitsMarks.cls 5 (some .boolean) D vwCl (spX ++ E) q ca A) (N : Nat)   (x1_ : Int32) (K : (wMem → Option (Int32 × wMem))) (r0 : (Int32 × wMem)) (hK : ∀  (μ : wMem), K  μ = some r0 → wJ p l e ({ frames := 0, cells := 0, slots := 0, locals := 0 } : Room) s m args below meth c 5 D vwCl (spX ++ E) q ca A (wQi ({ frames := 0, cells := 0, slots := 0, locals := 0 } : Room) D vwCl (spX ++ E) q ca below args s A r0) 0 0 μ 55 [] []) : ∀ (k : Nat) (x2_ : Int32) (x3_ : Int32) (x4_ : Int32) (μ : wMem), gX0_fitsMarks_13 N  x1_ K k x2_ x3_ x4_ μ = some r0 → wJ p l e ({ frames := 0, cells := 0, slots := 0, locals := 0 } : Room) s m args below meth c 5 D vwCl (spX ++ E) q ca A (wQi ({ frames := 0, cells := 0, slots := 0, locals := 0 } : Room) D vwCl (spX ++ E) q ca below args s A r0) 0 0 μ 13 [(0, .ref (q 0)), (1, .int x1_), (2, .int x2_), (3, .int x3_), (4, .int x4_)] [] := by
  intro k
  induction k with
  | zero =>
    intro x2_ x3_ x4_ μ hf
    cases hf
  | succ k ih =>
    intro x2_ x3_ x4_ μ hf
    replace hf : gbX0_fitsMarks_13 N  x1_ K (gX0_fitsMarks_13 N  x1_ K k) x2_ x3_ x4_ μ = some r0 := hf
    unfold gbX0_fitsMarks_13 at hf
    refine wr_iload 13 C dX0_fitsMarks_13 4 rfl ?_
    refine wr_aload_n 15 C dX0_fitsMarks_15 0 rfl rfl ?_
    refine gespX_0_0_X0 16 C dX0_fitsMarks_16 ?_
    refine gespX_1_12_X0 19 C dX0_fitsMarks_19 ?_
    refine wr_iload_n 22 C dX0_fitsMarks_22 1 rfl rfl ?_
    obtain ⟨g3, hf⟩ := o_g hf
    refine wr_iald 23 C dX0_fitsMarks_23 spX_6 g3 ?_
    refine wr_icmp_ge 24 55 C dX0_fitsMarks_24 (by decide) (fun c4 => ?_) (fun c4 => ?_)
    · replace hf := o_pos c4 hf
      refine wr_sub [] [] rfl ?_
      exact hK  μ hf
    · replace hf := o_neg c4 hf
      refine wr_iload_n 27 C dX0_fitsMarks_27 3 rfl rfl ?_
      refine wr_iconst 28 C dX0_fitsMarks_28 (v := 1) rfl ?_
      refine wr_icmp_le 29 55 C dX0_fitsMarks_29 (by decide) (fun c5 => ?_) (fun c5 => ?_)
      · replace hf := o_pos c5 hf
        refine wr_sub [] [] rfl ?_
        exact hK  μ hf
      · replace hf := o_neg c5 hf
        refine wr_iload_n 32 C dX0_fitsMarks_32 3 rfl rfl ?_
        refine wr_iconst 33 C dX0_fitsMarks_33 (v := 2) rfl ?_
        refine wr_irem 34 C dX0_fitsMarks_34 (by decide) ?_
        refine wr_iload_n 35 C dX0_fitsMarks_35 2 rfl rfl ?_
        refine wr_icmp_ne 36 41 C dX0_fitsMarks_36 (by decide) (fun c6 => ?_) (fun c6 => ?_)
        · replace hf := o_neg c6 hf
          refine wr_iload_n 41 C dX0_fitsMarks_41 3 rfl rfl ?_
          refine wr_iconst 42 C dX0_fitsMarks_42 (v := 2) rfl ?_
          refine wr_irem 43 C dX0_fitsMarks_43 (by decide) ?_
          obtain ⟨x7, ex7, hf⟩ := o_let hf
          refine wr_istore_n 44 [(2, .int x7), (0, .ref (q 0)), (1, .int x1_), (3, .int x3_), (4, .int x4_)] C dX0_fitsMarks_44 ex7 rfl (Nat.le_of_ble_eq_true rfl) rfl ?_
          refine wr_iload_n 45 C dX0_fitsMarks_45 3 rfl rfl ?_
          refine wr_iconst 46 C dX0_fitsMarks_46 (v := 2) rfl ?_
          refine wr_idiv 47 C dX0_fitsMarks_47 (by decide) ?_
          obtain ⟨x8, ex8, hf⟩ := o_let hf
          refine wr_istore_n 48 [(3, .int x8), (2, .int x7), (0, .ref (q 0)), (1, .int x1_), (4, .int x4_)] C dX0_fitsMarks_48 ex8 rfl (Nat.le_of_ble_eq_true rfl) rfl ?_
          obtain ⟨x9, ex9, hf⟩ := o_let hf
          refine wr_iinc 49 [(4, .int x9), (3, .int x8), (2, .int x7), (0, .ref (q 0)), (1, .int x1_)] C dX0_fitsMarks_49 4 rfl (ex9.trans rfl) (Nat.le_of_ble_eq_true rfl) rfl ?_
          refine wr_goto 52 C dX0_fitsMarks_52 (tgt := 13) (by decide) ?_
          refine wr_sub [(0, .ref (q 0)), (1, .int x1_), (2, .int x7), (3, .int x8), (4, .int x9)] [3, 4, 2, 1, 0] rfl ?_
          exact ih x7 x8 x9 μ hf
        · replace hf := o_pos c6 hf
          refine wr_iconst 39 C dX0_fitsMarks_39 (v := 0) rfl ?_
          exact wr_zret 40 C dX0_fitsMarks_40 rfl ⟨Nat.zero_le _, Nat.zero_le _⟩ (Option.some.inj hf)
def fX0_fitsMarks (N : Nat)  (a1 : Int32) (μ : wMem) : Option (Int32 × wMem) :=
  wLet (μ.1 0 6 : Int32) fun x1 => wLet (μ.1 0 7 : Int32) fun x2 => gX0_fitsMarks_13 N  a1 (fun  (μ10 : wMem) => some (1, μ10)) N x1 x2 0 μ
set_option maxHeartbeats 4000000 in
set_option maxRecDepth 100000 in
theorem tX0_fitsMarks (l : Launch) {D : va_G} {E : List wCell} {q : Nat → Nat} {ca : wCA} (N : Nat)   (a1 : Int32) (μ : wMem) (r0 : (Int32 × wMem)) (hf : fX0_fitsMarks N  a1 μ = some r0) : wMi l yX0_fitsMarks cX0_fitsMarks 5 (some .boolean) ({ frames := 0, cells := 0, slots := 0, locals := 0 } : Room) D vwCl (spX ++ E) q ca [.ref (q 0), .int a1] μ r0 := by
  refine wMi_intro (by decide) (Nat.le_of_ble_eq_true rfl) ?_
  intro p e s m args below meth c A C
  unfold fX0_fitsMarks at hf
  refine wr_sub [(0, .ref (q 0)), (1, .int a1)] [0, 1] rfl ?_
  refine wr_aload_n 0 C dX0_fitsMarks_0 0 rfl rfl ?_
  refine gespX_0_6_X0 1 C dX0_fitsMarks_1 ?_
  obtain ⟨x1, ex1, hf⟩ := o_let hf
  refine wr_istore_n 4 [(2, .int x1), (0, .ref (q 0)), (1, .int a1)] C dX0_fitsMarks_4 ex1 rfl (Nat.le_of_ble_eq_true rfl) rfl ?_
  refine wr_aload_n 5 C dX0_fitsMarks_5 1 rfl rfl ?_
  refine gespX_0_7_X0 6 C dX0_fitsMarks_6 ?_
  obtain ⟨x2, ex2, hf⟩ := o_let hf
  refine wr_istore_n 9 [(3, .int x2), (2, .int x1), (0, .ref (q 0)), (1, .int a1)] C dX0_fitsMarks_9 ex2 rfl (Nat.le_of_ble_eq_true rfl) rfl ?_
  refine wr_iconst 10 C dX0_fitsMarks_10 (v := 0) rfl ?_
  refine wr_istore 11 [(4, .int 0), (3, .int x2), (2, .int x1), (0, .ref (q 0)), (1, .int a1)] C dX0_fitsMarks_11 rfl (Nat.le_of_ble_eq_true rfl) rfl ?_
  refine wr_sub [(0, .ref (q 0)), (1, .int a1), (2, .int x1), (3, .int x2), (4, .int 0)] [3, 4, 2, 1, 0] rfl ?_
  refine tX0_fitsMarks_13 C N   a1 _ r0 (fun  μ10 hf => ?_) N x1 x2 0 μ hf
  · replace hf := hf
    refine wr_iconst 55 C dX0_fitsMarks_55 (v := 1) rfl ?_
    exact wr_zret 56 C dX0_fitsMarks_56 rfl ⟨Nat.zero_le _, Nat.zero_le _⟩ (Option.some.inj hf)
abbrev cX0_whyNot : ByteArray := prog_1_method_24_code
def yX0_whyNot : MethodName := ⟨RX0, "whyNot", "(III)I"⟩
def dkwX0_whyNot_4 : List UInt8 := [3, 167, 0, 4, 8, 172]
abbrev dktX0_whyNot_4 : List UInt8 := dkwX0_whyNot_4 ++ []
def dkwX0_whyNot_3 : List UInt8 := [42, 180, 0, 24, 29, 46, 27, 29, 182, 0, 175, 154, 0, 5, 7, 172, 42, 29, 182, 0, 191, 153, 0, 7]
abbrev dktX0_whyNot_3 : List UInt8 := dkwX0_whyNot_3 ++ dktX0_whyNot_4
def dkwX0_whyNot_2 : List UInt8 := [184, 0, 171, 153, 0, 18, 42, 180, 0, 179, 28, 122, 4, 126, 42, 180, 0, 182, 159, 0, 5, 6, 172, 42]
abbrev dktX0_whyNot_2 : List UInt8 := dkwX0_whyNot_2 ++ dktX0_whyNot_3
def dkwX0_whyNot_1 : List UInt8 := [27, 184, 0, 171, 153, 0, 5, 5, 172, 28, 2, 159, 0, 34, 42, 180, 0, 12, 180, 0, 168, 28]
abbrev dktX0_whyNot_1 : List UInt8 := dkwX0_whyNot_1 ++ dktX0_whyNot_2
def dkwX0_whyNot_0 : List UInt8 := [42, 180, 0, 179, 27, 122, 4, 126, 42, 180, 0, 182, 159, 0, 5, 4, 172, 42, 180, 0, 12, 180, 0, 168]
abbrev dktX0_whyNot_0 : List UInt8 := dkwX0_whyNot_0 ++ dktX0_whyNot_1
theorem dksX0_whyNot_0 : cX0_whyNot.data.toList.drop 0 = dktX0_whyNot_0 := by decide +kernel
theorem dksX0_whyNot_1 : cX0_whyNot.data.toList.drop 24 = dktX0_whyNot_1 := dk_seg dksX0_whyNot_0 24 rfl rfl
theorem dksX0_whyNot_2 : cX0_whyNot.data.toList.drop 46 = dktX0_whyNot_2 := dk_seg dksX0_whyNot_1 22 rfl rfl
theorem dksX0_whyNot_3 : cX0_whyNot.data.toList.drop 70 = dktX0_whyNot_3 := dk_seg dksX0_whyNot_2 24 rfl rfl
theorem dksX0_whyNot_4 : cX0_whyNot.data.toList.drop 94 = dktX0_whyNot_4 := dk_seg dksX0_whyNot_3 24 rfl rfl
theorem dX0_whyNot_0 : decode cX0_whyNot 0 = .ok (.aload_n 0, 1) := dk_42 (dk_at dksX0_whyNot_0 0 rfl rfl)
theorem dX0_whyNot_1 : decode cX0_whyNot 1 = .ok (.getfield 179, 3) := dk_180 0 179 (dk_at dksX0_whyNot_0 1 rfl rfl)
theorem dX0_whyNot_4 : decode cX0_whyNot 4 = .ok (.iload_n 1, 1) := dk_27 (dk_at dksX0_whyNot_0 4 rfl rfl)
theorem dX0_whyNot_5 : decode cX0_whyNot 5 = .ok (.ishr, 1) := dk_122 (dk_at dksX0_whyNot_0 5 rfl rfl)
theorem dX0_whyNot_6 : decode cX0_whyNot 6 = .ok (.iconst 1, 1) := dk_4 (dk_at dksX0_whyNot_0 6 rfl rfl)
theorem dX0_whyNot_7 : decode cX0_whyNot 7 = .ok (.iand, 1) := dk_126 (dk_at dksX0_whyNot_0 7 rfl rfl)
theorem dX0_whyNot_8 : decode cX0_whyNot 8 = .ok (.aload_n 0, 1) := dk_42 (dk_at dksX0_whyNot_0 8 rfl rfl)
theorem dX0_whyNot_9 : decode cX0_whyNot 9 = .ok (.getfield 182, 3) := dk_180 0 182 (dk_at dksX0_whyNot_0 9 rfl rfl)
theorem dX0_whyNot_12 : decode cX0_whyNot 12 = .ok (.if_icmp .eq 5, 3) := dk_159 0 5 (dk_at dksX0_whyNot_0 12 rfl rfl)
theorem dX0_whyNot_15 : decode cX0_whyNot 15 = .ok (.iconst 1, 1) := dk_4 (dk_at dksX0_whyNot_0 15 rfl rfl)
theorem dX0_whyNot_16 : decode cX0_whyNot 16 = .ok (.ireturn, 1) := dk_172 (dk_at dksX0_whyNot_0 16 rfl rfl)
theorem dX0_whyNot_17 : decode cX0_whyNot 17 = .ok (.aload_n 0, 1) := dk_42 (dk_at dksX0_whyNot_0 17 rfl rfl)
theorem dX0_whyNot_18 : decode cX0_whyNot 18 = .ok (.getfield 12, 3) := dk_180 0 12 (dk_at dksX0_whyNot_0 18 rfl rfl)
theorem dX0_whyNot_21 : decode cX0_whyNot 21 = .ok (.getfield 168, 3) := dk_180 0 168 (dk_at dksX0_whyNot_0 21 rfl rfl)
theorem dX0_whyNot_24 : decode cX0_whyNot 24 = .ok (.iload_n 1, 1) := dk_27 (dk_at dksX0_whyNot_1 0 rfl rfl)
theorem dX0_whyNot_25 : decode cX0_whyNot 25 = .ok (.invokestatic 171, 3) := dk_184 0 171 (dk_at dksX0_whyNot_1 1 rfl rfl)
theorem dX0_whyNot_28 : decode cX0_whyNot 28 = .ok (.ifCond .eq 5, 3) := dk_153 0 5 (dk_at dksX0_whyNot_1 4 rfl rfl)
theorem dX0_whyNot_31 : decode cX0_whyNot 31 = .ok (.iconst 2, 1) := dk_5 (dk_at dksX0_whyNot_1 7 rfl rfl)
theorem dX0_whyNot_32 : decode cX0_whyNot 32 = .ok (.ireturn, 1) := dk_172 (dk_at dksX0_whyNot_1 8 rfl rfl)
theorem dX0_whyNot_33 : decode cX0_whyNot 33 = .ok (.iload_n 2, 1) := dk_28 (dk_at dksX0_whyNot_1 9 rfl rfl)
theorem dX0_whyNot_34 : decode cX0_whyNot 34 = .ok (.iconst (-1), 1) := dk_2 (dk_at dksX0_whyNot_1 10 rfl rfl)
theorem dX0_whyNot_35 : decode cX0_whyNot 35 = .ok (.if_icmp .eq 34, 3) := dk_159 0 34 (dk_at dksX0_whyNot_1 11 rfl rfl)
theorem dX0_whyNot_38 : decode cX0_whyNot 38 = .ok (.aload_n 0, 1) := dk_42 (dk_at dksX0_whyNot_1 14 rfl rfl)
theorem dX0_whyNot_39 : decode cX0_whyNot 39 = .ok (.getfield 12, 3) := dk_180 0 12 (dk_at dksX0_whyNot_1 15 rfl rfl)
theorem dX0_whyNot_42 : decode cX0_whyNot 42 = .ok (.getfield 168, 3) := dk_180 0 168 (dk_at dksX0_whyNot_1 18 rfl rfl)
theorem dX0_whyNot_45 : decode cX0_whyNot 45 = .ok (.iload_n 2, 1) := dk_28 (dk_at dksX0_whyNot_1 21 rfl rfl)
theorem dX0_whyNot_46 : decode cX0_whyNot 46 = .ok (.invokestatic 171, 3) := dk_184 0 171 (dk_at dksX0_whyNot_2 0 rfl rfl)
theorem dX0_whyNot_49 : decode cX0_whyNot 49 = .ok (.ifCond .eq 18, 3) := dk_153 0 18 (dk_at dksX0_whyNot_2 3 rfl rfl)
theorem dX0_whyNot_52 : decode cX0_whyNot 52 = .ok (.aload_n 0, 1) := dk_42 (dk_at dksX0_whyNot_2 6 rfl rfl)
theorem dX0_whyNot_53 : decode cX0_whyNot 53 = .ok (.getfield 179, 3) := dk_180 0 179 (dk_at dksX0_whyNot_2 7 rfl rfl)
theorem dX0_whyNot_56 : decode cX0_whyNot 56 = .ok (.iload_n 2, 1) := dk_28 (dk_at dksX0_whyNot_2 10 rfl rfl)
theorem dX0_whyNot_57 : decode cX0_whyNot 57 = .ok (.ishr, 1) := dk_122 (dk_at dksX0_whyNot_2 11 rfl rfl)
theorem dX0_whyNot_58 : decode cX0_whyNot 58 = .ok (.iconst 1, 1) := dk_4 (dk_at dksX0_whyNot_2 12 rfl rfl)
theorem dX0_whyNot_59 : decode cX0_whyNot 59 = .ok (.iand, 1) := dk_126 (dk_at dksX0_whyNot_2 13 rfl rfl)
theorem dX0_whyNot_60 : decode cX0_whyNot 60 = .ok (.aload_n 0, 1) := dk_42 (dk_at dksX0_whyNot_2 14 rfl rfl)
theorem dX0_whyNot_61 : decode cX0_whyNot 61 = .ok (.getfield 182, 3) := dk_180 0 182 (dk_at dksX0_whyNot_2 15 rfl rfl)
theorem dX0_whyNot_64 : decode cX0_whyNot 64 = .ok (.if_icmp .eq 5, 3) := dk_159 0 5 (dk_at dksX0_whyNot_2 18 rfl rfl)
theorem dX0_whyNot_67 : decode cX0_whyNot 67 = .ok (.iconst 3, 1) := dk_6 (dk_at dksX0_whyNot_2 21 rfl rfl)
theorem dX0_whyNot_68 : decode cX0_whyNot 68 = .ok (.ireturn, 1) := dk_172 (dk_at dksX0_whyNot_2 22 rfl rfl)
theorem dX0_whyNot_69 : decode cX0_whyNot 69 = .ok (.aload_n 0, 1) := dk_42 (dk_at dksX0_whyNot_2 23 rfl rfl)
theorem dX0_whyNot_70 : decode cX0_whyNot 70 = .ok (.aload_n 0, 1) := dk_42 (dk_at dksX0_whyNot_3 0 rfl rfl)
theorem dX0_whyNot_71 : decode cX0_whyNot 71 = .ok (.getfield 24, 3) := dk_180 0 24 (dk_at dksX0_whyNot_3 1 rfl rfl)
theorem dX0_whyNot_74 : decode cX0_whyNot 74 = .ok (.iload_n 3, 1) := dk_29 (dk_at dksX0_whyNot_3 4 rfl rfl)
theorem dX0_whyNot_75 : decode cX0_whyNot 75 = .ok (.iaload, 1) := dk_46 (dk_at dksX0_whyNot_3 5 rfl rfl)
theorem dX0_whyNot_76 : decode cX0_whyNot 76 = .ok (.iload_n 1, 1) := dk_27 (dk_at dksX0_whyNot_3 6 rfl rfl)
theorem dX0_whyNot_77 : decode cX0_whyNot 77 = .ok (.iload_n 3, 1) := dk_29 (dk_at dksX0_whyNot_3 7 rfl rfl)
theorem dX0_whyNot_78 : decode cX0_whyNot 78 = .ok (.invokevirtual 175, 3) := dk_182 0 175 (dk_at dksX0_whyNot_3 8 rfl rfl)
theorem dX0_whyNot_81 : decode cX0_whyNot 81 = .ok (.ifCond .ne 5, 3) := dk_154 0 5 (dk_at dksX0_whyNot_3 11 rfl rfl)
theorem dX0_whyNot_84 : decode cX0_whyNot 84 = .ok (.iconst 4, 1) := dk_7 (dk_at dksX0_whyNot_3 14 rfl rfl)
theorem dX0_whyNot_85 : decode cX0_whyNot 85 = .ok (.ireturn, 1) := dk_172 (dk_at dksX0_whyNot_3 15 rfl rfl)
theorem dX0_whyNot_86 : decode cX0_whyNot 86 = .ok (.aload_n 0, 1) := dk_42 (dk_at dksX0_whyNot_3 16 rfl rfl)
theorem dX0_whyNot_87 : decode cX0_whyNot 87 = .ok (.iload_n 3, 1) := dk_29 (dk_at dksX0_whyNot_3 17 rfl rfl)
theorem dX0_whyNot_88 : decode cX0_whyNot 88 = .ok (.invokevirtual 191, 3) := dk_182 0 191 (dk_at dksX0_whyNot_3 18 rfl rfl)
theorem dX0_whyNot_91 : decode cX0_whyNot 91 = .ok (.ifCond .eq 7, 3) := dk_153 0 7 (dk_at dksX0_whyNot_3 21 rfl rfl)
theorem dX0_whyNot_94 : decode cX0_whyNot 94 = .ok (.iconst 0, 1) := dk_3 (dk_at dksX0_whyNot_4 0 rfl rfl)
theorem dX0_whyNot_95 : decode cX0_whyNot 95 = .ok (.goto 4, 3) := dk_167 0 4 (dk_at dksX0_whyNot_4 1 rfl rfl)
theorem dX0_whyNot_98 : decode cX0_whyNot 98 = .ok (.iconst 5, 1) := dk_8 (dk_at dksX0_whyNot_4 4 rfl rfl)
theorem dX0_whyNot_99 : decode cX0_whyNot 99 = .ok (.ireturn, 1) := dk_172 (dk_at dksX0_whyNot_4 5 rfl rfl)

theorem okX0_whyNot : wOkV yX0_whyNot cX0_whyNot 4 (some .int) 3 := ⟨q800, qs27, q136, q801, by decide, by decide, by decide +kernel⟩
def fX0_whyNot (N : Nat)  (a1 : Int32) (a2 : Int32) (a3 : Int32) (μ : wMem) : Option (Int32 × wMem) :=
  if (((μ.1 0 5) >>> (a1 &&& 31)) &&& (1 : Int32)) = (μ.1 0 6) then wBind (fX0_has N  (μ.1 1 4) a1 μ) fun v4 μ3 => if v4 = 0 then wLet (fun  (μ6 : wMem) => wG (ok_in a3 2) (wBind (fX0_mayBehind N  (μ6.1 9 (Int32.toNatClampNeg a3)) a1 a3 μ6) fun v10 μ9 => if v10 = 0 then some (4, μ9) else wBind (fX0_fitsMarks N  a3 μ9) fun v14 μ13 => if v14 = 0 then some (5, μ13) else some (0, μ13))) fun JwhyNot69 => if a2 = (-1 : Int32) then JwhyNot69  μ3 else wBind (fX0_has N  (μ3.1 1 4) a2 μ3) fun v19 μ18 => if v19 = 0 then some (3, μ18) else if (((μ18.1 0 5) >>> (a2 &&& 31)) &&& (1 : Int32)) = (μ18.1 0 6) then JwhyNot69  μ18 else some (3, μ18) else some (2, μ3) else some (1, μ)
set_option maxHeartbeats 4000000 in
set_option maxRecDepth 100000 in
theorem tX0_whyNot (l : Launch) {D : va_G} {E : List wCell} {q : Nat → Nat} {ca : wCA} (N : Nat)   (a1 : Int32) (a2 : Int32) (a3 : Int32) (μ : wMem) (r0 : (Int32 × wMem)) (hf : fX0_whyNot N  a1 a2 a3 μ = some r0) : wMi l yX0_whyNot cX0_whyNot 4 (some .int) ({ frames := 2, cells := 0, slots := 0, locals := 44 } : Room) D vwCl (spX ++ E) q ca [.ref (q 0), .int a1, .int a2, .int a3] μ r0 := by
  refine wMi_intro (by decide) (Nat.le_of_ble_eq_true rfl) ?_
  intro p e s m args below meth c A C
  unfold fX0_whyNot at hf
  refine wr_sub [(0, .ref (q 0)), (1, .int a1), (2, .int a2), (3, .int a3)] [0, 1, 2, 3] rfl ?_
  refine wr_aload_n 0 C dX0_whyNot_0 0 rfl rfl ?_
  refine gespX_0_5_X0 1 C dX0_whyNot_1 ?_
  refine wr_iload_n 4 C dX0_whyNot_4 1 rfl rfl ?_
  refine wr_ishr 5 C dX0_whyNot_5 ?_
  refine wr_iconst 6 C dX0_whyNot_6 (v := 1) rfl ?_
  refine wr_iand 7 C dX0_whyNot_7 ?_
  refine wr_aload_n 8 C dX0_whyNot_8 0 rfl rfl ?_
  refine gespX_0_6_X0 9 C dX0_whyNot_9 ?_
  refine wr_icmp_eq 12 17 C dX0_whyNot_12 (by decide) (fun c1 => ?_) (fun c1 => ?_)
  · replace hf := o_pos c1 hf
    refine wr_aload_n 17 C dX0_whyNot_17 0 rfl rfl ?_
    refine gespX_0_0_X0 18 C dX0_whyNot_18 ?_
    refine gespX_1_4_X0 21 C dX0_whyNot_21 ?_
    refine wr_iload_n 24 C dX0_whyNot_24 1 rfl rfl ?_
    obtain ⟨v4, μ3, h2, hf⟩ := o_bind hf
    refine wr_Si (kc1 := 0) (ks1 := 0) 25 [] C dX0_whyNot_25 (tX0_has l N   (μ.1 1 4) a1 μ (v4, μ3) h2) okX0_has q722 ⟨rfl, rfl, Nat.le_of_ble_eq_true rfl, Nat.le_of_ble_eq_true rfl, Nat.zero_le _, Nat.zero_le _⟩ (Nat.le_of_ble_eq_true rfl) rfl ?_
    refine wr_if_eq 28 33 C dX0_whyNot_28 (by decide) (fun c5 => ?_) (fun c5 => ?_)
    · replace hf := o_pos c5 hf
      refine wr_iload_n 33 C dX0_whyNot_33 2 rfl rfl ?_
      refine wr_iconst 34 C dX0_whyNot_34 (v := (-1)) rfl ?_
      obtain ⟨JwhyNot69, eJwhyNot69, hf⟩ := o_let hf
      have hJwhyNot69 : ∀  (μ6 : wMem), JwhyNot69  μ6 = some r0 → wJ p l e ({ frames := 2, cells := 0, slots := 0, locals := 44 } : Room) s m args below meth c 4 D vwCl (spX ++ E) q ca A (wQi ({ frames := 2, cells := 0, slots := 0, locals := 44 } : Room) D vwCl (spX ++ E) q ca below args s A r0) 0 0 μ6 69 [(0, .ref (q 0)), (1, .int a1), (3, .int a3)] [] := by
        intro  μ6 hf
        rw [eJwhyNot69] at hf
        refine wr_aload_n 69 C dX0_whyNot_69 0 rfl rfl ?_
        refine wr_aload_n 70 C dX0_whyNot_70 0 rfl rfl ?_
        refine gespX_0_8_X0 71 C dX0_whyNot_71 ?_
        refine wr_iload_n 74 C dX0_whyNot_74 2 rfl rfl ?_
        obtain ⟨g7, hf⟩ := o_g hf
        refine wr_iald 75 C dX0_whyNot_75 spX_9 g7 ?_
        refine wr_iload_n 76 C dX0_whyNot_76 1 rfl rfl ?_
        refine wr_iload_n 77 C dX0_whyNot_77 2 rfl rfl ?_
        obtain ⟨v10, μ9, h8, hf⟩ := o_bind hf
        refine wr_Vi (kc1 := 0) (ks1 := 0) 78 [] C dX0_whyNot_78 (tX0_mayBehind l N   (μ6.1 9 (Int32.toNatClampNeg a3)) a1 a3 μ6 (v10, μ9) h8) okX0_mayBehind q723 (b := 0) spX_0 rfl ⟨rfl, rfl, Nat.le_of_ble_eq_true rfl, Nat.le_of_ble_eq_true rfl, Nat.zero_le _, Nat.zero_le _⟩ (Nat.le_of_ble_eq_true rfl) rfl ?_
        refine wr_if_ne 81 86 C dX0_whyNot_81 (by decide) (fun c11 => ?_) (fun c11 => ?_)
        · replace hf := o_neg c11 hf
          refine wr_aload_n 86 C dX0_whyNot_86 0 rfl rfl ?_
          refine wr_iload_n 87 C dX0_whyNot_87 2 rfl rfl ?_
          obtain ⟨v14, μ13, h12, hf⟩ := o_bind hf
          refine wr_Vi (kc1 := 0) (ks1 := 0) 88 [] C dX0_whyNot_88 (tX0_fitsMarks l N   a3 μ9 (v14, μ13) h12) okX0_fitsMarks q802 (b := 0) spX_0 rfl ⟨rfl, rfl, Nat.le_of_ble_eq_true rfl, Nat.le_of_ble_eq_true rfl, Nat.zero_le _, Nat.zero_le _⟩ (Nat.le_of_ble_eq_true rfl) rfl ?_
          refine wr_if_eq 91 98 C dX0_whyNot_91 (by decide) (fun c15 => ?_) (fun c15 => ?_)
          · replace hf := o_pos c15 hf
            refine wr_iconst 98 C dX0_whyNot_98 (v := 5) rfl ?_
            exact wr_iret 99 C dX0_whyNot_99 ⟨Nat.zero_le _, Nat.zero_le _⟩ (Option.some.inj hf)
          · replace hf := o_neg c15 hf
            refine wr_iconst 94 C dX0_whyNot_94 (v := 0) rfl ?_
            refine wr_goto 95 C dX0_whyNot_95 (tgt := 99) (by decide) ?_
            exact wr_iret 99 C dX0_whyNot_99 ⟨Nat.zero_le _, Nat.zero_le _⟩ (Option.some.inj hf)
        · replace hf := o_pos c11 hf
          refine wr_iconst 84 C dX0_whyNot_84 (v := 4) rfl ?_
          exact wr_iret 85 C dX0_whyNot_85 ⟨Nat.zero_le _, Nat.zero_le _⟩ (Option.some.inj hf)
      refine wr_icmp_eq 35 69 C dX0_whyNot_35 (by decide) (fun c16 => ?_) (fun c16 => ?_)
      · replace hf := o_pos c16 hf
        refine wr_sub [(0, .ref (q 0)), (1, .int a1), (3, .int a3)] [0, 1, 3] rfl ?_
        exact hJwhyNot69  μ3 hf
      · replace hf := o_neg c16 hf
        refine wr_aload_n 38 C dX0_whyNot_38 0 rfl rfl ?_
        refine gespX_0_0_X0 39 C dX0_whyNot_39 ?_
        refine gespX_1_4_X0 42 C dX0_whyNot_42 ?_
        refine wr_iload_n 45 C dX0_whyNot_45 2 rfl rfl ?_
        obtain ⟨v19, μ18, h17, hf⟩ := o_bind hf
        refine wr_Si (kc1 := 0) (ks1 := 0) 46 [] C dX0_whyNot_46 (tX0_has l N   (μ3.1 1 4) a2 μ3 (v19, μ18) h17) okX0_has q722 ⟨rfl, rfl, Nat.le_of_ble_eq_true rfl, Nat.le_of_ble_eq_true rfl, Nat.zero_le _, Nat.zero_le _⟩ (Nat.le_of_ble_eq_true rfl) rfl ?_
        refine wr_if_eq 49 67 C dX0_whyNot_49 (by decide) (fun c20 => ?_) (fun c20 => ?_)
        · replace hf := o_pos c20 hf
          refine wr_iconst 67 C dX0_whyNot_67 (v := 3) rfl ?_
          exact wr_iret 68 C dX0_whyNot_68 ⟨Nat.zero_le _, Nat.zero_le _⟩ (Option.some.inj hf)
        · replace hf := o_neg c20 hf
          refine wr_aload_n 52 C dX0_whyNot_52 0 rfl rfl ?_
          refine gespX_0_5_X0 53 C dX0_whyNot_53 ?_
          refine wr_iload_n 56 C dX0_whyNot_56 2 rfl rfl ?_
          refine wr_ishr 57 C dX0_whyNot_57 ?_
          refine wr_iconst 58 C dX0_whyNot_58 (v := 1) rfl ?_
          refine wr_iand 59 C dX0_whyNot_59 ?_
          refine wr_aload_n 60 C dX0_whyNot_60 0 rfl rfl ?_
          refine gespX_0_6_X0 61 C dX0_whyNot_61 ?_
          refine wr_icmp_eq 64 69 C dX0_whyNot_64 (by decide) (fun c21 => ?_) (fun c21 => ?_)
          · replace hf := o_pos c21 hf
            refine wr_sub [(0, .ref (q 0)), (1, .int a1), (3, .int a3)] [0, 1, 3] rfl ?_
            exact hJwhyNot69  μ18 hf
          · replace hf := o_neg c21 hf
            refine wr_iconst 67 C dX0_whyNot_67 (v := 3) rfl ?_
            exact wr_iret 68 C dX0_whyNot_68 ⟨Nat.zero_le _, Nat.zero_le _⟩ (Option.some.inj hf)
    · replace hf := o_neg c5 hf
      refine wr_iconst 31 C dX0_whyNot_31 (v := 2) rfl ?_
      exact wr_iret 32 C dX0_whyNot_32 ⟨Nat.zero_le _, Nat.zero_le _⟩ (Option.some.inj hf)
  · replace hf := o_neg c1 hf
    refine wr_iconst 15 C dX0_whyNot_15 (v := 1) rfl ?_
    exact wr_iret 16 C dX0_whyNot_16 ⟨Nat.zero_le _, Nat.zero_le _⟩ (Option.some.inj hf)
abbrev cX0_why : ByteArray := prog_1_method_42_code
def yX0_why : MethodName := ⟨RX0, "why", "(III)I"⟩
def dkwX0_why_1 : List UInt8 := [172]
abbrev dktX0_why_1 : List UInt8 := dkwX0_why_1 ++ []
def dkwX0_why_0 : List UInt8 := [42, 27, 28, 29, 182, 1, 12, 154, 0, 6, 16, 254, 172, 42, 182, 0, 249, 42, 27, 28, 29, 182, 0, 207]
abbrev dktX0_why_0 : List UInt8 := dkwX0_why_0 ++ dktX0_why_1
theorem dksX0_why_0 : cX0_why.data.toList.drop 0 = dktX0_why_0 := by decide +kernel
theorem dksX0_why_1 : cX0_why.data.toList.drop 24 = dktX0_why_1 := dk_seg dksX0_why_0 24 rfl rfl
theorem dX0_why_0 : decode cX0_why 0 = .ok (.aload_n 0, 1) := dk_42 (dk_at dksX0_why_0 0 rfl rfl)
theorem dX0_why_1 : decode cX0_why 1 = .ok (.iload_n 1, 1) := dk_27 (dk_at dksX0_why_0 1 rfl rfl)
theorem dX0_why_2 : decode cX0_why 2 = .ok (.iload_n 2, 1) := dk_28 (dk_at dksX0_why_0 2 rfl rfl)
theorem dX0_why_3 : decode cX0_why 3 = .ok (.iload_n 3, 1) := dk_29 (dk_at dksX0_why_0 3 rfl rfl)
theorem dX0_why_4 : decode cX0_why 4 = .ok (.invokevirtual 268, 3) := dk_182 1 12 (dk_at dksX0_why_0 4 rfl rfl)
theorem dX0_why_7 : decode cX0_why 7 = .ok (.ifCond .ne 6, 3) := dk_154 0 6 (dk_at dksX0_why_0 7 rfl rfl)
theorem dX0_why_10 : decode cX0_why 10 = .ok (.bipush (-2), 2) := dk_16 254 (dk_at dksX0_why_0 10 rfl rfl)
theorem dX0_why_12 : decode cX0_why 12 = .ok (.ireturn, 1) := dk_172 (dk_at dksX0_why_0 12 rfl rfl)
theorem dX0_why_13 : decode cX0_why 13 = .ok (.aload_n 0, 1) := dk_42 (dk_at dksX0_why_0 13 rfl rfl)
theorem dX0_why_14 : decode cX0_why 14 = .ok (.invokevirtual 249, 3) := dk_182 0 249 (dk_at dksX0_why_0 14 rfl rfl)
theorem dX0_why_17 : decode cX0_why 17 = .ok (.aload_n 0, 1) := dk_42 (dk_at dksX0_why_0 17 rfl rfl)
theorem dX0_why_18 : decode cX0_why 18 = .ok (.iload_n 1, 1) := dk_27 (dk_at dksX0_why_0 18 rfl rfl)
theorem dX0_why_19 : decode cX0_why 19 = .ok (.iload_n 2, 1) := dk_28 (dk_at dksX0_why_0 19 rfl rfl)
theorem dX0_why_20 : decode cX0_why 20 = .ok (.iload_n 3, 1) := dk_29 (dk_at dksX0_why_0 20 rfl rfl)
theorem dX0_why_21 : decode cX0_why 21 = .ok (.invokevirtual 207, 3) := dk_182 0 207 (dk_at dksX0_why_0 21 rfl rfl)
theorem dX0_why_24 : decode cX0_why 24 = .ok (.ireturn, 1) := dk_172 (dk_at dksX0_why_1 0 rfl rfl)

theorem okX0_why : wOkV yX0_why cX0_why 4 (some .int) 3 := ⟨q791, q792, q136, q793, by decide, by decide, by decide +kernel⟩
def fX0_why (N : Nat)  (a1 : Int32) (a2 : Int32) (a3 : Int32) (μ : wMem) : Option (Int32 × wMem) :=
  wBind (fX0_isCrossing N  a1 a2 a3 μ) fun v3 μ2 => if v3 = 0 then some ((-2), μ2) else wBindV (fX0_asItIs N   μ2) fun μ6 => wBind (fX0_whyNot N  a1 a2 a3 μ6) fun v9 μ8 => some (v9, μ8)
set_option maxHeartbeats 4000000 in
set_option maxRecDepth 100000 in
theorem tX0_why (l : Launch) {D : va_G} {E : List wCell} {q : Nat → Nat} {ca : wCA} (N : Nat)   (a1 : Int32) (a2 : Int32) (a3 : Int32) (μ : wMem) (r0 : (Int32 × wMem)) (hf : fX0_why N  a1 a2 a3 μ = some r0) : wMi l yX0_why cX0_why 4 (some .int) ({ frames := 4, cells := 0, slots := 0, locals := 90 } : Room) D vwCl (spX ++ E) q ca [.ref (q 0), .int a1, .int a2, .int a3] μ r0 := by
  refine wMi_intro (by decide) (Nat.le_of_ble_eq_true rfl) ?_
  intro p e s m args below meth c A C
  unfold fX0_why at hf
  refine wr_sub [(0, .ref (q 0)), (1, .int a1), (2, .int a2), (3, .int a3)] [0, 1, 2, 3] rfl ?_
  refine wr_aload_n 0 C dX0_why_0 0 rfl rfl ?_
  refine wr_iload_n 1 C dX0_why_1 1 rfl rfl ?_
  refine wr_iload_n 2 C dX0_why_2 2 rfl rfl ?_
  refine wr_iload_n 3 C dX0_why_3 3 rfl rfl ?_
  obtain ⟨v3, μ2, h1, hf⟩ := o_bind hf
  refine wr_Vi (kc1 := 0) (ks1 := 0) 4 [] C dX0_why_4 (tX0_isCrossing l N   a1 a2 a3 μ (v3, μ2) h1) okX0_isCrossing q794 (b := 0) spX_0 rfl ⟨rfl, rfl, Nat.le_of_ble_eq_true rfl, Nat.le_of_ble_eq_true rfl, Nat.zero_le _, Nat.zero_le _⟩ (Nat.le_of_ble_eq_true rfl) rfl ?_
  refine wr_if_ne 7 13 C dX0_why_7 (by decide) (fun c4 => ?_) (fun c4 => ?_)
  · replace hf := o_neg c4 hf
    refine wr_aload_n 13 C dX0_why_13 0 rfl rfl ?_
    obtain ⟨μ6, h5, hf⟩ := o_bindV hf
    refine wr_Vv (kc1 := 0) (ks1 := 0) 14 [] C dX0_why_14 (tX0_asItIs l N    μ2 μ6 h5) okX0_asItIs q737 (b := 0) spX_0 rfl ⟨rfl, rfl, Nat.le_of_ble_eq_true rfl, Nat.le_of_ble_eq_true rfl, Nat.zero_le _, Nat.zero_le _⟩ (Nat.le_of_ble_eq_true rfl) rfl ?_
    refine wr_aload_n 17 C dX0_why_17 0 rfl rfl ?_
    refine wr_iload_n 18 C dX0_why_18 1 rfl rfl ?_
    refine wr_iload_n 19 C dX0_why_19 2 rfl rfl ?_
    refine wr_iload_n 20 C dX0_why_20 3 rfl rfl ?_
    obtain ⟨v9, μ8, h7, hf⟩ := o_bind hf
    refine wr_Vi (kc1 := 0) (ks1 := 0) 21 [] C dX0_why_21 (tX0_whyNot l N   a1 a2 a3 μ6 (v9, μ8) h7) okX0_whyNot q798 (b := 0) spX_0 rfl ⟨rfl, rfl, Nat.le_of_ble_eq_true rfl, Nat.le_of_ble_eq_true rfl, Nat.zero_le _, Nat.zero_le _⟩ (Nat.le_of_ble_eq_true rfl) rfl ?_
    exact wr_iret 24 C dX0_why_24 ⟨Nat.zero_le _, Nat.zero_le _⟩ (Option.some.inj hf)
  · replace hf := o_pos c4 hf
    refine wr_bipush 10 C dX0_why_10 (v := (-2)) rfl ?_
    exact wr_iret 12 C dX0_why_12 ⟨Nat.zero_le _, Nat.zero_le _⟩ (Option.some.inj hf)
abbrev cX0_keeps : ByteArray := prog_1_method_43_code
def yX0_keeps : MethodName := ⟨RX0, "keeps", "(I)I"⟩
def dkwX0_keeps_1 : List UInt8 := [4, 96, 181, 0, 231, 42, 27, 182, 0, 237, 42, 180, 0, 225, 172]
abbrev dktX0_keeps_1 : List UInt8 := dkwX0_keeps_1 ++ []
def dkwX0_keeps_0 : List UInt8 := [42, 180, 0, 12, 180, 0, 234, 42, 180, 0, 12, 180, 0, 231, 27, 79, 42, 180, 0, 12, 89, 180, 0, 231]
abbrev dktX0_keeps_0 : List UInt8 := dkwX0_keeps_0 ++ dktX0_keeps_1
theorem dksX0_keeps_0 : cX0_keeps.data.toList.drop 0 = dktX0_keeps_0 := by decide +kernel
theorem dksX0_keeps_1 : cX0_keeps.data.toList.drop 24 = dktX0_keeps_1 := dk_seg dksX0_keeps_0 24 rfl rfl
theorem dX0_keeps_0 : decode cX0_keeps 0 = .ok (.aload_n 0, 1) := dk_42 (dk_at dksX0_keeps_0 0 rfl rfl)
theorem dX0_keeps_1 : decode cX0_keeps 1 = .ok (.getfield 12, 3) := dk_180 0 12 (dk_at dksX0_keeps_0 1 rfl rfl)
theorem dX0_keeps_4 : decode cX0_keeps 4 = .ok (.getfield 234, 3) := dk_180 0 234 (dk_at dksX0_keeps_0 4 rfl rfl)
theorem dX0_keeps_7 : decode cX0_keeps 7 = .ok (.aload_n 0, 1) := dk_42 (dk_at dksX0_keeps_0 7 rfl rfl)
theorem dX0_keeps_8 : decode cX0_keeps 8 = .ok (.getfield 12, 3) := dk_180 0 12 (dk_at dksX0_keeps_0 8 rfl rfl)
theorem dX0_keeps_11 : decode cX0_keeps 11 = .ok (.getfield 231, 3) := dk_180 0 231 (dk_at dksX0_keeps_0 11 rfl rfl)
theorem dX0_keeps_14 : decode cX0_keeps 14 = .ok (.iload_n 1, 1) := dk_27 (dk_at dksX0_keeps_0 14 rfl rfl)
theorem dX0_keeps_15 : decode cX0_keeps 15 = .ok (.iastore, 1) := dk_79 (dk_at dksX0_keeps_0 15 rfl rfl)
theorem dX0_keeps_16 : decode cX0_keeps 16 = .ok (.aload_n 0, 1) := dk_42 (dk_at dksX0_keeps_0 16 rfl rfl)
theorem dX0_keeps_17 : decode cX0_keeps 17 = .ok (.getfield 12, 3) := dk_180 0 12 (dk_at dksX0_keeps_0 17 rfl rfl)
theorem dX0_keeps_20 : decode cX0_keeps 20 = .ok (.dup, 1) := dk_89 (dk_at dksX0_keeps_0 20 rfl rfl)
theorem dX0_keeps_21 : decode cX0_keeps 21 = .ok (.getfield 231, 3) := dk_180 0 231 (dk_at dksX0_keeps_0 21 rfl rfl)
theorem dX0_keeps_24 : decode cX0_keeps 24 = .ok (.iconst 1, 1) := dk_4 (dk_at dksX0_keeps_1 0 rfl rfl)
theorem dX0_keeps_25 : decode cX0_keeps 25 = .ok (.iadd, 1) := dk_96 (dk_at dksX0_keeps_1 1 rfl rfl)
theorem dX0_keeps_26 : decode cX0_keeps 26 = .ok (.putfield 231, 3) := dk_181 0 231 (dk_at dksX0_keeps_1 2 rfl rfl)
theorem dX0_keeps_29 : decode cX0_keeps 29 = .ok (.aload_n 0, 1) := dk_42 (dk_at dksX0_keeps_1 5 rfl rfl)
theorem dX0_keeps_30 : decode cX0_keeps 30 = .ok (.iload_n 1, 1) := dk_27 (dk_at dksX0_keeps_1 6 rfl rfl)
theorem dX0_keeps_31 : decode cX0_keeps 31 = .ok (.invokevirtual 237, 3) := dk_182 0 237 (dk_at dksX0_keeps_1 7 rfl rfl)
theorem dX0_keeps_34 : decode cX0_keeps 34 = .ok (.aload_n 0, 1) := dk_42 (dk_at dksX0_keeps_1 10 rfl rfl)
theorem dX0_keeps_35 : decode cX0_keeps 35 = .ok (.getfield 225, 3) := dk_180 0 225 (dk_at dksX0_keeps_1 11 rfl rfl)
theorem dX0_keeps_38 : decode cX0_keeps 38 = .ok (.ireturn, 1) := dk_172 (dk_at dksX0_keeps_1 14 rfl rfl)
theorem puspX_1_6_X0 {p : Program} {l : Launch} {e : Env} {R : Room} {s : State} {m : MethodId} {args : Array Value} {below : List Frame} {meth : Method} {c : Code} {cc : ByteArray} {nL : Nat} {ret : Option FieldType} {D : va_G} {E : List wCell} {q : Nat → Nat} {ca : wCA} {A : Nat → Prop} {Q : State → Prop} {kc ks : Nat} {μ : wMem} {lv : List (Nat × Value)} {st : List Value} {v : Int32} {μ1 : wMem} (pc : Nat) (C : wC p R s m args meth c cc "OnePassport" nL ret D vwCl (spX ++ E) q ca A) (hd : decode cc pc = .ok (.putfield 231, 3)) (hμ : μ1 = wSI μ 1 6 v) (k : wJ p l e R s m args below meth c nL D vwCl (spX ++ E) q ca A Q kc ks μ1 (pc + 3) lv st) : wJ p l e R s m args below meth c nL D vwCl (spX ++ E) q ca A Q kc ks μ pc lv (.int v :: .ref (q 1) :: st) := wr_putNI pc 6 C hd spX_1 rfl in_X1 tyX1 tyX1_ok nmX1 (by decide) rfl q202 rfl rfl hμ k
theorem okX0_keeps : wOkV yX0_keeps cX0_keeps 2 (some .int) 1 := ⟨q812, qs29, q136, q813, by decide, by decide, by decide +kernel⟩
def fX0_keeps (N : Nat)  (a1 : Int32) (μ : wMem) : Option (Int32 × wMem) :=
  wG (ok_in (μ.1 1 6) 40) (wLet (wSI μ 7 (Int32.toNatClampNeg (μ.1 1 6)) a1) fun μ2 => wLet (wSI μ2 1 6 ((μ2.1 1 6) + (1 : Int32))) fun μ3 => wBindV (fX0_does0 N  a1 μ3) fun μ5 => some (μ5.1 0 9, μ5))
set_option maxHeartbeats 4000000 in
set_option maxRecDepth 100000 in
theorem tX0_keeps (l : Launch) {D : va_G} {E : List wCell} {q : Nat → Nat} {ca : wCA} (N : Nat)   (a1 : Int32) (μ : wMem) (r0 : (Int32 × wMem)) (hf : fX0_keeps N  a1 μ = some r0) : wMi l yX0_keeps cX0_keeps 2 (some .int) ({ frames := 3, cells := 0, slots := 0, locals := 63 } : Room) D vwCl (spX ++ E) q ca [.ref (q 0), .int a1] μ r0 := by
  refine wMi_intro (by decide) (Nat.le_of_ble_eq_true rfl) ?_
  intro p e s m args below meth c A C
  unfold fX0_keeps at hf
  refine wr_sub [(0, .ref (q 0)), (1, .int a1)] [0, 1] rfl ?_
  refine wr_aload_n 0 C dX0_keeps_0 0 rfl rfl ?_
  refine gespX_0_0_X0 1 C dX0_keeps_1 ?_
  refine gespX_1_13_X0 4 C dX0_keeps_4 ?_
  refine wr_aload_n 7 C dX0_keeps_7 0 rfl rfl ?_
  refine gespX_0_0_X0 8 C dX0_keeps_8 ?_
  refine gespX_1_6_X0 11 C dX0_keeps_11 ?_
  refine wr_iload_n 14 C dX0_keeps_14 1 rfl rfl ?_
  obtain ⟨g1, hf⟩ := o_g hf
  obtain ⟨μ2, eμ2, hf⟩ := o_let hf
  refine wr_iast 15 C dX0_keeps_15 spX_7 g1 eμ2 ?_
  refine wr_aload_n 16 C dX0_keeps_16 0 rfl rfl ?_
  refine gespX_0_0_X0 17 C dX0_keeps_17 ?_
  refine wr_dup 20 C dX0_keeps_20 rfl ?_
  refine gespX_1_6_X0 21 C dX0_keeps_21 ?_
  refine wr_iconst 24 C dX0_keeps_24 (v := 1) rfl ?_
  refine wr_iadd 25 C dX0_keeps_25 ?_
  obtain ⟨μ3, eμ3, hf⟩ := o_let hf
  refine puspX_1_6_X0 26 C dX0_keeps_26 eμ3 ?_
  refine wr_aload_n 29 C dX0_keeps_29 0 rfl rfl ?_
  refine wr_iload_n 30 C dX0_keeps_30 1 rfl rfl ?_
  obtain ⟨μ5, h4, hf⟩ := o_bindV hf
  refine wr_Vv (kc1 := 0) (ks1 := 0) 31 [] C dX0_keeps_31 (tX0_does0 l N   a1 μ3 μ5 h4) okX0_does0 q745 (b := 0) spX_0 rfl ⟨rfl, rfl, Nat.le_of_ble_eq_true rfl, Nat.le_of_ble_eq_true rfl, Nat.zero_le _, Nat.zero_le _⟩ (Nat.le_of_ble_eq_true rfl) rfl ?_
  refine wr_aload_n 34 C dX0_keeps_34 0 rfl rfl ?_
  refine gespX_0_9_X0 35 C dX0_keeps_35 ?_
  exact wr_iret 38 C dX0_keeps_38 ⟨Nat.zero_le _, Nat.zero_le _⟩ (Option.some.inj hf)
abbrev cX0_cross : ByteArray := prog_1_method_44_code
def yX0_cross : MethodName := ⟨RX0, "cross", "(III)I"⟩
def dkwX0_cross_2 : List UInt8 := [16, 10, 28, 4, 96, 104, 96, 27, 96, 182, 1, 15, 172]
abbrev dktX0_cross_2 : List UInt8 := dkwX0_cross_2 ++ []
def dkwX0_cross_1 : List UInt8 := [154, 0, 15, 42, 180, 0, 12, 180, 0, 231, 16, 40, 160, 0, 6, 16, 251, 172, 42, 16, 100, 29, 104]
abbrev dktX0_cross_1 : List UInt8 := dkwX0_cross_1 ++ dktX0_cross_2
def dkwX0_cross_0 : List UInt8 := [42, 27, 28, 29, 182, 1, 12, 154, 0, 6, 16, 254, 172, 42, 182, 0, 249, 42, 27, 28, 29, 182, 0, 207]
abbrev dktX0_cross_0 : List UInt8 := dkwX0_cross_0 ++ dktX0_cross_1
theorem dksX0_cross_0 : cX0_cross.data.toList.drop 0 = dktX0_cross_0 := by decide +kernel
theorem dksX0_cross_1 : cX0_cross.data.toList.drop 24 = dktX0_cross_1 := dk_seg dksX0_cross_0 24 rfl rfl
theorem dksX0_cross_2 : cX0_cross.data.toList.drop 47 = dktX0_cross_2 := dk_seg dksX0_cross_1 23 rfl rfl
theorem dX0_cross_0 : decode cX0_cross 0 = .ok (.aload_n 0, 1) := dk_42 (dk_at dksX0_cross_0 0 rfl rfl)
theorem dX0_cross_1 : decode cX0_cross 1 = .ok (.iload_n 1, 1) := dk_27 (dk_at dksX0_cross_0 1 rfl rfl)
theorem dX0_cross_2 : decode cX0_cross 2 = .ok (.iload_n 2, 1) := dk_28 (dk_at dksX0_cross_0 2 rfl rfl)
theorem dX0_cross_3 : decode cX0_cross 3 = .ok (.iload_n 3, 1) := dk_29 (dk_at dksX0_cross_0 3 rfl rfl)
theorem dX0_cross_4 : decode cX0_cross 4 = .ok (.invokevirtual 268, 3) := dk_182 1 12 (dk_at dksX0_cross_0 4 rfl rfl)
theorem dX0_cross_7 : decode cX0_cross 7 = .ok (.ifCond .ne 6, 3) := dk_154 0 6 (dk_at dksX0_cross_0 7 rfl rfl)
theorem dX0_cross_10 : decode cX0_cross 10 = .ok (.bipush (-2), 2) := dk_16 254 (dk_at dksX0_cross_0 10 rfl rfl)
theorem dX0_cross_12 : decode cX0_cross 12 = .ok (.ireturn, 1) := dk_172 (dk_at dksX0_cross_0 12 rfl rfl)
theorem dX0_cross_13 : decode cX0_cross 13 = .ok (.aload_n 0, 1) := dk_42 (dk_at dksX0_cross_0 13 rfl rfl)
theorem dX0_cross_14 : decode cX0_cross 14 = .ok (.invokevirtual 249, 3) := dk_182 0 249 (dk_at dksX0_cross_0 14 rfl rfl)
theorem dX0_cross_17 : decode cX0_cross 17 = .ok (.aload_n 0, 1) := dk_42 (dk_at dksX0_cross_0 17 rfl rfl)
theorem dX0_cross_18 : decode cX0_cross 18 = .ok (.iload_n 1, 1) := dk_27 (dk_at dksX0_cross_0 18 rfl rfl)
theorem dX0_cross_19 : decode cX0_cross 19 = .ok (.iload_n 2, 1) := dk_28 (dk_at dksX0_cross_0 19 rfl rfl)
theorem dX0_cross_20 : decode cX0_cross 20 = .ok (.iload_n 3, 1) := dk_29 (dk_at dksX0_cross_0 20 rfl rfl)
theorem dX0_cross_21 : decode cX0_cross 21 = .ok (.invokevirtual 207, 3) := dk_182 0 207 (dk_at dksX0_cross_0 21 rfl rfl)
theorem dX0_cross_24 : decode cX0_cross 24 = .ok (.ifCond .ne 15, 3) := dk_154 0 15 (dk_at dksX0_cross_1 0 rfl rfl)
theorem dX0_cross_27 : decode cX0_cross 27 = .ok (.aload_n 0, 1) := dk_42 (dk_at dksX0_cross_1 3 rfl rfl)
theorem dX0_cross_28 : decode cX0_cross 28 = .ok (.getfield 12, 3) := dk_180 0 12 (dk_at dksX0_cross_1 4 rfl rfl)
theorem dX0_cross_31 : decode cX0_cross 31 = .ok (.getfield 231, 3) := dk_180 0 231 (dk_at dksX0_cross_1 7 rfl rfl)
theorem dX0_cross_34 : decode cX0_cross 34 = .ok (.bipush 40, 2) := dk_16 40 (dk_at dksX0_cross_1 10 rfl rfl)
theorem dX0_cross_36 : decode cX0_cross 36 = .ok (.if_icmp .ne 6, 3) := dk_160 0 6 (dk_at dksX0_cross_1 12 rfl rfl)
theorem dX0_cross_39 : decode cX0_cross 39 = .ok (.bipush (-5), 2) := dk_16 251 (dk_at dksX0_cross_1 15 rfl rfl)
theorem dX0_cross_41 : decode cX0_cross 41 = .ok (.ireturn, 1) := dk_172 (dk_at dksX0_cross_1 17 rfl rfl)
theorem dX0_cross_42 : decode cX0_cross 42 = .ok (.aload_n 0, 1) := dk_42 (dk_at dksX0_cross_1 18 rfl rfl)
theorem dX0_cross_43 : decode cX0_cross 43 = .ok (.bipush 100, 2) := dk_16 100 (dk_at dksX0_cross_1 19 rfl rfl)
theorem dX0_cross_45 : decode cX0_cross 45 = .ok (.iload_n 3, 1) := dk_29 (dk_at dksX0_cross_1 21 rfl rfl)
theorem dX0_cross_46 : decode cX0_cross 46 = .ok (.imul, 1) := dk_104 (dk_at dksX0_cross_1 22 rfl rfl)
theorem dX0_cross_47 : decode cX0_cross 47 = .ok (.bipush 10, 2) := dk_16 10 (dk_at dksX0_cross_2 0 rfl rfl)
theorem dX0_cross_49 : decode cX0_cross 49 = .ok (.iload_n 2, 1) := dk_28 (dk_at dksX0_cross_2 2 rfl rfl)
theorem dX0_cross_50 : decode cX0_cross 50 = .ok (.iconst 1, 1) := dk_4 (dk_at dksX0_cross_2 3 rfl rfl)
theorem dX0_cross_51 : decode cX0_cross 51 = .ok (.iadd, 1) := dk_96 (dk_at dksX0_cross_2 4 rfl rfl)
theorem dX0_cross_52 : decode cX0_cross 52 = .ok (.imul, 1) := dk_104 (dk_at dksX0_cross_2 5 rfl rfl)
theorem dX0_cross_53 : decode cX0_cross 53 = .ok (.iadd, 1) := dk_96 (dk_at dksX0_cross_2 6 rfl rfl)
theorem dX0_cross_54 : decode cX0_cross 54 = .ok (.iload_n 1, 1) := dk_27 (dk_at dksX0_cross_2 7 rfl rfl)
theorem dX0_cross_55 : decode cX0_cross 55 = .ok (.iadd, 1) := dk_96 (dk_at dksX0_cross_2 8 rfl rfl)
theorem dX0_cross_56 : decode cX0_cross 56 = .ok (.invokevirtual 271, 3) := dk_182 1 15 (dk_at dksX0_cross_2 9 rfl rfl)
theorem dX0_cross_59 : decode cX0_cross 59 = .ok (.ireturn, 1) := dk_172 (dk_at dksX0_cross_2 12 rfl rfl)

theorem okX0_cross : wOkV yX0_cross cX0_cross 4 (some .int) 3 := ⟨q807, q808, q136, q809, by decide, by decide, by decide +kernel⟩
def fX0_cross (N : Nat)  (a1 : Int32) (a2 : Int32) (a3 : Int32) (μ : wMem) : Option (Int32 × wMem) :=
  wBind (fX0_isCrossing N  a1 a2 a3 μ) fun v3 μ2 => if v3 = 0 then some ((-2), μ2) else wBindV (fX0_asItIs N   μ2) fun μ6 => wBind (fX0_whyNot N  a1 a2 a3 μ6) fun v9 μ8 => wLet (fun  (μ10 : wMem) => some ((-5), μ10)) fun Jcross39 => if v9 = 0 then if (μ8.1 1 6) = (40 : Int32) then Jcross39  μ8 else wBind (fX0_keeps N  ((((100 : Int32) * a3) + ((10 : Int32) * (a2 + (1 : Int32)))) + a1) μ8) fun v15 μ14 => some (v15, μ14) else Jcross39  μ8
set_option maxHeartbeats 4000000 in
set_option maxRecDepth 100000 in
theorem tX0_cross (l : Launch) {D : va_G} {E : List wCell} {q : Nat → Nat} {ca : wCA} (N : Nat)   (a1 : Int32) (a2 : Int32) (a3 : Int32) (μ : wMem) (r0 : (Int32 × wMem)) (hf : fX0_cross N  a1 a2 a3 μ = some r0) : wMi l yX0_cross cX0_cross 4 (some .int) ({ frames := 4, cells := 0, slots := 0, locals := 90 } : Room) D vwCl (spX ++ E) q ca [.ref (q 0), .int a1, .int a2, .int a3] μ r0 := by
  refine wMi_intro (by decide) (Nat.le_of_ble_eq_true rfl) ?_
  intro p e s m args below meth c A C
  unfold fX0_cross at hf
  refine wr_sub [(0, .ref (q 0)), (1, .int a1), (2, .int a2), (3, .int a3)] [0, 1, 2, 3] rfl ?_
  refine wr_aload_n 0 C dX0_cross_0 0 rfl rfl ?_
  refine wr_iload_n 1 C dX0_cross_1 1 rfl rfl ?_
  refine wr_iload_n 2 C dX0_cross_2 2 rfl rfl ?_
  refine wr_iload_n 3 C dX0_cross_3 3 rfl rfl ?_
  obtain ⟨v3, μ2, h1, hf⟩ := o_bind hf
  refine wr_Vi (kc1 := 0) (ks1 := 0) 4 [] C dX0_cross_4 (tX0_isCrossing l N   a1 a2 a3 μ (v3, μ2) h1) okX0_isCrossing q794 (b := 0) spX_0 rfl ⟨rfl, rfl, Nat.le_of_ble_eq_true rfl, Nat.le_of_ble_eq_true rfl, Nat.zero_le _, Nat.zero_le _⟩ (Nat.le_of_ble_eq_true rfl) rfl ?_
  refine wr_if_ne 7 13 C dX0_cross_7 (by decide) (fun c4 => ?_) (fun c4 => ?_)
  · replace hf := o_neg c4 hf
    refine wr_aload_n 13 C dX0_cross_13 0 rfl rfl ?_
    obtain ⟨μ6, h5, hf⟩ := o_bindV hf
    refine wr_Vv (kc1 := 0) (ks1 := 0) 14 [] C dX0_cross_14 (tX0_asItIs l N    μ2 μ6 h5) okX0_asItIs q737 (b := 0) spX_0 rfl ⟨rfl, rfl, Nat.le_of_ble_eq_true rfl, Nat.le_of_ble_eq_true rfl, Nat.zero_le _, Nat.zero_le _⟩ (Nat.le_of_ble_eq_true rfl) rfl ?_
    refine wr_aload_n 17 C dX0_cross_17 0 rfl rfl ?_
    refine wr_iload_n 18 C dX0_cross_18 1 rfl rfl ?_
    refine wr_iload_n 19 C dX0_cross_19 2 rfl rfl ?_
    refine wr_iload_n 20 C dX0_cross_20 3 rfl rfl ?_
    obtain ⟨v9, μ8, h7, hf⟩ := o_bind hf
    refine wr_Vi (kc1 := 0) (ks1 := 0) 21 [] C dX0_cross_21 (tX0_whyNot l N   a1 a2 a3 μ6 (v9, μ8) h7) okX0_whyNot q798 (b := 0) spX_0 rfl ⟨rfl, rfl, Nat.le_of_ble_eq_true rfl, Nat.le_of_ble_eq_true rfl, Nat.zero_le _, Nat.zero_le _⟩ (Nat.le_of_ble_eq_true rfl) rfl ?_
    obtain ⟨Jcross39, eJcross39, hf⟩ := o_let hf
    have hJcross39 : ∀  (μ10 : wMem), Jcross39  μ10 = some r0 → wJ p l e ({ frames := 4, cells := 0, slots := 0, locals := 90 } : Room) s m args below meth c 4 D vwCl (spX ++ E) q ca A (wQi ({ frames := 4, cells := 0, slots := 0, locals := 90 } : Room) D vwCl (spX ++ E) q ca below args s A r0) 0 0 μ10 39 [] [] := by
      intro  μ10 hf
      rw [eJcross39] at hf
      refine wr_bipush 39 C dX0_cross_39 (v := (-5)) rfl ?_
      exact wr_iret 41 C dX0_cross_41 ⟨Nat.zero_le _, Nat.zero_le _⟩ (Option.some.inj hf)
    refine wr_if_ne 24 39 C dX0_cross_24 (by decide) (fun c11 => ?_) (fun c11 => ?_)
    · replace hf := o_neg c11 hf
      refine wr_sub [] [] rfl ?_
      exact hJcross39  μ8 hf
    · replace hf := o_pos c11 hf
      refine wr_aload_n 27 C dX0_cross_27 0 rfl rfl ?_
      refine gespX_0_0_X0 28 C dX0_cross_28 ?_
      refine gespX_1_6_X0 31 C dX0_cross_31 ?_
      refine wr_bipush 34 C dX0_cross_34 (v := 40) rfl ?_
      refine wr_icmp_ne 36 42 C dX0_cross_36 (by decide) (fun c12 => ?_) (fun c12 => ?_)
      · replace hf := o_neg c12 hf
        refine wr_aload_n 42 C dX0_cross_42 0 rfl rfl ?_
        refine wr_bipush 43 C dX0_cross_43 (v := 100) rfl ?_
        refine wr_iload_n 45 C dX0_cross_45 3 rfl rfl ?_
        refine wr_imul 46 C dX0_cross_46 ?_
        refine wr_bipush 47 C dX0_cross_47 (v := 10) rfl ?_
        refine wr_iload_n 49 C dX0_cross_49 2 rfl rfl ?_
        refine wr_iconst 50 C dX0_cross_50 (v := 1) rfl ?_
        refine wr_iadd 51 C dX0_cross_51 ?_
        refine wr_imul 52 C dX0_cross_52 ?_
        refine wr_iadd 53 C dX0_cross_53 ?_
        refine wr_iload_n 54 C dX0_cross_54 1 rfl rfl ?_
        refine wr_iadd 55 C dX0_cross_55 ?_
        obtain ⟨v15, μ14, h13, hf⟩ := o_bind hf
        refine wr_Vi (kc1 := 0) (ks1 := 0) 56 [] C dX0_cross_56 (tX0_keeps l N   ((((100 : Int32) * a3) + ((10 : Int32) * (a2 + (1 : Int32)))) + a1) μ8 (v15, μ14) h13) okX0_keeps q810 (b := 0) spX_0 rfl ⟨rfl, rfl, Nat.le_of_ble_eq_true rfl, Nat.le_of_ble_eq_true rfl, Nat.zero_le _, Nat.zero_le _⟩ (Nat.le_of_ble_eq_true rfl) rfl ?_
        exact wr_iret 59 C dX0_cross_59 ⟨Nat.zero_le _, Nat.zero_le _⟩ (Option.some.inj hf)
      · replace hf := o_pos c12 hf
        refine wr_sub [] [] rfl ?_
        exact hJcross39  μ8 hf
  · replace hf := o_pos c4 hf
    refine wr_bipush 10 C dX0_cross_10 (v := (-2)) rfl ?_
    exact wr_iret 12 C dX0_cross_12 ⟨Nat.zero_le _, Nat.zero_le _⟩ (Option.some.inj hf)
abbrev cX0_loaf : ByteArray := prog_1_method_45_code
def yX0_loaf : MethodName := ⟨RX0, "loaf", "()I"⟩
def dkwX0_loaf_1 : List UInt8 := [172, 42, 182, 0, 249, 42, 17, 0, 200, 182, 1, 15, 172]
abbrev dktX0_loaf_1 : List UInt8 := dkwX0_loaf_1 ++ []
def dkwX0_loaf_0 : List UInt8 := [42, 182, 0, 252, 154, 0, 6, 16, 254, 172, 42, 180, 0, 12, 180, 0, 231, 16, 40, 160, 0, 6, 16, 251]
abbrev dktX0_loaf_0 : List UInt8 := dkwX0_loaf_0 ++ dktX0_loaf_1
theorem dksX0_loaf_0 : cX0_loaf.data.toList.drop 0 = dktX0_loaf_0 := by decide +kernel
theorem dksX0_loaf_1 : cX0_loaf.data.toList.drop 24 = dktX0_loaf_1 := dk_seg dksX0_loaf_0 24 rfl rfl
theorem dX0_loaf_0 : decode cX0_loaf 0 = .ok (.aload_n 0, 1) := dk_42 (dk_at dksX0_loaf_0 0 rfl rfl)
theorem dX0_loaf_1 : decode cX0_loaf 1 = .ok (.invokevirtual 252, 3) := dk_182 0 252 (dk_at dksX0_loaf_0 1 rfl rfl)
theorem dX0_loaf_4 : decode cX0_loaf 4 = .ok (.ifCond .ne 6, 3) := dk_154 0 6 (dk_at dksX0_loaf_0 4 rfl rfl)
theorem dX0_loaf_7 : decode cX0_loaf 7 = .ok (.bipush (-2), 2) := dk_16 254 (dk_at dksX0_loaf_0 7 rfl rfl)
theorem dX0_loaf_9 : decode cX0_loaf 9 = .ok (.ireturn, 1) := dk_172 (dk_at dksX0_loaf_0 9 rfl rfl)
theorem dX0_loaf_10 : decode cX0_loaf 10 = .ok (.aload_n 0, 1) := dk_42 (dk_at dksX0_loaf_0 10 rfl rfl)
theorem dX0_loaf_11 : decode cX0_loaf 11 = .ok (.getfield 12, 3) := dk_180 0 12 (dk_at dksX0_loaf_0 11 rfl rfl)
theorem dX0_loaf_14 : decode cX0_loaf 14 = .ok (.getfield 231, 3) := dk_180 0 231 (dk_at dksX0_loaf_0 14 rfl rfl)
theorem dX0_loaf_17 : decode cX0_loaf 17 = .ok (.bipush 40, 2) := dk_16 40 (dk_at dksX0_loaf_0 17 rfl rfl)
theorem dX0_loaf_19 : decode cX0_loaf 19 = .ok (.if_icmp .ne 6, 3) := dk_160 0 6 (dk_at dksX0_loaf_0 19 rfl rfl)
theorem dX0_loaf_22 : decode cX0_loaf 22 = .ok (.bipush (-5), 2) := dk_16 251 (dk_at dksX0_loaf_0 22 rfl rfl)
theorem dX0_loaf_24 : decode cX0_loaf 24 = .ok (.ireturn, 1) := dk_172 (dk_at dksX0_loaf_1 0 rfl rfl)
theorem dX0_loaf_25 : decode cX0_loaf 25 = .ok (.aload_n 0, 1) := dk_42 (dk_at dksX0_loaf_1 1 rfl rfl)
theorem dX0_loaf_26 : decode cX0_loaf 26 = .ok (.invokevirtual 249, 3) := dk_182 0 249 (dk_at dksX0_loaf_1 2 rfl rfl)
theorem dX0_loaf_29 : decode cX0_loaf 29 = .ok (.aload_n 0, 1) := dk_42 (dk_at dksX0_loaf_1 5 rfl rfl)
theorem dX0_loaf_30 : decode cX0_loaf 30 = .ok (.sipush 200, 3) := dk_17 0 200 (dk_at dksX0_loaf_1 6 rfl rfl)
theorem dX0_loaf_33 : decode cX0_loaf 33 = .ok (.invokevirtual 271, 3) := dk_182 1 15 (dk_at dksX0_loaf_1 9 rfl rfl)
theorem dX0_loaf_36 : decode cX0_loaf 36 = .ok (.ireturn, 1) := dk_172 (dk_at dksX0_loaf_1 12 rfl rfl)

theorem okX0_loaf : wOkV yX0_loaf cX0_loaf 1 (some .int) 0 := ⟨q815, q816, q136, q817, by decide, by decide, by decide +kernel⟩
def fX0_loaf (N : Nat)   (μ : wMem) : Option (Int32 × wMem) :=
  wBind (fX0_isFamily N   μ) fun v3 μ2 => if v3 = 0 then some ((-2), μ2) else if (μ2.1 1 6) = (40 : Int32) then some ((-5), μ2) else wBindV (fX0_asItIs N   μ2) fun μ7 => wBind (fX0_keeps N  200 μ7) fun v10 μ9 => some (v10, μ9)
set_option maxHeartbeats 4000000 in
set_option maxRecDepth 100000 in
theorem tX0_loaf (l : Launch) {D : va_G} {E : List wCell} {q : Nat → Nat} {ca : wCA} (N : Nat)    (μ : wMem) (r0 : (Int32 × wMem)) (hf : fX0_loaf N   μ = some r0) : wMi l yX0_loaf cX0_loaf 1 (some .int) ({ frames := 4, cells := 0, slots := 0, locals := 84 } : Room) D vwCl (spX ++ E) q ca [.ref (q 0)] μ r0 := by
  refine wMi_intro (by decide) (Nat.le_of_ble_eq_true rfl) ?_
  intro p e s m args below meth c A C
  unfold fX0_loaf at hf
  refine wr_sub [(0, .ref (q 0))] [0] rfl ?_
  refine wr_aload_n 0 C dX0_loaf_0 0 rfl rfl ?_
  obtain ⟨v3, μ2, h1, hf⟩ := o_bind hf
  refine wr_Vi (kc1 := 0) (ks1 := 0) 1 [] C dX0_loaf_1 (tX0_isFamily l N    μ (v3, μ2) h1) okX0_isFamily q770 (b := 0) spX_0 rfl ⟨rfl, rfl, Nat.le_of_ble_eq_true rfl, Nat.le_of_ble_eq_true rfl, Nat.zero_le _, Nat.zero_le _⟩ (Nat.le_of_ble_eq_true rfl) rfl ?_
  refine wr_if_ne 4 10 C dX0_loaf_4 (by decide) (fun c4 => ?_) (fun c4 => ?_)
  · replace hf := o_neg c4 hf
    refine wr_aload_n 10 C dX0_loaf_10 0 rfl rfl ?_
    refine gespX_0_0_X0 11 C dX0_loaf_11 ?_
    refine gespX_1_6_X0 14 C dX0_loaf_14 ?_
    refine wr_bipush 17 C dX0_loaf_17 (v := 40) rfl ?_
    refine wr_icmp_ne 19 25 C dX0_loaf_19 (by decide) (fun c5 => ?_) (fun c5 => ?_)
    · replace hf := o_neg c5 hf
      refine wr_aload_n 25 C dX0_loaf_25 0 rfl rfl ?_
      obtain ⟨μ7, h6, hf⟩ := o_bindV hf
      refine wr_Vv (kc1 := 0) (ks1 := 0) 26 [] C dX0_loaf_26 (tX0_asItIs l N    μ2 μ7 h6) okX0_asItIs q737 (b := 0) spX_0 rfl ⟨rfl, rfl, Nat.le_of_ble_eq_true rfl, Nat.le_of_ble_eq_true rfl, Nat.zero_le _, Nat.zero_le _⟩ (Nat.le_of_ble_eq_true rfl) rfl ?_
      refine wr_aload_n 29 C dX0_loaf_29 0 rfl rfl ?_
      refine wr_sipush 30 C dX0_loaf_30 (v := 200) rfl ?_
      obtain ⟨v10, μ9, h8, hf⟩ := o_bind hf
      refine wr_Vi (kc1 := 0) (ks1 := 0) 33 [] C dX0_loaf_33 (tX0_keeps l N   200 μ7 (v10, μ9) h8) okX0_keeps q810 (b := 0) spX_0 rfl ⟨rfl, rfl, Nat.le_of_ble_eq_true rfl, Nat.le_of_ble_eq_true rfl, Nat.zero_le _, Nat.zero_le _⟩ (Nat.le_of_ble_eq_true rfl) rfl ?_
      exact wr_iret 36 C dX0_loaf_36 ⟨Nat.zero_le _, Nat.zero_le _⟩ (Option.some.inj hf)
    · replace hf := o_pos c5 hf
      refine wr_bipush 22 C dX0_loaf_22 (v := (-5)) rfl ?_
      exact wr_iret 24 C dX0_loaf_24 ⟨Nat.zero_le _, Nat.zero_le _⟩ (Option.some.inj hf)
  · replace hf := o_pos c4 hf
    refine wr_bipush 7 C dX0_loaf_7 (v := (-2)) rfl ?_
    exact wr_iret 9 C dX0_loaf_9 ⟨Nat.zero_le _, Nat.zero_le _⟩ (Option.some.inj hf)
abbrev cX0_undo : ByteArray := prog_1_method_46_code
def yX0_undo : MethodName := ⟨RX0, "undo", "()I"⟩
def dkwX0_undo_1 : List UInt8 := [180, 0, 12, 89, 180, 0, 231, 4, 100, 181, 0, 231, 42, 180, 0, 12, 180, 0, 231, 172]
abbrev dktX0_undo_1 : List UInt8 := dkwX0_undo_1 ++ []
def dkwX0_undo_0 : List UInt8 := [42, 182, 0, 252, 154, 0, 6, 16, 254, 172, 42, 180, 0, 12, 180, 0, 231, 154, 0, 6, 16, 251, 172, 42]
abbrev dktX0_undo_0 : List UInt8 := dkwX0_undo_0 ++ dktX0_undo_1
theorem dksX0_undo_0 : cX0_undo.data.toList.drop 0 = dktX0_undo_0 := by decide +kernel
theorem dksX0_undo_1 : cX0_undo.data.toList.drop 24 = dktX0_undo_1 := dk_seg dksX0_undo_0 24 rfl rfl
theorem dX0_undo_0 : decode cX0_undo 0 = .ok (.aload_n 0, 1) := dk_42 (dk_at dksX0_undo_0 0 rfl rfl)
theorem dX0_undo_1 : decode cX0_undo 1 = .ok (.invokevirtual 252, 3) := dk_182 0 252 (dk_at dksX0_undo_0 1 rfl rfl)
theorem dX0_undo_4 : decode cX0_undo 4 = .ok (.ifCond .ne 6, 3) := dk_154 0 6 (dk_at dksX0_undo_0 4 rfl rfl)
theorem dX0_undo_7 : decode cX0_undo 7 = .ok (.bipush (-2), 2) := dk_16 254 (dk_at dksX0_undo_0 7 rfl rfl)
theorem dX0_undo_9 : decode cX0_undo 9 = .ok (.ireturn, 1) := dk_172 (dk_at dksX0_undo_0 9 rfl rfl)
theorem dX0_undo_10 : decode cX0_undo 10 = .ok (.aload_n 0, 1) := dk_42 (dk_at dksX0_undo_0 10 rfl rfl)
theorem dX0_undo_11 : decode cX0_undo 11 = .ok (.getfield 12, 3) := dk_180 0 12 (dk_at dksX0_undo_0 11 rfl rfl)
theorem dX0_undo_14 : decode cX0_undo 14 = .ok (.getfield 231, 3) := dk_180 0 231 (dk_at dksX0_undo_0 14 rfl rfl)
theorem dX0_undo_17 : decode cX0_undo 17 = .ok (.ifCond .ne 6, 3) := dk_154 0 6 (dk_at dksX0_undo_0 17 rfl rfl)
theorem dX0_undo_20 : decode cX0_undo 20 = .ok (.bipush (-5), 2) := dk_16 251 (dk_at dksX0_undo_0 20 rfl rfl)
theorem dX0_undo_22 : decode cX0_undo 22 = .ok (.ireturn, 1) := dk_172 (dk_at dksX0_undo_0 22 rfl rfl)
theorem dX0_undo_23 : decode cX0_undo 23 = .ok (.aload_n 0, 1) := dk_42 (dk_at dksX0_undo_0 23 rfl rfl)
theorem dX0_undo_24 : decode cX0_undo 24 = .ok (.getfield 12, 3) := dk_180 0 12 (dk_at dksX0_undo_1 0 rfl rfl)
theorem dX0_undo_27 : decode cX0_undo 27 = .ok (.dup, 1) := dk_89 (dk_at dksX0_undo_1 3 rfl rfl)
theorem dX0_undo_28 : decode cX0_undo 28 = .ok (.getfield 231, 3) := dk_180 0 231 (dk_at dksX0_undo_1 4 rfl rfl)
theorem dX0_undo_31 : decode cX0_undo 31 = .ok (.iconst 1, 1) := dk_4 (dk_at dksX0_undo_1 7 rfl rfl)
theorem dX0_undo_32 : decode cX0_undo 32 = .ok (.isub, 1) := dk_100 (dk_at dksX0_undo_1 8 rfl rfl)
theorem dX0_undo_33 : decode cX0_undo 33 = .ok (.putfield 231, 3) := dk_181 0 231 (dk_at dksX0_undo_1 9 rfl rfl)
theorem dX0_undo_36 : decode cX0_undo 36 = .ok (.aload_n 0, 1) := dk_42 (dk_at dksX0_undo_1 12 rfl rfl)
theorem dX0_undo_37 : decode cX0_undo 37 = .ok (.getfield 12, 3) := dk_180 0 12 (dk_at dksX0_undo_1 13 rfl rfl)
theorem dX0_undo_40 : decode cX0_undo 40 = .ok (.getfield 231, 3) := dk_180 0 231 (dk_at dksX0_undo_1 16 rfl rfl)
theorem dX0_undo_43 : decode cX0_undo 43 = .ok (.ireturn, 1) := dk_172 (dk_at dksX0_undo_1 19 rfl rfl)

theorem okX0_undo : wOkV yX0_undo cX0_undo 1 (some .int) 0 := ⟨q819, q820, q136, q821, by decide, by decide, by decide +kernel⟩
def fX0_undo (N : Nat)   (μ : wMem) : Option (Int32 × wMem) :=
  wBind (fX0_isFamily N   μ) fun v3 μ2 => if v3 = 0 then some ((-2), μ2) else if (μ2.1 1 6) = 0 then some ((-5), μ2) else wLet (wSI μ2 1 6 ((μ2.1 1 6) - (1 : Int32))) fun μ6 => some (μ6.1 1 6, μ6)
set_option maxHeartbeats 4000000 in
set_option maxRecDepth 100000 in
theorem tX0_undo (l : Launch) {D : va_G} {E : List wCell} {q : Nat → Nat} {ca : wCA} (N : Nat)    (μ : wMem) (r0 : (Int32 × wMem)) (hf : fX0_undo N   μ = some r0) : wMi l yX0_undo cX0_undo 1 (some .int) ({ frames := 1, cells := 0, slots := 0, locals := 20 } : Room) D vwCl (spX ++ E) q ca [.ref (q 0)] μ r0 := by
  refine wMi_intro (by decide) (Nat.le_of_ble_eq_true rfl) ?_
  intro p e s m args below meth c A C
  unfold fX0_undo at hf
  refine wr_sub [(0, .ref (q 0))] [0] rfl ?_
  refine wr_aload_n 0 C dX0_undo_0 0 rfl rfl ?_
  obtain ⟨v3, μ2, h1, hf⟩ := o_bind hf
  refine wr_Vi (kc1 := 0) (ks1 := 0) 1 [] C dX0_undo_1 (tX0_isFamily l N    μ (v3, μ2) h1) okX0_isFamily q770 (b := 0) spX_0 rfl ⟨rfl, rfl, Nat.le_of_ble_eq_true rfl, Nat.le_of_ble_eq_true rfl, Nat.zero_le _, Nat.zero_le _⟩ (Nat.le_of_ble_eq_true rfl) rfl ?_
  refine wr_if_ne 4 10 C dX0_undo_4 (by decide) (fun c4 => ?_) (fun c4 => ?_)
  · replace hf := o_neg c4 hf
    refine wr_aload_n 10 C dX0_undo_10 0 rfl rfl ?_
    refine gespX_0_0_X0 11 C dX0_undo_11 ?_
    refine gespX_1_6_X0 14 C dX0_undo_14 ?_
    refine wr_if_ne 17 23 C dX0_undo_17 (by decide) (fun c5 => ?_) (fun c5 => ?_)
    · replace hf := o_neg c5 hf
      refine wr_aload_n 23 C dX0_undo_23 0 rfl rfl ?_
      refine gespX_0_0_X0 24 C dX0_undo_24 ?_
      refine wr_dup 27 C dX0_undo_27 rfl ?_
      refine gespX_1_6_X0 28 C dX0_undo_28 ?_
      refine wr_iconst 31 C dX0_undo_31 (v := 1) rfl ?_
      refine wr_isub 32 C dX0_undo_32 ?_
      obtain ⟨μ6, eμ6, hf⟩ := o_let hf
      refine puspX_1_6_X0 33 C dX0_undo_33 eμ6 ?_
      refine wr_aload_n 36 C dX0_undo_36 0 rfl rfl ?_
      refine gespX_0_0_X0 37 C dX0_undo_37 ?_
      refine gespX_1_6_X0 40 C dX0_undo_40 ?_
      exact wr_iret 43 C dX0_undo_43 ⟨Nat.zero_le _, Nat.zero_le _⟩ (Option.some.inj hf)
    · replace hf := o_pos c5 hf
      refine wr_bipush 20 C dX0_undo_20 (v := (-5)) rfl ?_
      exact wr_iret 22 C dX0_undo_22 ⟨Nat.zero_le _, Nat.zero_le _⟩ (Option.some.inj hf)
  · replace hf := o_pos c4 hf
    refine wr_bipush 7 C dX0_undo_7 (v := (-2)) rfl ?_
    exact wr_iret 9 C dX0_undo_9 ⟨Nat.zero_le _, Nat.zero_le _⟩ (Option.some.inj hf)
abbrev cX0_anew : ByteArray := prog_1_method_47_code
def yX0_anew : MethodName := ⟨RX0, "anew", "()I"⟩
def dkwX0_anew_1 : List UInt8 := [181, 0, 231, 27, 172]
abbrev dktX0_anew_1 : List UInt8 := dkwX0_anew_1 ++ []
def dkwX0_anew_0 : List UInt8 := [42, 182, 0, 252, 154, 0, 6, 16, 254, 172, 42, 180, 0, 12, 180, 0, 231, 60, 42, 180, 0, 12, 3]
abbrev dktX0_anew_0 : List UInt8 := dkwX0_anew_0 ++ dktX0_anew_1
theorem dksX0_anew_0 : cX0_anew.data.toList.drop 0 = dktX0_anew_0 := by decide +kernel
theorem dksX0_anew_1 : cX0_anew.data.toList.drop 23 = dktX0_anew_1 := dk_seg dksX0_anew_0 23 rfl rfl
theorem dX0_anew_0 : decode cX0_anew 0 = .ok (.aload_n 0, 1) := dk_42 (dk_at dksX0_anew_0 0 rfl rfl)
theorem dX0_anew_1 : decode cX0_anew 1 = .ok (.invokevirtual 252, 3) := dk_182 0 252 (dk_at dksX0_anew_0 1 rfl rfl)
theorem dX0_anew_4 : decode cX0_anew 4 = .ok (.ifCond .ne 6, 3) := dk_154 0 6 (dk_at dksX0_anew_0 4 rfl rfl)
theorem dX0_anew_7 : decode cX0_anew 7 = .ok (.bipush (-2), 2) := dk_16 254 (dk_at dksX0_anew_0 7 rfl rfl)
theorem dX0_anew_9 : decode cX0_anew 9 = .ok (.ireturn, 1) := dk_172 (dk_at dksX0_anew_0 9 rfl rfl)
theorem dX0_anew_10 : decode cX0_anew 10 = .ok (.aload_n 0, 1) := dk_42 (dk_at dksX0_anew_0 10 rfl rfl)
theorem dX0_anew_11 : decode cX0_anew 11 = .ok (.getfield 12, 3) := dk_180 0 12 (dk_at dksX0_anew_0 11 rfl rfl)
theorem dX0_anew_14 : decode cX0_anew 14 = .ok (.getfield 231, 3) := dk_180 0 231 (dk_at dksX0_anew_0 14 rfl rfl)
theorem dX0_anew_17 : decode cX0_anew 17 = .ok (.istore_n 1, 1) := dk_60 (dk_at dksX0_anew_0 17 rfl rfl)
theorem dX0_anew_18 : decode cX0_anew 18 = .ok (.aload_n 0, 1) := dk_42 (dk_at dksX0_anew_0 18 rfl rfl)
theorem dX0_anew_19 : decode cX0_anew 19 = .ok (.getfield 12, 3) := dk_180 0 12 (dk_at dksX0_anew_0 19 rfl rfl)
theorem dX0_anew_22 : decode cX0_anew 22 = .ok (.iconst 0, 1) := dk_3 (dk_at dksX0_anew_0 22 rfl rfl)
theorem dX0_anew_23 : decode cX0_anew 23 = .ok (.putfield 231, 3) := dk_181 0 231 (dk_at dksX0_anew_1 0 rfl rfl)
theorem dX0_anew_26 : decode cX0_anew 26 = .ok (.iload_n 1, 1) := dk_27 (dk_at dksX0_anew_1 3 rfl rfl)
theorem dX0_anew_27 : decode cX0_anew 27 = .ok (.ireturn, 1) := dk_172 (dk_at dksX0_anew_1 4 rfl rfl)

theorem okX0_anew : wOkV yX0_anew cX0_anew 2 (some .int) 0 := ⟨q823, q824, q136, q825, by decide, by decide, by decide +kernel⟩
def fX0_anew (N : Nat)   (μ : wMem) : Option (Int32 × wMem) :=
  wBind (fX0_isFamily N   μ) fun v3 μ2 => if v3 = 0 then some ((-2), μ2) else wLet (μ2.1 1 6 : Int32) fun x5 => wLet (wSI μ2 1 6 (0 : Int32)) fun μ6 => some (x5, μ6)
set_option maxHeartbeats 4000000 in
set_option maxRecDepth 100000 in
theorem tX0_anew (l : Launch) {D : va_G} {E : List wCell} {q : Nat → Nat} {ca : wCA} (N : Nat)    (μ : wMem) (r0 : (Int32 × wMem)) (hf : fX0_anew N   μ = some r0) : wMi l yX0_anew cX0_anew 2 (some .int) ({ frames := 1, cells := 0, slots := 0, locals := 20 } : Room) D vwCl (spX ++ E) q ca [.ref (q 0)] μ r0 := by
  refine wMi_intro (by decide) (Nat.le_of_ble_eq_true rfl) ?_
  intro p e s m args below meth c A C
  unfold fX0_anew at hf
  refine wr_sub [(0, .ref (q 0))] [0] rfl ?_
  refine wr_aload_n 0 C dX0_anew_0 0 rfl rfl ?_
  obtain ⟨v3, μ2, h1, hf⟩ := o_bind hf
  refine wr_Vi (kc1 := 0) (ks1 := 0) 1 [] C dX0_anew_1 (tX0_isFamily l N    μ (v3, μ2) h1) okX0_isFamily q770 (b := 0) spX_0 rfl ⟨rfl, rfl, Nat.le_of_ble_eq_true rfl, Nat.le_of_ble_eq_true rfl, Nat.zero_le _, Nat.zero_le _⟩ (Nat.le_of_ble_eq_true rfl) rfl ?_
  refine wr_if_ne 4 10 C dX0_anew_4 (by decide) (fun c4 => ?_) (fun c4 => ?_)
  · replace hf := o_neg c4 hf
    refine wr_aload_n 10 C dX0_anew_10 0 rfl rfl ?_
    refine gespX_0_0_X0 11 C dX0_anew_11 ?_
    refine gespX_1_6_X0 14 C dX0_anew_14 ?_
    obtain ⟨x5, ex5, hf⟩ := o_let hf
    refine wr_istore_n 17 [(1, .int x5), (0, .ref (q 0))] C dX0_anew_17 ex5 rfl (Nat.le_of_ble_eq_true rfl) rfl ?_
    refine wr_aload_n 18 C dX0_anew_18 1 rfl rfl ?_
    refine gespX_0_0_X0 19 C dX0_anew_19 ?_
    refine wr_iconst 22 C dX0_anew_22 (v := 0) rfl ?_
    obtain ⟨μ6, eμ6, hf⟩ := o_let hf
    refine puspX_1_6_X0 23 C dX0_anew_23 eμ6 ?_
    refine wr_iload_n 26 C dX0_anew_26 0 rfl rfl ?_
    exact wr_iret 27 C dX0_anew_27 ⟨Nat.zero_le _, Nat.zero_le _⟩ (Option.some.inj hf)
  · replace hf := o_pos c4 hf
    refine wr_bipush 7 C dX0_anew_7 (v := (-2)) rfl ?_
    exact wr_iret 9 C dX0_anew_9 ⟨Nat.zero_le _, Nat.zero_le _⟩ (Option.some.inj hf)
abbrev cX0_act : ByteArray := prog_1_method_48_code
def yX0_act : MethodName := ⟨RX0, "act", "(I)I"⟩
def dkwX0_act_1 : List UInt8 := [133, 184, 0, 103, 153, 0, 15, 42, 180, 0, 12, 180, 0, 234, 27, 46, 167, 0, 4, 2, 172]
abbrev dktX0_act_1 : List UInt8 := dkwX0_act_1 ++ []
def dkwX0_act_0 : List UInt8 := [42, 182, 0, 252, 154, 0, 8, 16, 254, 167, 0, 35, 27, 133, 9, 42, 180, 0, 12, 180, 0, 231, 4, 100]
abbrev dktX0_act_0 : List UInt8 := dkwX0_act_0 ++ dktX0_act_1
theorem dksX0_act_0 : cX0_act.data.toList.drop 0 = dktX0_act_0 := by decide +kernel
theorem dksX0_act_1 : cX0_act.data.toList.drop 24 = dktX0_act_1 := dk_seg dksX0_act_0 24 rfl rfl
theorem dX0_act_0 : decode cX0_act 0 = .ok (.aload_n 0, 1) := dk_42 (dk_at dksX0_act_0 0 rfl rfl)
theorem dX0_act_1 : decode cX0_act 1 = .ok (.invokevirtual 252, 3) := dk_182 0 252 (dk_at dksX0_act_0 1 rfl rfl)
theorem dX0_act_4 : decode cX0_act 4 = .ok (.ifCond .ne 8, 3) := dk_154 0 8 (dk_at dksX0_act_0 4 rfl rfl)
theorem dX0_act_7 : decode cX0_act 7 = .ok (.bipush (-2), 2) := dk_16 254 (dk_at dksX0_act_0 7 rfl rfl)
theorem dX0_act_9 : decode cX0_act 9 = .ok (.goto 35, 3) := dk_167 0 35 (dk_at dksX0_act_0 9 rfl rfl)
theorem dX0_act_12 : decode cX0_act 12 = .ok (.iload_n 1, 1) := dk_27 (dk_at dksX0_act_0 12 rfl rfl)
theorem dX0_act_13 : decode cX0_act 13 = .ok (.i2l, 1) := dk_133 (dk_at dksX0_act_0 13 rfl rfl)
theorem dX0_act_14 : decode cX0_act 14 = .ok (.lconst 0, 1) := dk_9 (dk_at dksX0_act_0 14 rfl rfl)
theorem dX0_act_15 : decode cX0_act 15 = .ok (.aload_n 0, 1) := dk_42 (dk_at dksX0_act_0 15 rfl rfl)
theorem dX0_act_16 : decode cX0_act 16 = .ok (.getfield 12, 3) := dk_180 0 12 (dk_at dksX0_act_0 16 rfl rfl)
theorem dX0_act_19 : decode cX0_act 19 = .ok (.getfield 231, 3) := dk_180 0 231 (dk_at dksX0_act_0 19 rfl rfl)
theorem dX0_act_22 : decode cX0_act 22 = .ok (.iconst 1, 1) := dk_4 (dk_at dksX0_act_0 22 rfl rfl)
theorem dX0_act_23 : decode cX0_act 23 = .ok (.isub, 1) := dk_100 (dk_at dksX0_act_0 23 rfl rfl)
theorem dX0_act_24 : decode cX0_act 24 = .ok (.i2l, 1) := dk_133 (dk_at dksX0_act_1 0 rfl rfl)
theorem dX0_act_25 : decode cX0_act 25 = .ok (.invokestatic 103, 3) := dk_184 0 103 (dk_at dksX0_act_1 1 rfl rfl)
theorem dX0_act_28 : decode cX0_act 28 = .ok (.ifCond .eq 15, 3) := dk_153 0 15 (dk_at dksX0_act_1 4 rfl rfl)
theorem dX0_act_31 : decode cX0_act 31 = .ok (.aload_n 0, 1) := dk_42 (dk_at dksX0_act_1 7 rfl rfl)
theorem dX0_act_32 : decode cX0_act 32 = .ok (.getfield 12, 3) := dk_180 0 12 (dk_at dksX0_act_1 8 rfl rfl)
theorem dX0_act_35 : decode cX0_act 35 = .ok (.getfield 234, 3) := dk_180 0 234 (dk_at dksX0_act_1 11 rfl rfl)
theorem dX0_act_38 : decode cX0_act 38 = .ok (.iload_n 1, 1) := dk_27 (dk_at dksX0_act_1 14 rfl rfl)
theorem dX0_act_39 : decode cX0_act 39 = .ok (.iaload, 1) := dk_46 (dk_at dksX0_act_1 15 rfl rfl)
theorem dX0_act_40 : decode cX0_act 40 = .ok (.goto 4, 3) := dk_167 0 4 (dk_at dksX0_act_1 16 rfl rfl)
theorem dX0_act_43 : decode cX0_act 43 = .ok (.iconst (-1), 1) := dk_2 (dk_at dksX0_act_1 19 rfl rfl)
theorem dX0_act_44 : decode cX0_act 44 = .ok (.ireturn, 1) := dk_172 (dk_at dksX0_act_1 20 rfl rfl)

theorem okX0_act : wOkV yX0_act cX0_act 2 (some .int) 1 := ⟨q827, q828, q136, q829, by decide, by decide, by decide +kernel⟩
def fX0_act (N : Nat)  (a1 : Int32) (μ : wMem) : Option (Int32 × wMem) :=
  wBind (fX0_isFamily N   μ) fun v3 μ2 => if v3 = 0 then some ((-2), μ2) else wBind (fX0_isIn N  (Int32.toInt64 a1) 0 (Int32.toInt64 ((μ2.1 1 6) - (1 : Int32))) μ2) fun v7 μ6 => if v7 = 0 then some ((-1), μ6) else wG (ok_in a1 40) (some (μ6.1 7 (Int32.toNatClampNeg a1), μ6))
set_option maxHeartbeats 4000000 in
set_option maxRecDepth 100000 in
theorem tX0_act (l : Launch) {D : va_G} {E : List wCell} {q : Nat → Nat} {ca : wCA} (N : Nat)   (a1 : Int32) (μ : wMem) (r0 : (Int32 × wMem)) (hf : fX0_act N  a1 μ = some r0) : wMi l yX0_act cX0_act 2 (some .int) ({ frames := 1, cells := 0, slots := 0, locals := 25 } : Room) D vwCl (spX ++ E) q ca [.ref (q 0), .int a1] μ r0 := by
  refine wMi_intro (by decide) (Nat.le_of_ble_eq_true rfl) ?_
  intro p e s m args below meth c A C
  unfold fX0_act at hf
  refine wr_sub [(0, .ref (q 0)), (1, .int a1)] [0, 1] rfl ?_
  refine wr_aload_n 0 C dX0_act_0 0 rfl rfl ?_
  obtain ⟨v3, μ2, h1, hf⟩ := o_bind hf
  refine wr_Vi (kc1 := 0) (ks1 := 0) 1 [] C dX0_act_1 (tX0_isFamily l N    μ (v3, μ2) h1) okX0_isFamily q770 (b := 0) spX_0 rfl ⟨rfl, rfl, Nat.le_of_ble_eq_true rfl, Nat.le_of_ble_eq_true rfl, Nat.zero_le _, Nat.zero_le _⟩ (Nat.le_of_ble_eq_true rfl) rfl ?_
  refine wr_if_ne 4 12 C dX0_act_4 (by decide) (fun c4 => ?_) (fun c4 => ?_)
  · replace hf := o_neg c4 hf
    refine wr_iload_n 12 C dX0_act_12 1 rfl rfl ?_
    refine wr_i2l 13 C dX0_act_13 ?_
    refine wr_lconst 14 C dX0_act_14 (v := 0) rfl ?_
    refine wr_aload_n 15 C dX0_act_15 0 rfl rfl ?_
    refine gespX_0_0_X0 16 C dX0_act_16 ?_
    refine gespX_1_6_X0 19 C dX0_act_19 ?_
    refine wr_iconst 22 C dX0_act_22 (v := 1) rfl ?_
    refine wr_isub 23 C dX0_act_23 ?_
    refine wr_i2l 24 C dX0_act_24 ?_
    obtain ⟨v7, μ6, h5, hf⟩ := o_bind hf
    refine wr_Si (kc1 := 0) (ks1 := 0) 25 [] C dX0_act_25 (tX0_isIn l N   (Int32.toInt64 a1) 0 (Int32.toInt64 ((μ2.1 1 6) - (1 : Int32))) μ2 (v7, μ6) h5) okX0_isIn q446 ⟨rfl, rfl, Nat.le_of_ble_eq_true rfl, Nat.le_of_ble_eq_true rfl, Nat.zero_le _, Nat.zero_le _⟩ (Nat.le_of_ble_eq_true rfl) rfl ?_
    refine wr_if_eq 28 43 C dX0_act_28 (by decide) (fun c8 => ?_) (fun c8 => ?_)
    · replace hf := o_pos c8 hf
      refine wr_iconst 43 C dX0_act_43 (v := (-1)) rfl ?_
      exact wr_iret 44 C dX0_act_44 ⟨Nat.zero_le _, Nat.zero_le _⟩ (Option.some.inj hf)
    · replace hf := o_neg c8 hf
      refine wr_aload_n 31 C dX0_act_31 0 rfl rfl ?_
      refine gespX_0_0_X0 32 C dX0_act_32 ?_
      refine gespX_1_13_X0 35 C dX0_act_35 ?_
      refine wr_iload_n 38 C dX0_act_38 1 rfl rfl ?_
      obtain ⟨g9, hf⟩ := o_g hf
      refine wr_iald 39 C dX0_act_39 spX_7 g9 ?_
      refine wr_goto 40 C dX0_act_40 (tgt := 44) (by decide) ?_
      exact wr_iret 44 C dX0_act_44 ⟨Nat.zero_le _, Nat.zero_le _⟩ (Option.some.inj hf)
  · replace hf := o_pos c4 hf
    refine wr_bipush 7 C dX0_act_7 (v := (-2)) rfl ?_
    refine wr_goto 9 C dX0_act_9 (tgt := 44) (by decide) ?_
    exact wr_iret 44 C dX0_act_44 ⟨Nat.zero_le _, Nat.zero_le _⟩ (Option.some.inj hf)
abbrev cX0_isAct : ByteArray := prog_1_method_28_code
def yX0_isAct : MethodName := ⟨RX0, "isAct", "(J)Z"⟩
def dkwX0_isAct_2 : List UInt8 := [184, 0, 204, 182, 0, 134, 153, 0, 7, 4, 167, 0, 4, 3, 172]
abbrev dktX0_isAct_2 : List UInt8 := dkwX0_isAct_2 ++ []
def dkwX0_isAct_1 : List UInt8 := [184, 0, 198, 182, 0, 146, 153, 0, 31, 42, 31, 136, 184, 0, 201, 182, 0, 165, 153, 0, 19, 42, 31, 136]
abbrev dktX0_isAct_1 : List UInt8 := dkwX0_isAct_1 ++ dktX0_isAct_2
def dkwX0_isAct_0 : List UInt8 := [31, 20, 0, 194, 148, 153, 0, 50, 31, 9, 20, 0, 196, 184, 0, 103, 153, 0, 43, 42, 31, 136]
abbrev dktX0_isAct_0 : List UInt8 := dkwX0_isAct_0 ++ dktX0_isAct_1
theorem dksX0_isAct_0 : cX0_isAct.data.toList.drop 0 = dktX0_isAct_0 := by decide +kernel
theorem dksX0_isAct_1 : cX0_isAct.data.toList.drop 22 = dktX0_isAct_1 := dk_seg dksX0_isAct_0 22 rfl rfl
theorem dksX0_isAct_2 : cX0_isAct.data.toList.drop 46 = dktX0_isAct_2 := dk_seg dksX0_isAct_1 24 rfl rfl
theorem dX0_isAct_0 : decode cX0_isAct 0 = .ok (.lload_n 1, 1) := dk_31 (dk_at dksX0_isAct_0 0 rfl rfl)
theorem dX0_isAct_1 : decode cX0_isAct 1 = .ok (.ldc2_w 194, 3) := dk_20 0 194 (dk_at dksX0_isAct_0 1 rfl rfl)
theorem dX0_isAct_4 : decode cX0_isAct 4 = .ok (.lcmp, 1) := dk_148 (dk_at dksX0_isAct_0 4 rfl rfl)
theorem dX0_isAct_5 : decode cX0_isAct 5 = .ok (.ifCond .eq 50, 3) := dk_153 0 50 (dk_at dksX0_isAct_0 5 rfl rfl)
theorem dX0_isAct_8 : decode cX0_isAct 8 = .ok (.lload_n 1, 1) := dk_31 (dk_at dksX0_isAct_0 8 rfl rfl)
theorem dX0_isAct_9 : decode cX0_isAct 9 = .ok (.lconst 0, 1) := dk_9 (dk_at dksX0_isAct_0 9 rfl rfl)
theorem dX0_isAct_10 : decode cX0_isAct 10 = .ok (.ldc2_w 196, 3) := dk_20 0 196 (dk_at dksX0_isAct_0 10 rfl rfl)
theorem dX0_isAct_13 : decode cX0_isAct 13 = .ok (.invokestatic 103, 3) := dk_184 0 103 (dk_at dksX0_isAct_0 13 rfl rfl)
theorem dX0_isAct_16 : decode cX0_isAct 16 = .ok (.ifCond .eq 43, 3) := dk_153 0 43 (dk_at dksX0_isAct_0 16 rfl rfl)
theorem dX0_isAct_19 : decode cX0_isAct 19 = .ok (.aload_n 0, 1) := dk_42 (dk_at dksX0_isAct_0 19 rfl rfl)
theorem dX0_isAct_20 : decode cX0_isAct 20 = .ok (.lload_n 1, 1) := dk_31 (dk_at dksX0_isAct_0 20 rfl rfl)
theorem dX0_isAct_21 : decode cX0_isAct 21 = .ok (.l2i, 1) := dk_136 (dk_at dksX0_isAct_0 21 rfl rfl)
theorem dX0_isAct_22 : decode cX0_isAct 22 = .ok (.invokestatic 198, 3) := dk_184 0 198 (dk_at dksX0_isAct_1 0 rfl rfl)
theorem dX0_isAct_25 : decode cX0_isAct 25 = .ok (.invokevirtual 146, 3) := dk_182 0 146 (dk_at dksX0_isAct_1 3 rfl rfl)
theorem dX0_isAct_28 : decode cX0_isAct 28 = .ok (.ifCond .eq 31, 3) := dk_153 0 31 (dk_at dksX0_isAct_1 6 rfl rfl)
theorem dX0_isAct_31 : decode cX0_isAct 31 = .ok (.aload_n 0, 1) := dk_42 (dk_at dksX0_isAct_1 9 rfl rfl)
theorem dX0_isAct_32 : decode cX0_isAct 32 = .ok (.lload_n 1, 1) := dk_31 (dk_at dksX0_isAct_1 10 rfl rfl)
theorem dX0_isAct_33 : decode cX0_isAct 33 = .ok (.l2i, 1) := dk_136 (dk_at dksX0_isAct_1 11 rfl rfl)
theorem dX0_isAct_34 : decode cX0_isAct 34 = .ok (.invokestatic 201, 3) := dk_184 0 201 (dk_at dksX0_isAct_1 12 rfl rfl)
theorem dX0_isAct_37 : decode cX0_isAct 37 = .ok (.invokevirtual 165, 3) := dk_182 0 165 (dk_at dksX0_isAct_1 15 rfl rfl)
theorem dX0_isAct_40 : decode cX0_isAct 40 = .ok (.ifCond .eq 19, 3) := dk_153 0 19 (dk_at dksX0_isAct_1 18 rfl rfl)
theorem dX0_isAct_43 : decode cX0_isAct 43 = .ok (.aload_n 0, 1) := dk_42 (dk_at dksX0_isAct_1 21 rfl rfl)
theorem dX0_isAct_44 : decode cX0_isAct 44 = .ok (.lload_n 1, 1) := dk_31 (dk_at dksX0_isAct_1 22 rfl rfl)
theorem dX0_isAct_45 : decode cX0_isAct 45 = .ok (.l2i, 1) := dk_136 (dk_at dksX0_isAct_1 23 rfl rfl)
theorem dX0_isAct_46 : decode cX0_isAct 46 = .ok (.invokestatic 204, 3) := dk_184 0 204 (dk_at dksX0_isAct_2 0 rfl rfl)
theorem dX0_isAct_49 : decode cX0_isAct 49 = .ok (.invokevirtual 134, 3) := dk_182 0 134 (dk_at dksX0_isAct_2 3 rfl rfl)
theorem dX0_isAct_52 : decode cX0_isAct 52 = .ok (.ifCond .eq 7, 3) := dk_153 0 7 (dk_at dksX0_isAct_2 6 rfl rfl)
theorem dX0_isAct_55 : decode cX0_isAct 55 = .ok (.iconst 1, 1) := dk_4 (dk_at dksX0_isAct_2 9 rfl rfl)
theorem dX0_isAct_56 : decode cX0_isAct 56 = .ok (.goto 4, 3) := dk_167 0 4 (dk_at dksX0_isAct_2 10 rfl rfl)
theorem dX0_isAct_59 : decode cX0_isAct 59 = .ok (.iconst 0, 1) := dk_3 (dk_at dksX0_isAct_2 13 rfl rfl)
theorem dX0_isAct_60 : decode cX0_isAct 60 = .ok (.ireturn, 1) := dk_172 (dk_at dksX0_isAct_2 14 rfl rfl)

theorem okX0_isAct : wOkV yX0_isAct cX0_isAct 3 (some .boolean) 1 := ⟨q840, qs31, q136, q841, by decide, by decide, by decide +kernel⟩
def fX0_isAct (N : Nat)  (a1 : Int64) (μ : wMem) : Option (Int32 × wMem) :=
  if a1 = (200 : Int64) then some (1, μ) else wBind (fX0_isIn N  a1 0 199 μ) fun v4 μ3 => if v4 = 0 then some (0, μ3) else wBind (fX0_postIn N  (Int64.toInt32 a1) μ3) fun v8 μ7 => wBind (fX0_isPost N  v8 μ7) fun v11 μ10 => if v11 = 0 then some (0, μ10) else wBind (fX0_childIn N  (Int64.toInt32 a1) μ10) fun v15 μ14 => wBind (fX0_isPersonOrNone N  v15 μ14) fun v18 μ17 => if v18 = 0 then some (0, μ17) else wBind (fX0_personIn N  (Int64.toInt32 a1) μ17) fun v22 μ21 => wBind (fX0_isPerson N  v22 μ21) fun v25 μ24 => if v25 = 0 then some (0, μ24) else some (1, μ24)
set_option maxHeartbeats 4000000 in
set_option maxRecDepth 100000 in
theorem tX0_isAct (l : Launch) {D : va_G} {E : List wCell} {q : Nat → Nat} {ca : wCA} (N : Nat)   (a1 : Int64) (μ : wMem) (r0 : (Int32 × wMem)) (hf : fX0_isAct N  a1 μ = some r0) : wMi l yX0_isAct cX0_isAct 3 (some .boolean) ({ frames := 3, cells := 0, slots := 0, locals := 67 } : Room) D vwCl (spX ++ E) q ca [.ref (q 0), .long a1] μ r0 := by
  refine wMi_intro (by decide) (Nat.le_of_ble_eq_true rfl) ?_
  intro p e s m args below meth c A C
  unfold fX0_isAct at hf
  refine wr_sub [(0, .ref (q 0)), (1, .long a1)] [0, 1] rfl ?_
  refine wr_lload_n 0 C dX0_isAct_0 1 rfl rfl ?_
  refine wr_ldc2 1 C dX0_isAct_1 q842 ?_
  refine wr_lcmp_eq 4 55 C dX0_isAct_4 dX0_isAct_5 (by decide) (fun c1 => ?_) (fun c1 => ?_)
  · replace hf := o_pos c1 hf
    refine wr_iconst 55 C dX0_isAct_55 (v := 1) rfl ?_
    refine wr_goto 56 C dX0_isAct_56 (tgt := 60) (by decide) ?_
    exact wr_zret 60 C dX0_isAct_60 rfl ⟨Nat.zero_le _, Nat.zero_le _⟩ (Option.some.inj hf)
  · replace hf := o_neg c1 hf
    refine wr_lload_n 8 C dX0_isAct_8 1 rfl rfl ?_
    refine wr_lconst 9 C dX0_isAct_9 (v := 0) rfl ?_
    refine wr_ldc2 10 C dX0_isAct_10 q843 ?_
    obtain ⟨v4, μ3, h2, hf⟩ := o_bind hf
    refine wr_Si (kc1 := 0) (ks1 := 0) 13 [] C dX0_isAct_13 (tX0_isIn l N   a1 0 199 μ (v4, μ3) h2) okX0_isIn q446 ⟨rfl, rfl, Nat.le_of_ble_eq_true rfl, Nat.le_of_ble_eq_true rfl, Nat.zero_le _, Nat.zero_le _⟩ (Nat.le_of_ble_eq_true rfl) rfl ?_
    refine wr_if_eq 16 59 C dX0_isAct_16 (by decide) (fun c5 => ?_) (fun c5 => ?_)
    · replace hf := o_pos c5 hf
      refine wr_iconst 59 C dX0_isAct_59 (v := 0) rfl ?_
      exact wr_zret 60 C dX0_isAct_60 rfl ⟨Nat.zero_le _, Nat.zero_le _⟩ (Option.some.inj hf)
    · replace hf := o_neg c5 hf
      refine wr_aload_n 19 C dX0_isAct_19 0 rfl rfl ?_
      refine wr_lload_n 20 C dX0_isAct_20 1 rfl rfl ?_
      refine wr_l2i 21 C dX0_isAct_21 ?_
      obtain ⟨v8, μ7, h6, hf⟩ := o_bind hf
      refine wr_Si (kc1 := 0) (ks1 := 0) 22 [.ref (q 0)] C dX0_isAct_22 (tX0_postIn l N   (Int64.toInt32 a1) μ3 (v8, μ7) h6) okX0_postIn q752 ⟨rfl, rfl, Nat.le_of_ble_eq_true rfl, Nat.le_of_ble_eq_true rfl, Nat.zero_le _, Nat.zero_le _⟩ (Nat.le_of_ble_eq_true rfl) rfl ?_
      obtain ⟨v11, μ10, h9, hf⟩ := o_bind hf
      refine wr_Vi (kc1 := 0) (ks1 := 0) 25 [] C dX0_isAct_25 (tX0_isPost l N   v8 μ7 (v11, μ10) h9) okX0_isPost q706 (b := 0) spX_0 rfl ⟨rfl, rfl, Nat.le_of_ble_eq_true rfl, Nat.le_of_ble_eq_true rfl, Nat.zero_le _, Nat.zero_le _⟩ (Nat.le_of_ble_eq_true rfl) rfl ?_
      refine wr_if_eq 28 59 C dX0_isAct_28 (by decide) (fun c12 => ?_) (fun c12 => ?_)
      · replace hf := o_pos c12 hf
        refine wr_iconst 59 C dX0_isAct_59 (v := 0) rfl ?_
        exact wr_zret 60 C dX0_isAct_60 rfl ⟨Nat.zero_le _, Nat.zero_le _⟩ (Option.some.inj hf)
      · replace hf := o_neg c12 hf
        refine wr_aload_n 31 C dX0_isAct_31 0 rfl rfl ?_
        refine wr_lload_n 32 C dX0_isAct_32 1 rfl rfl ?_
        refine wr_l2i 33 C dX0_isAct_33 ?_
        obtain ⟨v15, μ14, h13, hf⟩ := o_bind hf
        refine wr_Si (kc1 := 0) (ks1 := 0) 34 [.ref (q 0)] C dX0_isAct_34 (tX0_childIn l N   (Int64.toInt32 a1) μ10 (v15, μ14) h13) okX0_childIn q759 ⟨rfl, rfl, Nat.le_of_ble_eq_true rfl, Nat.le_of_ble_eq_true rfl, Nat.zero_le _, Nat.zero_le _⟩ (Nat.le_of_ble_eq_true rfl) rfl ?_
        obtain ⟨v18, μ17, h16, hf⟩ := o_bind hf
        refine wr_Vi (kc1 := 0) (ks1 := 0) 37 [] C dX0_isAct_37 (tX0_isPersonOrNone l N   v15 μ14 (v18, μ17) h16) okX0_isPersonOrNone q718 (b := 0) spX_0 rfl ⟨rfl, rfl, Nat.le_of_ble_eq_true rfl, Nat.le_of_ble_eq_true rfl, Nat.zero_le _, Nat.zero_le _⟩ (Nat.le_of_ble_eq_true rfl) rfl ?_
        refine wr_if_eq 40 59 C dX0_isAct_40 (by decide) (fun c19 => ?_) (fun c19 => ?_)
        · replace hf := o_pos c19 hf
          refine wr_iconst 59 C dX0_isAct_59 (v := 0) rfl ?_
          exact wr_zret 60 C dX0_isAct_60 rfl ⟨Nat.zero_le _, Nat.zero_le _⟩ (Option.some.inj hf)
        · replace hf := o_neg c19 hf
          refine wr_aload_n 43 C dX0_isAct_43 0 rfl rfl ?_
          refine wr_lload_n 44 C dX0_isAct_44 1 rfl rfl ?_
          refine wr_l2i 45 C dX0_isAct_45 ?_
          obtain ⟨v22, μ21, h20, hf⟩ := o_bind hf
          refine wr_Si (kc1 := 0) (ks1 := 0) 46 [.ref (q 0)] C dX0_isAct_46 (tX0_personIn l N   (Int64.toInt32 a1) μ17 (v22, μ21) h20) okX0_personIn q749 ⟨rfl, rfl, Nat.le_of_ble_eq_true rfl, Nat.le_of_ble_eq_true rfl, Nat.zero_le _, Nat.zero_le _⟩ (Nat.le_of_ble_eq_true rfl) rfl ?_
          obtain ⟨v25, μ24, h23, hf⟩ := o_bind hf
          refine wr_Vi (kc1 := 0) (ks1 := 0) 49 [] C dX0_isAct_49 (tX0_isPerson l N   v22 μ21 (v25, μ24) h23) okX0_isPerson q702 (b := 0) spX_0 rfl ⟨rfl, rfl, Nat.le_of_ble_eq_true rfl, Nat.le_of_ble_eq_true rfl, Nat.zero_le _, Nat.zero_le _⟩ (Nat.le_of_ble_eq_true rfl) rfl ?_
          refine wr_if_eq 52 59 C dX0_isAct_52 (by decide) (fun c26 => ?_) (fun c26 => ?_)
          · replace hf := o_pos c26 hf
            refine wr_iconst 59 C dX0_isAct_59 (v := 0) rfl ?_
            exact wr_zret 60 C dX0_isAct_60 rfl ⟨Nat.zero_le _, Nat.zero_le _⟩ (Option.some.inj hf)
          · replace hf := o_neg c26 hf
            refine wr_iconst 55 C dX0_isAct_55 (v := 1) rfl ?_
            refine wr_goto 56 C dX0_isAct_56 (tgt := 60) (by decide) ?_
            exact wr_zret 60 C dX0_isAct_60 rfl ⟨Nat.zero_le _, Nat.zero_le _⟩ (Option.some.inj hf)
abbrev cX0_can : ByteArray := prog_1_method_29_code
def yX0_can : MethodName := ⟨RX0, "can", "(I)Z"⟩
def dkwX0_can_1 : List UInt8 := [154, 0, 7, 4, 167, 0, 4, 3, 172]
abbrev dktX0_can_1 : List UInt8 := dkwX0_can_1 ++ []
def dkwX0_can_0 : List UInt8 := [27, 17, 0, 200, 159, 0, 22, 42, 27, 184, 0, 204, 27, 184, 0, 201, 27, 184, 0, 198, 182, 0, 207]
abbrev dktX0_can_0 : List UInt8 := dkwX0_can_0 ++ dktX0_can_1
theorem dksX0_can_0 : cX0_can.data.toList.drop 0 = dktX0_can_0 := by decide +kernel
theorem dksX0_can_1 : cX0_can.data.toList.drop 23 = dktX0_can_1 := dk_seg dksX0_can_0 23 rfl rfl
theorem dX0_can_0 : decode cX0_can 0 = .ok (.iload_n 1, 1) := dk_27 (dk_at dksX0_can_0 0 rfl rfl)
theorem dX0_can_1 : decode cX0_can 1 = .ok (.sipush 200, 3) := dk_17 0 200 (dk_at dksX0_can_0 1 rfl rfl)
theorem dX0_can_4 : decode cX0_can 4 = .ok (.if_icmp .eq 22, 3) := dk_159 0 22 (dk_at dksX0_can_0 4 rfl rfl)
theorem dX0_can_7 : decode cX0_can 7 = .ok (.aload_n 0, 1) := dk_42 (dk_at dksX0_can_0 7 rfl rfl)
theorem dX0_can_8 : decode cX0_can 8 = .ok (.iload_n 1, 1) := dk_27 (dk_at dksX0_can_0 8 rfl rfl)
theorem dX0_can_9 : decode cX0_can 9 = .ok (.invokestatic 204, 3) := dk_184 0 204 (dk_at dksX0_can_0 9 rfl rfl)
theorem dX0_can_12 : decode cX0_can 12 = .ok (.iload_n 1, 1) := dk_27 (dk_at dksX0_can_0 12 rfl rfl)
theorem dX0_can_13 : decode cX0_can 13 = .ok (.invokestatic 201, 3) := dk_184 0 201 (dk_at dksX0_can_0 13 rfl rfl)
theorem dX0_can_16 : decode cX0_can 16 = .ok (.iload_n 1, 1) := dk_27 (dk_at dksX0_can_0 16 rfl rfl)
theorem dX0_can_17 : decode cX0_can 17 = .ok (.invokestatic 198, 3) := dk_184 0 198 (dk_at dksX0_can_0 17 rfl rfl)
theorem dX0_can_20 : decode cX0_can 20 = .ok (.invokevirtual 207, 3) := dk_182 0 207 (dk_at dksX0_can_0 20 rfl rfl)
theorem dX0_can_23 : decode cX0_can 23 = .ok (.ifCond .ne 7, 3) := dk_154 0 7 (dk_at dksX0_can_1 0 rfl rfl)
theorem dX0_can_26 : decode cX0_can 26 = .ok (.iconst 1, 1) := dk_4 (dk_at dksX0_can_1 3 rfl rfl)
theorem dX0_can_27 : decode cX0_can 27 = .ok (.goto 4, 3) := dk_167 0 4 (dk_at dksX0_can_1 4 rfl rfl)
theorem dX0_can_30 : decode cX0_can 30 = .ok (.iconst 0, 1) := dk_3 (dk_at dksX0_can_1 7 rfl rfl)
theorem dX0_can_31 : decode cX0_can 31 = .ok (.ireturn, 1) := dk_172 (dk_at dksX0_can_1 8 rfl rfl)

theorem okX0_can : wOkV yX0_can cX0_can 2 (some .boolean) 1 := ⟨q846, qs32, q136, q847, by decide, by decide, by decide +kernel⟩
def fX0_can (N : Nat)  (a1 : Int32) (μ : wMem) : Option (Int32 × wMem) :=
  wLet (fun  (μ1 : wMem) => some (1, μ1)) fun Jcan26 => if a1 = (200 : Int32) then Jcan26  μ else wBind (fX0_personIn N  a1 μ) fun v5 μ4 => wBind (fX0_childIn N  a1 μ4) fun v8 μ7 => wBind (fX0_postIn N  a1 μ7) fun v11 μ10 => wBind (fX0_whyNot N  v5 v8 v11 μ10) fun v14 μ13 => if v14 = 0 then Jcan26  μ13 else some (0, μ13)
set_option maxHeartbeats 4000000 in
set_option maxRecDepth 100000 in
theorem tX0_can (l : Launch) {D : va_G} {E : List wCell} {q : Nat → Nat} {ca : wCA} (N : Nat)   (a1 : Int32) (μ : wMem) (r0 : (Int32 × wMem)) (hf : fX0_can N  a1 μ = some r0) : wMi l yX0_can cX0_can 2 (some .boolean) ({ frames := 3, cells := 0, slots := 0, locals := 67 } : Room) D vwCl (spX ++ E) q ca [.ref (q 0), .int a1] μ r0 := by
  refine wMi_intro (by decide) (Nat.le_of_ble_eq_true rfl) ?_
  intro p e s m args below meth c A C
  unfold fX0_can at hf
  refine wr_sub [(0, .ref (q 0)), (1, .int a1)] [0, 1] rfl ?_
  refine wr_iload_n 0 C dX0_can_0 1 rfl rfl ?_
  refine wr_sipush 1 C dX0_can_1 (v := 200) rfl ?_
  obtain ⟨Jcan26, eJcan26, hf⟩ := o_let hf
  have hJcan26 : ∀  (μ1 : wMem), Jcan26  μ1 = some r0 → wJ p l e ({ frames := 3, cells := 0, slots := 0, locals := 67 } : Room) s m args below meth c 2 D vwCl (spX ++ E) q ca A (wQi ({ frames := 3, cells := 0, slots := 0, locals := 67 } : Room) D vwCl (spX ++ E) q ca below args s A r0) 0 0 μ1 26 [] [] := by
    intro  μ1 hf
    rw [eJcan26] at hf
    refine wr_iconst 26 C dX0_can_26 (v := 1) rfl ?_
    refine wr_goto 27 C dX0_can_27 (tgt := 31) (by decide) ?_
    exact wr_zret 31 C dX0_can_31 rfl ⟨Nat.zero_le _, Nat.zero_le _⟩ (Option.some.inj hf)
  refine wr_icmp_eq 4 26 C dX0_can_4 (by decide) (fun c2 => ?_) (fun c2 => ?_)
  · replace hf := o_pos c2 hf
    refine wr_sub [] [] rfl ?_
    exact hJcan26  μ hf
  · replace hf := o_neg c2 hf
    refine wr_aload_n 7 C dX0_can_7 0 rfl rfl ?_
    refine wr_iload_n 8 C dX0_can_8 1 rfl rfl ?_
    obtain ⟨v5, μ4, h3, hf⟩ := o_bind hf
    refine wr_Si (kc1 := 0) (ks1 := 0) 9 [.ref (q 0)] C dX0_can_9 (tX0_personIn l N   a1 μ (v5, μ4) h3) okX0_personIn q749 ⟨rfl, rfl, Nat.le_of_ble_eq_true rfl, Nat.le_of_ble_eq_true rfl, Nat.zero_le _, Nat.zero_le _⟩ (Nat.le_of_ble_eq_true rfl) rfl ?_
    refine wr_iload_n 12 C dX0_can_12 1 rfl rfl ?_
    obtain ⟨v8, μ7, h6, hf⟩ := o_bind hf
    refine wr_Si (kc1 := 0) (ks1 := 0) 13 [.int v5, .ref (q 0)] C dX0_can_13 (tX0_childIn l N   a1 μ4 (v8, μ7) h6) okX0_childIn q759 ⟨rfl, rfl, Nat.le_of_ble_eq_true rfl, Nat.le_of_ble_eq_true rfl, Nat.zero_le _, Nat.zero_le _⟩ (Nat.le_of_ble_eq_true rfl) rfl ?_
    refine wr_iload_n 16 C dX0_can_16 1 rfl rfl ?_
    obtain ⟨v11, μ10, h9, hf⟩ := o_bind hf
    refine wr_Si (kc1 := 0) (ks1 := 0) 17 [.int v8, .int v5, .ref (q 0)] C dX0_can_17 (tX0_postIn l N   a1 μ7 (v11, μ10) h9) okX0_postIn q752 ⟨rfl, rfl, Nat.le_of_ble_eq_true rfl, Nat.le_of_ble_eq_true rfl, Nat.zero_le _, Nat.zero_le _⟩ (Nat.le_of_ble_eq_true rfl) rfl ?_
    obtain ⟨v14, μ13, h12, hf⟩ := o_bind hf
    refine wr_Vi (kc1 := 0) (ks1 := 0) 20 [] C dX0_can_20 (tX0_whyNot l N   v5 v8 v11 μ10 (v14, μ13) h12) okX0_whyNot q798 (b := 0) spX_0 rfl ⟨rfl, rfl, Nat.le_of_ble_eq_true rfl, Nat.le_of_ble_eq_true rfl, Nat.zero_le _, Nat.zero_le _⟩ (Nat.le_of_ble_eq_true rfl) rfl ?_
    refine wr_if_ne 23 30 C dX0_can_23 (by decide) (fun c15 => ?_) (fun c15 => ?_)
    · replace hf := o_neg c15 hf
      refine wr_iconst 30 C dX0_can_30 (v := 0) rfl ?_
      exact wr_zret 31 C dX0_can_31 rfl ⟨Nat.zero_le _, Nat.zero_le _⟩ (Option.some.inj hf)
    · replace hf := o_pos c15 hf
      refine wr_sub [] [] rfl ?_
      exact hJcan26  μ13 hf
abbrev cX0_nextAct : ByteArray := prog_1_method_49_code
def yX0_nextAct : MethodName := ⟨RX0, "nextAct", "(I)I"⟩
def dkwX0_nextAct_1 : List UInt8 := [154, 0, 9, 132, 2, 1, 167, 255, 229, 28, 172]
abbrev dktX0_nextAct_1 : List UInt8 := dkwX0_nextAct_1 ++ []
def dkwX0_nextAct_0 : List UInt8 := [27, 61, 28, 17, 0, 200, 162, 0, 26, 42, 28, 133, 182, 1, 18, 153, 0, 11, 42, 28, 182, 1, 22]
abbrev dktX0_nextAct_0 : List UInt8 := dkwX0_nextAct_0 ++ dktX0_nextAct_1
theorem dksX0_nextAct_0 : cX0_nextAct.data.toList.drop 0 = dktX0_nextAct_0 := by decide +kernel
theorem dksX0_nextAct_1 : cX0_nextAct.data.toList.drop 23 = dktX0_nextAct_1 := dk_seg dksX0_nextAct_0 23 rfl rfl
theorem dX0_nextAct_0 : decode cX0_nextAct 0 = .ok (.iload_n 1, 1) := dk_27 (dk_at dksX0_nextAct_0 0 rfl rfl)
theorem dX0_nextAct_1 : decode cX0_nextAct 1 = .ok (.istore_n 2, 1) := dk_61 (dk_at dksX0_nextAct_0 1 rfl rfl)
theorem dX0_nextAct_2 : decode cX0_nextAct 2 = .ok (.iload_n 2, 1) := dk_28 (dk_at dksX0_nextAct_0 2 rfl rfl)
theorem dX0_nextAct_3 : decode cX0_nextAct 3 = .ok (.sipush 200, 3) := dk_17 0 200 (dk_at dksX0_nextAct_0 3 rfl rfl)
theorem dX0_nextAct_6 : decode cX0_nextAct 6 = .ok (.if_icmp .ge 26, 3) := dk_162 0 26 (dk_at dksX0_nextAct_0 6 rfl rfl)
theorem dX0_nextAct_9 : decode cX0_nextAct 9 = .ok (.aload_n 0, 1) := dk_42 (dk_at dksX0_nextAct_0 9 rfl rfl)
theorem dX0_nextAct_10 : decode cX0_nextAct 10 = .ok (.iload_n 2, 1) := dk_28 (dk_at dksX0_nextAct_0 10 rfl rfl)
theorem dX0_nextAct_11 : decode cX0_nextAct 11 = .ok (.i2l, 1) := dk_133 (dk_at dksX0_nextAct_0 11 rfl rfl)
theorem dX0_nextAct_12 : decode cX0_nextAct 12 = .ok (.invokevirtual 274, 3) := dk_182 1 18 (dk_at dksX0_nextAct_0 12 rfl rfl)
theorem dX0_nextAct_15 : decode cX0_nextAct 15 = .ok (.ifCond .eq 11, 3) := dk_153 0 11 (dk_at dksX0_nextAct_0 15 rfl rfl)
theorem dX0_nextAct_18 : decode cX0_nextAct 18 = .ok (.aload_n 0, 1) := dk_42 (dk_at dksX0_nextAct_0 18 rfl rfl)
theorem dX0_nextAct_19 : decode cX0_nextAct 19 = .ok (.iload_n 2, 1) := dk_28 (dk_at dksX0_nextAct_0 19 rfl rfl)
theorem dX0_nextAct_20 : decode cX0_nextAct 20 = .ok (.invokevirtual 278, 3) := dk_182 1 22 (dk_at dksX0_nextAct_0 20 rfl rfl)
theorem dX0_nextAct_23 : decode cX0_nextAct 23 = .ok (.ifCond .ne 9, 3) := dk_154 0 9 (dk_at dksX0_nextAct_1 0 rfl rfl)
theorem dX0_nextAct_26 : decode cX0_nextAct 26 = .ok (.iinc 2 1, 3) := dk_132 2 1 (dk_at dksX0_nextAct_1 3 rfl rfl)
theorem dX0_nextAct_29 : decode cX0_nextAct 29 = .ok (.goto (-27), 3) := dk_167 255 229 (dk_at dksX0_nextAct_1 6 rfl rfl)
theorem dX0_nextAct_32 : decode cX0_nextAct 32 = .ok (.iload_n 2, 1) := dk_28 (dk_at dksX0_nextAct_1 9 rfl rfl)
theorem dX0_nextAct_33 : decode cX0_nextAct 33 = .ok (.ireturn, 1) := dk_172 (dk_at dksX0_nextAct_1 10 rfl rfl)

theorem okX0_nextAct : wOkV yX0_nextAct cX0_nextAct 3 (some .int) 1 := ⟨q836, qs30, q136, q837, by decide, by decide, by decide +kernel⟩
def gbX0_nextAct_2 (N : Nat)   (K : (Int32 → wMem → Option (Int32 × wMem))) (rec : (Int32 → wMem → Option (Int32 × wMem))) (x2_ : Int32) (μ : wMem) : Option (Int32 × wMem) :=
  if (200 : Int32) ≤ x2_ then K x2_ μ else wBind (fX0_isAct N  (Int32.toInt64 x2_) μ) fun v4 μ3 => wLet (fun  (μ5 : wMem) => wLet (x2_ + 1 : Int32) fun x6 => rec x6 μ5) fun JnextAct26 => if v4 = 0 then JnextAct26  μ3 else wBind (fX0_can N  x2_ μ3) fun v10 μ9 => if v10 = 0 then JnextAct26  μ9 else K x2_ μ9
def gX0_nextAct_2 (N : Nat)   (K : (Int32 → wMem → Option (Int32 × wMem))) : Nat → (Int32 → wMem → Option (Int32 × wMem))
  | 0 => fun _ _ => none
  | k + 1 => gbX0_nextAct_2 N   K (gX0_nextAct_2 N   K k)
set_option maxHeartbeats 4000000 in
set_option maxRecDepth 100000 in
theorem tX0_nextAct_2 {p : Program} {l : Launch} {e : Env} {s : State} {m : MethodId} {args : Array Value} {below : List Frame} {meth : Method} {c : Code} {D : va_G} {E : List wCell} {q : Nat → Nat} {ca : wCA} {A : Nat → Prop} (C : wC p ({ frames := 4, cells := 0, slots := 0, locals := 89 } : Room) s m args meth c cX0_nextAct yX0_nextAct.cls 3 (some .int) D vwCl (spX ++ E) q ca A) (N : Nat)    (K : (Int32 → wMem → Option (Int32 × wMem))) (r0 : (Int32 × wMem)) (hK : ∀ (y2_ : Int32) (μ : wMem), K y2_ μ = some r0 → wJ p l e ({ frames := 4, cells := 0, slots := 0, locals := 89 } : Room) s m args below meth c 3 D vwCl (spX ++ E) q ca A (wQi ({ frames := 4, cells := 0, slots := 0, locals := 89 } : Room) D vwCl (spX ++ E) q ca below args s A r0) 0 0 μ 32 [(2, .int y2_)] []) : ∀ (k : Nat) (x2_ : Int32) (μ : wMem), gX0_nextAct_2 N   K k x2_ μ = some r0 → wJ p l e ({ frames := 4, cells := 0, slots := 0, locals := 89 } : Room) s m args below meth c 3 D vwCl (spX ++ E) q ca A (wQi ({ frames := 4, cells := 0, slots := 0, locals := 89 } : Room) D vwCl (spX ++ E) q ca below args s A r0) 0 0 μ 2 [(0, .ref (q 0)), (2, .int x2_)] [] := by
  intro k
  induction k with
  | zero =>
    intro x2_ μ hf
    cases hf
  | succ k ih =>
    intro x2_ μ hf
    replace hf : gbX0_nextAct_2 N   K (gX0_nextAct_2 N   K k) x2_ μ = some r0 := hf
    unfold gbX0_nextAct_2 at hf
    refine wr_iload_n 2 C dX0_nextAct_2 1 rfl rfl ?_
    refine wr_sipush 3 C dX0_nextAct_3 (v := 200) rfl ?_
    refine wr_icmp_ge 6 32 C dX0_nextAct_6 (by decide) (fun c1 => ?_) (fun c1 => ?_)
    · replace hf := o_pos c1 hf
      refine wr_sub [(2, .int x2_)] [1] rfl ?_
      exact hK x2_ μ hf
    · replace hf := o_neg c1 hf
      refine wr_aload_n 9 C dX0_nextAct_9 0 rfl rfl ?_
      refine wr_iload_n 10 C dX0_nextAct_10 1 rfl rfl ?_
      refine wr_i2l 11 C dX0_nextAct_11 ?_
      obtain ⟨v4, μ3, h2, hf⟩ := o_bind hf
      refine wr_Vi (kc1 := 0) (ks1 := 0) 12 [] C dX0_nextAct_12 (tX0_isAct l N   (Int32.toInt64 x2_) μ (v4, μ3) h2) okX0_isAct q838 (b := 0) spX_0 rfl ⟨rfl, rfl, Nat.le_of_ble_eq_true rfl, Nat.le_of_ble_eq_true rfl, Nat.zero_le _, Nat.zero_le _⟩ (Nat.le_of_ble_eq_true rfl) rfl ?_
      obtain ⟨JnextAct26, eJnextAct26, hf⟩ := o_let hf
      have hJnextAct26 : ∀  (μ5 : wMem), JnextAct26  μ5 = some r0 → wJ p l e ({ frames := 4, cells := 0, slots := 0, locals := 89 } : Room) s m args below meth c 3 D vwCl (spX ++ E) q ca A (wQi ({ frames := 4, cells := 0, slots := 0, locals := 89 } : Room) D vwCl (spX ++ E) q ca below args s A r0) 0 0 μ5 26 [(0, .ref (q 0)), (2, .int x2_)] [] := by
        intro  μ5 hf
        rw [eJnextAct26] at hf
        obtain ⟨x6, ex6, hf⟩ := o_let hf
        refine wr_iinc 26 [(2, .int x6), (0, .ref (q 0))] C dX0_nextAct_26 1 rfl (ex6.trans rfl) (Nat.le_of_ble_eq_true rfl) rfl ?_
        refine wr_goto 29 C dX0_nextAct_29 (tgt := 2) (by decide) ?_
        refine wr_sub [(0, .ref (q 0)), (2, .int x6)] [1, 0] rfl ?_
        exact ih x6 μ5 hf
      refine wr_if_eq 15 26 C dX0_nextAct_15 (by decide) (fun c7 => ?_) (fun c7 => ?_)
      · replace hf := o_pos c7 hf
        exact hJnextAct26  μ3 hf
      · replace hf := o_neg c7 hf
        refine wr_aload_n 18 C dX0_nextAct_18 0 rfl rfl ?_
        refine wr_iload_n 19 C dX0_nextAct_19 1 rfl rfl ?_
        obtain ⟨v10, μ9, h8, hf⟩ := o_bind hf
        refine wr_Vi (kc1 := 0) (ks1 := 0) 20 [] C dX0_nextAct_20 (tX0_can l N   x2_ μ3 (v10, μ9) h8) okX0_can q844 (b := 0) spX_0 rfl ⟨rfl, rfl, Nat.le_of_ble_eq_true rfl, Nat.le_of_ble_eq_true rfl, Nat.zero_le _, Nat.zero_le _⟩ (Nat.le_of_ble_eq_true rfl) rfl ?_
        refine wr_if_ne 23 32 C dX0_nextAct_23 (by decide) (fun c11 => ?_) (fun c11 => ?_)
        · replace hf := o_neg c11 hf
          refine wr_sub [(2, .int x2_)] [1] rfl ?_
          exact hK x2_ μ9 hf
        · replace hf := o_pos c11 hf
          exact hJnextAct26  μ9 hf
def fX0_nextAct (N : Nat)  (a1 : Int32) (μ : wMem) : Option (Int32 × wMem) :=
  gX0_nextAct_2 N   (fun (x13 : Int32) (μ12 : wMem) => some (x13, μ12)) N a1 μ
set_option maxHeartbeats 4000000 in
set_option maxRecDepth 100000 in
theorem tX0_nextAct (l : Launch) {D : va_G} {E : List wCell} {q : Nat → Nat} {ca : wCA} (N : Nat)   (a1 : Int32) (μ : wMem) (r0 : (Int32 × wMem)) (hf : fX0_nextAct N  a1 μ = some r0) : wMi l yX0_nextAct cX0_nextAct 3 (some .int) ({ frames := 4, cells := 0, slots := 0, locals := 89 } : Room) D vwCl (spX ++ E) q ca [.ref (q 0), .int a1] μ r0 := by
  refine wMi_intro (by decide) (Nat.le_of_ble_eq_true rfl) ?_
  intro p e s m args below meth c A C
  unfold fX0_nextAct at hf
  refine wr_sub [(0, .ref (q 0)), (1, .int a1)] [0, 1] rfl ?_
  refine wr_iload_n 0 C dX0_nextAct_0 1 rfl rfl ?_
  refine wr_istore_n 1 [(2, .int a1), (0, .ref (q 0)), (1, .int a1)] C dX0_nextAct_1 rfl rfl (Nat.le_of_ble_eq_true rfl) rfl ?_
  refine wr_sub [(0, .ref (q 0)), (2, .int a1)] [1, 0] rfl ?_
  refine tX0_nextAct_2 C N    _ r0 (fun x13 μ12 hf => ?_) N a1 μ hf
  · replace hf := hf
    refine wr_iload_n 32 C dX0_nextAct_32 0 rfl rfl ?_
    exact wr_iret 33 C dX0_nextAct_33 ⟨Nat.zero_le _, Nat.zero_le _⟩ (Option.some.inj hf)
abbrev cX0_acts : ByteArray := prog_1_method_50_code
def yX0_acts : MethodName := ⟨RX0, "acts", "()I"⟩
def dkwX0_acts_1 : List UInt8 := [17, 0, 200, 163, 0, 17, 132, 1, 1, 42, 28, 4, 96, 182, 1, 25, 61, 167, 255, 238, 27, 172]
abbrev dktX0_acts_1 : List UInt8 := dkwX0_acts_1 ++ []
def dkwX0_acts_0 : List UInt8 := [42, 182, 0, 252, 154, 0, 6, 16, 254, 172, 42, 182, 0, 249, 3, 60, 42, 3, 182, 1, 25, 61, 28]
abbrev dktX0_acts_0 : List UInt8 := dkwX0_acts_0 ++ dktX0_acts_1
theorem dksX0_acts_0 : cX0_acts.data.toList.drop 0 = dktX0_acts_0 := by decide +kernel
theorem dksX0_acts_1 : cX0_acts.data.toList.drop 23 = dktX0_acts_1 := dk_seg dksX0_acts_0 23 rfl rfl
theorem dX0_acts_0 : decode cX0_acts 0 = .ok (.aload_n 0, 1) := dk_42 (dk_at dksX0_acts_0 0 rfl rfl)
theorem dX0_acts_1 : decode cX0_acts 1 = .ok (.invokevirtual 252, 3) := dk_182 0 252 (dk_at dksX0_acts_0 1 rfl rfl)
theorem dX0_acts_4 : decode cX0_acts 4 = .ok (.ifCond .ne 6, 3) := dk_154 0 6 (dk_at dksX0_acts_0 4 rfl rfl)
theorem dX0_acts_7 : decode cX0_acts 7 = .ok (.bipush (-2), 2) := dk_16 254 (dk_at dksX0_acts_0 7 rfl rfl)
theorem dX0_acts_9 : decode cX0_acts 9 = .ok (.ireturn, 1) := dk_172 (dk_at dksX0_acts_0 9 rfl rfl)
theorem dX0_acts_10 : decode cX0_acts 10 = .ok (.aload_n 0, 1) := dk_42 (dk_at dksX0_acts_0 10 rfl rfl)
theorem dX0_acts_11 : decode cX0_acts 11 = .ok (.invokevirtual 249, 3) := dk_182 0 249 (dk_at dksX0_acts_0 11 rfl rfl)
theorem dX0_acts_14 : decode cX0_acts 14 = .ok (.iconst 0, 1) := dk_3 (dk_at dksX0_acts_0 14 rfl rfl)
theorem dX0_acts_15 : decode cX0_acts 15 = .ok (.istore_n 1, 1) := dk_60 (dk_at dksX0_acts_0 15 rfl rfl)
theorem dX0_acts_16 : decode cX0_acts 16 = .ok (.aload_n 0, 1) := dk_42 (dk_at dksX0_acts_0 16 rfl rfl)
theorem dX0_acts_17 : decode cX0_acts 17 = .ok (.iconst 0, 1) := dk_3 (dk_at dksX0_acts_0 17 rfl rfl)
theorem dX0_acts_18 : decode cX0_acts 18 = .ok (.invokevirtual 281, 3) := dk_182 1 25 (dk_at dksX0_acts_0 18 rfl rfl)
theorem dX0_acts_21 : decode cX0_acts 21 = .ok (.istore_n 2, 1) := dk_61 (dk_at dksX0_acts_0 21 rfl rfl)
theorem dX0_acts_22 : decode cX0_acts 22 = .ok (.iload_n 2, 1) := dk_28 (dk_at dksX0_acts_0 22 rfl rfl)
theorem dX0_acts_23 : decode cX0_acts 23 = .ok (.sipush 200, 3) := dk_17 0 200 (dk_at dksX0_acts_1 0 rfl rfl)
theorem dX0_acts_26 : decode cX0_acts 26 = .ok (.if_icmp .gt 17, 3) := dk_163 0 17 (dk_at dksX0_acts_1 3 rfl rfl)
theorem dX0_acts_29 : decode cX0_acts 29 = .ok (.iinc 1 1, 3) := dk_132 1 1 (dk_at dksX0_acts_1 6 rfl rfl)
theorem dX0_acts_32 : decode cX0_acts 32 = .ok (.aload_n 0, 1) := dk_42 (dk_at dksX0_acts_1 9 rfl rfl)
theorem dX0_acts_33 : decode cX0_acts 33 = .ok (.iload_n 2, 1) := dk_28 (dk_at dksX0_acts_1 10 rfl rfl)
theorem dX0_acts_34 : decode cX0_acts 34 = .ok (.iconst 1, 1) := dk_4 (dk_at dksX0_acts_1 11 rfl rfl)
theorem dX0_acts_35 : decode cX0_acts 35 = .ok (.iadd, 1) := dk_96 (dk_at dksX0_acts_1 12 rfl rfl)
theorem dX0_acts_36 : decode cX0_acts 36 = .ok (.invokevirtual 281, 3) := dk_182 1 25 (dk_at dksX0_acts_1 13 rfl rfl)
theorem dX0_acts_39 : decode cX0_acts 39 = .ok (.istore_n 2, 1) := dk_61 (dk_at dksX0_acts_1 16 rfl rfl)
theorem dX0_acts_40 : decode cX0_acts 40 = .ok (.goto (-18), 3) := dk_167 255 238 (dk_at dksX0_acts_1 17 rfl rfl)
theorem dX0_acts_43 : decode cX0_acts 43 = .ok (.iload_n 1, 1) := dk_27 (dk_at dksX0_acts_1 20 rfl rfl)
theorem dX0_acts_44 : decode cX0_acts 44 = .ok (.ireturn, 1) := dk_172 (dk_at dksX0_acts_1 21 rfl rfl)

theorem okX0_acts : wOkV yX0_acts cX0_acts 3 (some .int) 0 := ⟨q831, q832, q136, q833, by decide, by decide, by decide +kernel⟩
def gbX0_acts_22 (N : Nat)   (K : (Int32 → wMem → Option (Int32 × wMem))) (rec : (Int32 → Int32 → wMem → Option (Int32 × wMem))) (x1_ : Int32) (x2_ : Int32) (μ : wMem) : Option (Int32 × wMem) :=
  if (200 : Int32) < x2_ then K x1_ μ else wLet (x1_ + 1 : Int32) fun x11 => wBind (fX0_nextAct N  (x2_ + (1 : Int32)) μ) fun v14 μ13 => rec x11 v14 μ13
def gX0_acts_22 (N : Nat)   (K : (Int32 → wMem → Option (Int32 × wMem))) : Nat → (Int32 → Int32 → wMem → Option (Int32 × wMem))
  | 0 => fun _ _ _ => none
  | k + 1 => gbX0_acts_22 N   K (gX0_acts_22 N   K k)
set_option maxHeartbeats 4000000 in
set_option maxRecDepth 100000 in
theorem tX0_acts_22 {p : Program} {l : Launch} {e : Env} {s : State} {m : MethodId} {args : Array Value} {below : List Frame} {meth : Method} {c : Code} {D : va_G} {E : List wCell} {q : Nat → Nat} {ca : wCA} {A : Nat → Prop} (C : wC p ({ frames := 5, cells := 0, slots := 0, locals := 111 } : Room) s m args meth c cX0_acts yX0_acts.cls 3 (some .int) D vwCl (spX ++ E) q ca A) (N : Nat)    (K : (Int32 → wMem → Option (Int32 × wMem))) (r0 : (Int32 × wMem)) (hK : ∀ (y1_ : Int32) (μ : wMem), K y1_ μ = some r0 → wJ p l e ({ frames := 5, cells := 0, slots := 0, locals := 111 } : Room) s m args below meth c 3 D vwCl (spX ++ E) q ca A (wQi ({ frames := 5, cells := 0, slots := 0, locals := 111 } : Room) D vwCl (spX ++ E) q ca below args s A r0) 0 0 μ 43 [(1, .int y1_)] []) : ∀ (k : Nat) (x1_ : Int32) (x2_ : Int32) (μ : wMem), gX0_acts_22 N   K k x1_ x2_ μ = some r0 → wJ p l e ({ frames := 5, cells := 0, slots := 0, locals := 111 } : Room) s m args below meth c 3 D vwCl (spX ++ E) q ca A (wQi ({ frames := 5, cells := 0, slots := 0, locals := 111 } : Room) D vwCl (spX ++ E) q ca below args s A r0) 0 0 μ 22 [(0, .ref (q 0)), (1, .int x1_), (2, .int x2_)] [] := by
  intro k
  induction k with
  | zero =>
    intro x1_ x2_ μ hf
    cases hf
  | succ k ih =>
    intro x1_ x2_ μ hf
    replace hf : gbX0_acts_22 N   K (gX0_acts_22 N   K k) x1_ x2_ μ = some r0 := hf
    unfold gbX0_acts_22 at hf
    refine wr_iload_n 22 C dX0_acts_22 2 rfl rfl ?_
    refine wr_sipush 23 C dX0_acts_23 (v := 200) rfl ?_
    refine wr_icmp_gt 26 43 C dX0_acts_26 (by decide) (fun c10 => ?_) (fun c10 => ?_)
    · replace hf := o_pos c10 hf
      refine wr_sub [(1, .int x1_)] [1] rfl ?_
      exact hK x1_ μ hf
    · replace hf := o_neg c10 hf
      obtain ⟨x11, ex11, hf⟩ := o_let hf
      refine wr_iinc 29 [(1, .int x11), (0, .ref (q 0)), (2, .int x2_)] C dX0_acts_29 1 rfl (ex11.trans rfl) (Nat.le_of_ble_eq_true rfl) rfl ?_
      refine wr_aload_n 32 C dX0_acts_32 1 rfl rfl ?_
      refine wr_iload_n 33 C dX0_acts_33 2 rfl rfl ?_
      refine wr_iconst 34 C dX0_acts_34 (v := 1) rfl ?_
      refine wr_iadd 35 C dX0_acts_35 ?_
      obtain ⟨v14, μ13, h12, hf⟩ := o_bind hf
      refine wr_Vi (kc1 := 0) (ks1 := 0) 36 [] C dX0_acts_36 (tX0_nextAct l N   (x2_ + (1 : Int32)) μ (v14, μ13) h12) okX0_nextAct q834 (b := 0) spX_0 rfl ⟨rfl, rfl, Nat.le_of_ble_eq_true rfl, Nat.le_of_ble_eq_true rfl, Nat.zero_le _, Nat.zero_le _⟩ (Nat.le_of_ble_eq_true rfl) rfl ?_
      refine wr_istore_n 39 [(2, .int v14), (1, .int x11), (0, .ref (q 0))] C dX0_acts_39 rfl rfl (Nat.le_of_ble_eq_true rfl) rfl ?_
      refine wr_goto 40 C dX0_acts_40 (tgt := 22) (by decide) ?_
      refine wr_sub [(0, .ref (q 0)), (1, .int x11), (2, .int v14)] [2, 1, 0] rfl ?_
      exact ih x11 v14 μ13 hf
def fX0_acts (N : Nat)   (μ : wMem) : Option (Int32 × wMem) :=
  wBind (fX0_isFamily N   μ) fun v3 μ2 => if v3 = 0 then some ((-2), μ2) else wBindV (fX0_asItIs N   μ2) fun μ6 => wBind (fX0_nextAct N  0 μ6) fun v9 μ8 => gX0_acts_22 N   (fun (x16 : Int32) (μ15 : wMem) => some (x16, μ15)) N 0 v9 μ8
set_option maxHeartbeats 4000000 in
set_option maxRecDepth 100000 in
theorem tX0_acts (l : Launch) {D : va_G} {E : List wCell} {q : Nat → Nat} {ca : wCA} (N : Nat)    (μ : wMem) (r0 : (Int32 × wMem)) (hf : fX0_acts N   μ = some r0) : wMi l yX0_acts cX0_acts 3 (some .int) ({ frames := 5, cells := 0, slots := 0, locals := 111 } : Room) D vwCl (spX ++ E) q ca [.ref (q 0)] μ r0 := by
  refine wMi_intro (by decide) (Nat.le_of_ble_eq_true rfl) ?_
  intro p e s m args below meth c A C
  unfold fX0_acts at hf
  refine wr_sub [(0, .ref (q 0))] [0] rfl ?_
  refine wr_aload_n 0 C dX0_acts_0 0 rfl rfl ?_
  obtain ⟨v3, μ2, h1, hf⟩ := o_bind hf
  refine wr_Vi (kc1 := 0) (ks1 := 0) 1 [] C dX0_acts_1 (tX0_isFamily l N    μ (v3, μ2) h1) okX0_isFamily q770 (b := 0) spX_0 rfl ⟨rfl, rfl, Nat.le_of_ble_eq_true rfl, Nat.le_of_ble_eq_true rfl, Nat.zero_le _, Nat.zero_le _⟩ (Nat.le_of_ble_eq_true rfl) rfl ?_
  refine wr_if_ne 4 10 C dX0_acts_4 (by decide) (fun c4 => ?_) (fun c4 => ?_)
  · replace hf := o_neg c4 hf
    refine wr_aload_n 10 C dX0_acts_10 0 rfl rfl ?_
    obtain ⟨μ6, h5, hf⟩ := o_bindV hf
    refine wr_Vv (kc1 := 0) (ks1 := 0) 11 [] C dX0_acts_11 (tX0_asItIs l N    μ2 μ6 h5) okX0_asItIs q737 (b := 0) spX_0 rfl ⟨rfl, rfl, Nat.le_of_ble_eq_true rfl, Nat.le_of_ble_eq_true rfl, Nat.zero_le _, Nat.zero_le _⟩ (Nat.le_of_ble_eq_true rfl) rfl ?_
    refine wr_iconst 14 C dX0_acts_14 (v := 0) rfl ?_
    refine wr_istore_n 15 [(1, .int 0), (0, .ref (q 0))] C dX0_acts_15 rfl rfl (Nat.le_of_ble_eq_true rfl) rfl ?_
    refine wr_aload_n 16 C dX0_acts_16 1 rfl rfl ?_
    refine wr_iconst 17 C dX0_acts_17 (v := 0) rfl ?_
    obtain ⟨v9, μ8, h7, hf⟩ := o_bind hf
    refine wr_Vi (kc1 := 0) (ks1 := 0) 18 [] C dX0_acts_18 (tX0_nextAct l N   0 μ6 (v9, μ8) h7) okX0_nextAct q834 (b := 0) spX_0 rfl ⟨rfl, rfl, Nat.le_of_ble_eq_true rfl, Nat.le_of_ble_eq_true rfl, Nat.zero_le _, Nat.zero_le _⟩ (Nat.le_of_ble_eq_true rfl) rfl ?_
    refine wr_istore_n 21 [(2, .int v9), (1, .int 0), (0, .ref (q 0))] C dX0_acts_21 rfl rfl (Nat.le_of_ble_eq_true rfl) rfl ?_
    refine wr_sub [(0, .ref (q 0)), (1, .int 0), (2, .int v9)] [2, 1, 0] rfl ?_
    refine tX0_acts_22 C N    _ r0 (fun x16 μ15 hf => ?_) N 0 v9 μ8 hf
    · replace hf := hf
      refine wr_iload_n 43 C dX0_acts_43 0 rfl rfl ?_
      exact wr_iret 44 C dX0_acts_44 ⟨Nat.zero_le _, Nat.zero_le _⟩ (Option.some.inj hf)
  · replace hf := o_pos c4 hf
    refine wr_bipush 7 C dX0_acts_7 (v := (-2)) rfl ?_
    exact wr_iret 9 C dX0_acts_9 ⟨Nat.zero_le _, Nat.zero_le _⟩ (Option.some.inj hf)
abbrev cX0_may : ByteArray := prog_1_method_51_code
def yX0_may : MethodName := ⟨RX0, "may", "(I)I"⟩
def dkwX0_may_2 : List UInt8 := [167, 255, 231, 2, 172]
abbrev dktX0_may_2 : List UInt8 := dkwX0_may_2 ++ []
def dkwX0_may_1 : List UInt8 := [17, 0, 200, 163, 0, 24, 28, 27, 160, 0, 5, 29, 172, 132, 2, 1, 42, 29, 4, 96, 182, 1, 25, 62]
abbrev dktX0_may_1 : List UInt8 := dkwX0_may_1 ++ dktX0_may_2
def dkwX0_may_0 : List UInt8 := [42, 182, 0, 252, 154, 0, 6, 16, 254, 172, 42, 182, 0, 249, 3, 61, 42, 3, 182, 1, 25, 62, 29]
abbrev dktX0_may_0 : List UInt8 := dkwX0_may_0 ++ dktX0_may_1
theorem dksX0_may_0 : cX0_may.data.toList.drop 0 = dktX0_may_0 := by decide +kernel
theorem dksX0_may_1 : cX0_may.data.toList.drop 23 = dktX0_may_1 := dk_seg dksX0_may_0 23 rfl rfl
theorem dksX0_may_2 : cX0_may.data.toList.drop 47 = dktX0_may_2 := dk_seg dksX0_may_1 24 rfl rfl
theorem dX0_may_0 : decode cX0_may 0 = .ok (.aload_n 0, 1) := dk_42 (dk_at dksX0_may_0 0 rfl rfl)
theorem dX0_may_1 : decode cX0_may 1 = .ok (.invokevirtual 252, 3) := dk_182 0 252 (dk_at dksX0_may_0 1 rfl rfl)
theorem dX0_may_4 : decode cX0_may 4 = .ok (.ifCond .ne 6, 3) := dk_154 0 6 (dk_at dksX0_may_0 4 rfl rfl)
theorem dX0_may_7 : decode cX0_may 7 = .ok (.bipush (-2), 2) := dk_16 254 (dk_at dksX0_may_0 7 rfl rfl)
theorem dX0_may_9 : decode cX0_may 9 = .ok (.ireturn, 1) := dk_172 (dk_at dksX0_may_0 9 rfl rfl)
theorem dX0_may_10 : decode cX0_may 10 = .ok (.aload_n 0, 1) := dk_42 (dk_at dksX0_may_0 10 rfl rfl)
theorem dX0_may_11 : decode cX0_may 11 = .ok (.invokevirtual 249, 3) := dk_182 0 249 (dk_at dksX0_may_0 11 rfl rfl)
theorem dX0_may_14 : decode cX0_may 14 = .ok (.iconst 0, 1) := dk_3 (dk_at dksX0_may_0 14 rfl rfl)
theorem dX0_may_15 : decode cX0_may 15 = .ok (.istore_n 2, 1) := dk_61 (dk_at dksX0_may_0 15 rfl rfl)
theorem dX0_may_16 : decode cX0_may 16 = .ok (.aload_n 0, 1) := dk_42 (dk_at dksX0_may_0 16 rfl rfl)
theorem dX0_may_17 : decode cX0_may 17 = .ok (.iconst 0, 1) := dk_3 (dk_at dksX0_may_0 17 rfl rfl)
theorem dX0_may_18 : decode cX0_may 18 = .ok (.invokevirtual 281, 3) := dk_182 1 25 (dk_at dksX0_may_0 18 rfl rfl)
theorem dX0_may_21 : decode cX0_may 21 = .ok (.istore_n 3, 1) := dk_62 (dk_at dksX0_may_0 21 rfl rfl)
theorem dX0_may_22 : decode cX0_may 22 = .ok (.iload_n 3, 1) := dk_29 (dk_at dksX0_may_0 22 rfl rfl)
theorem dX0_may_23 : decode cX0_may 23 = .ok (.sipush 200, 3) := dk_17 0 200 (dk_at dksX0_may_1 0 rfl rfl)
theorem dX0_may_26 : decode cX0_may 26 = .ok (.if_icmp .gt 24, 3) := dk_163 0 24 (dk_at dksX0_may_1 3 rfl rfl)
theorem dX0_may_29 : decode cX0_may 29 = .ok (.iload_n 2, 1) := dk_28 (dk_at dksX0_may_1 6 rfl rfl)
theorem dX0_may_30 : decode cX0_may 30 = .ok (.iload_n 1, 1) := dk_27 (dk_at dksX0_may_1 7 rfl rfl)
theorem dX0_may_31 : decode cX0_may 31 = .ok (.if_icmp .ne 5, 3) := dk_160 0 5 (dk_at dksX0_may_1 8 rfl rfl)
theorem dX0_may_34 : decode cX0_may 34 = .ok (.iload_n 3, 1) := dk_29 (dk_at dksX0_may_1 11 rfl rfl)
theorem dX0_may_35 : decode cX0_may 35 = .ok (.ireturn, 1) := dk_172 (dk_at dksX0_may_1 12 rfl rfl)
theorem dX0_may_36 : decode cX0_may 36 = .ok (.iinc 2 1, 3) := dk_132 2 1 (dk_at dksX0_may_1 13 rfl rfl)
theorem dX0_may_39 : decode cX0_may 39 = .ok (.aload_n 0, 1) := dk_42 (dk_at dksX0_may_1 16 rfl rfl)
theorem dX0_may_40 : decode cX0_may 40 = .ok (.iload_n 3, 1) := dk_29 (dk_at dksX0_may_1 17 rfl rfl)
theorem dX0_may_41 : decode cX0_may 41 = .ok (.iconst 1, 1) := dk_4 (dk_at dksX0_may_1 18 rfl rfl)
theorem dX0_may_42 : decode cX0_may 42 = .ok (.iadd, 1) := dk_96 (dk_at dksX0_may_1 19 rfl rfl)
theorem dX0_may_43 : decode cX0_may 43 = .ok (.invokevirtual 281, 3) := dk_182 1 25 (dk_at dksX0_may_1 20 rfl rfl)
theorem dX0_may_46 : decode cX0_may 46 = .ok (.istore_n 3, 1) := dk_62 (dk_at dksX0_may_1 23 rfl rfl)
theorem dX0_may_47 : decode cX0_may 47 = .ok (.goto (-25), 3) := dk_167 255 231 (dk_at dksX0_may_2 0 rfl rfl)
theorem dX0_may_50 : decode cX0_may 50 = .ok (.iconst (-1), 1) := dk_2 (dk_at dksX0_may_2 3 rfl rfl)
theorem dX0_may_51 : decode cX0_may 51 = .ok (.ireturn, 1) := dk_172 (dk_at dksX0_may_2 4 rfl rfl)

theorem okX0_may : wOkV yX0_may cX0_may 4 (some .int) 1 := ⟨q849, q850, q136, q851, by decide, by decide, by decide +kernel⟩
def gbX0_may_22 (N : Nat)  (x1_ : Int32) (K : (wMem → Option (Int32 × wMem))) (rec : (Int32 → Int32 → wMem → Option (Int32 × wMem))) (x2_ : Int32) (x3_ : Int32) (μ : wMem) : Option (Int32 × wMem) :=
  if (200 : Int32) < x3_ then K  μ else if x2_ = x1_ then some (x3_, μ) else wLet (x2_ + 1 : Int32) fun x12 => wBind (fX0_nextAct N  (x3_ + (1 : Int32)) μ) fun v15 μ14 => rec x12 v15 μ14
def gX0_may_22 (N : Nat)  (x1_ : Int32) (K : (wMem → Option (Int32 × wMem))) : Nat → (Int32 → Int32 → wMem → Option (Int32 × wMem))
  | 0 => fun _ _ _ => none
  | k + 1 => gbX0_may_22 N  x1_ K (gX0_may_22 N  x1_ K k)
set_option maxHeartbeats 4000000 in
set_option maxRecDepth 100000 in
theorem tX0_may_22 {p : Program} {l : Launch} {e : Env} {s : State} {m : MethodId} {args : Array Value} {below : List Frame} {meth : Method} {c : Code} {D : va_G} {E : List wCell} {q : Nat → Nat} {ca : wCA} {A : Nat → Prop} (C : wC p ({ frames := 5, cells := 0, slots := 0, locals := 111 } : Room) s m args meth c cX0_may yX0_may.cls 4 (some .int) D vwCl (spX ++ E) q ca A) (N : Nat)   (x1_ : Int32) (K : (wMem → Option (Int32 × wMem))) (r0 : (Int32 × wMem)) (hK : ∀  (μ : wMem), K  μ = some r0 → wJ p l e ({ frames := 5, cells := 0, slots := 0, locals := 111 } : Room) s m args below meth c 4 D vwCl (spX ++ E) q ca A (wQi ({ frames := 5, cells := 0, slots := 0, locals := 111 } : Room) D vwCl (spX ++ E) q ca below args s A r0) 0 0 μ 50 [] []) : ∀ (k : Nat) (x2_ : Int32) (x3_ : Int32) (μ : wMem), gX0_may_22 N  x1_ K k x2_ x3_ μ = some r0 → wJ p l e ({ frames := 5, cells := 0, slots := 0, locals := 111 } : Room) s m args below meth c 4 D vwCl (spX ++ E) q ca A (wQi ({ frames := 5, cells := 0, slots := 0, locals := 111 } : Room) D vwCl (spX ++ E) q ca below args s A r0) 0 0 μ 22 [(0, .ref (q 0)), (1, .int x1_), (2, .int x2_), (3, .int x3_)] [] := by
  intro k
  induction k with
  | zero =>
    intro x2_ x3_ μ hf
    cases hf
  | succ k ih =>
    intro x2_ x3_ μ hf
    replace hf : gbX0_may_22 N  x1_ K (gX0_may_22 N  x1_ K k) x2_ x3_ μ = some r0 := hf
    unfold gbX0_may_22 at hf
    refine wr_iload_n 22 C dX0_may_22 3 rfl rfl ?_
    refine wr_sipush 23 C dX0_may_23 (v := 200) rfl ?_
    refine wr_icmp_gt 26 50 C dX0_may_26 (by decide) (fun c10 => ?_) (fun c10 => ?_)
    · replace hf := o_pos c10 hf
      refine wr_sub [] [] rfl ?_
      exact hK  μ hf
    · replace hf := o_neg c10 hf
      refine wr_iload_n 29 C dX0_may_29 2 rfl rfl ?_
      refine wr_iload_n 30 C dX0_may_30 1 rfl rfl ?_
      refine wr_icmp_ne 31 36 C dX0_may_31 (by decide) (fun c11 => ?_) (fun c11 => ?_)
      · replace hf := o_neg c11 hf
        obtain ⟨x12, ex12, hf⟩ := o_let hf
        refine wr_iinc 36 [(2, .int x12), (0, .ref (q 0)), (1, .int x1_), (3, .int x3_)] C dX0_may_36 2 rfl (ex12.trans rfl) (Nat.le_of_ble_eq_true rfl) rfl ?_
        refine wr_aload_n 39 C dX0_may_39 1 rfl rfl ?_
        refine wr_iload_n 40 C dX0_may_40 3 rfl rfl ?_
        refine wr_iconst 41 C dX0_may_41 (v := 1) rfl ?_
        refine wr_iadd 42 C dX0_may_42 ?_
        obtain ⟨v15, μ14, h13, hf⟩ := o_bind hf
        refine wr_Vi (kc1 := 0) (ks1 := 0) 43 [] C dX0_may_43 (tX0_nextAct l N   (x3_ + (1 : Int32)) μ (v15, μ14) h13) okX0_nextAct q834 (b := 0) spX_0 rfl ⟨rfl, rfl, Nat.le_of_ble_eq_true rfl, Nat.le_of_ble_eq_true rfl, Nat.zero_le _, Nat.zero_le _⟩ (Nat.le_of_ble_eq_true rfl) rfl ?_
        refine wr_istore_n 46 [(3, .int v15), (2, .int x12), (0, .ref (q 0)), (1, .int x1_)] C dX0_may_46 rfl rfl (Nat.le_of_ble_eq_true rfl) rfl ?_
        refine wr_goto 47 C dX0_may_47 (tgt := 22) (by decide) ?_
        refine wr_sub [(0, .ref (q 0)), (1, .int x1_), (2, .int x12), (3, .int v15)] [2, 3, 1, 0] rfl ?_
        exact ih x12 v15 μ14 hf
      · replace hf := o_pos c11 hf
        refine wr_iload_n 34 C dX0_may_34 3 rfl rfl ?_
        exact wr_iret 35 C dX0_may_35 ⟨Nat.zero_le _, Nat.zero_le _⟩ (Option.some.inj hf)
def fX0_may (N : Nat)  (a1 : Int32) (μ : wMem) : Option (Int32 × wMem) :=
  wBind (fX0_isFamily N   μ) fun v3 μ2 => if v3 = 0 then some ((-2), μ2) else wBindV (fX0_asItIs N   μ2) fun μ6 => wBind (fX0_nextAct N  0 μ6) fun v9 μ8 => gX0_may_22 N  a1 (fun  (μ16 : wMem) => some ((-1), μ16)) N 0 v9 μ8
set_option maxHeartbeats 4000000 in
set_option maxRecDepth 100000 in
theorem tX0_may (l : Launch) {D : va_G} {E : List wCell} {q : Nat → Nat} {ca : wCA} (N : Nat)   (a1 : Int32) (μ : wMem) (r0 : (Int32 × wMem)) (hf : fX0_may N  a1 μ = some r0) : wMi l yX0_may cX0_may 4 (some .int) ({ frames := 5, cells := 0, slots := 0, locals := 111 } : Room) D vwCl (spX ++ E) q ca [.ref (q 0), .int a1] μ r0 := by
  refine wMi_intro (by decide) (Nat.le_of_ble_eq_true rfl) ?_
  intro p e s m args below meth c A C
  unfold fX0_may at hf
  refine wr_sub [(0, .ref (q 0)), (1, .int a1)] [0, 1] rfl ?_
  refine wr_aload_n 0 C dX0_may_0 0 rfl rfl ?_
  obtain ⟨v3, μ2, h1, hf⟩ := o_bind hf
  refine wr_Vi (kc1 := 0) (ks1 := 0) 1 [] C dX0_may_1 (tX0_isFamily l N    μ (v3, μ2) h1) okX0_isFamily q770 (b := 0) spX_0 rfl ⟨rfl, rfl, Nat.le_of_ble_eq_true rfl, Nat.le_of_ble_eq_true rfl, Nat.zero_le _, Nat.zero_le _⟩ (Nat.le_of_ble_eq_true rfl) rfl ?_
  refine wr_if_ne 4 10 C dX0_may_4 (by decide) (fun c4 => ?_) (fun c4 => ?_)
  · replace hf := o_neg c4 hf
    refine wr_aload_n 10 C dX0_may_10 0 rfl rfl ?_
    obtain ⟨μ6, h5, hf⟩ := o_bindV hf
    refine wr_Vv (kc1 := 0) (ks1 := 0) 11 [] C dX0_may_11 (tX0_asItIs l N    μ2 μ6 h5) okX0_asItIs q737 (b := 0) spX_0 rfl ⟨rfl, rfl, Nat.le_of_ble_eq_true rfl, Nat.le_of_ble_eq_true rfl, Nat.zero_le _, Nat.zero_le _⟩ (Nat.le_of_ble_eq_true rfl) rfl ?_
    refine wr_iconst 14 C dX0_may_14 (v := 0) rfl ?_
    refine wr_istore_n 15 [(2, .int 0), (0, .ref (q 0)), (1, .int a1)] C dX0_may_15 rfl rfl (Nat.le_of_ble_eq_true rfl) rfl ?_
    refine wr_aload_n 16 C dX0_may_16 1 rfl rfl ?_
    refine wr_iconst 17 C dX0_may_17 (v := 0) rfl ?_
    obtain ⟨v9, μ8, h7, hf⟩ := o_bind hf
    refine wr_Vi (kc1 := 0) (ks1 := 0) 18 [] C dX0_may_18 (tX0_nextAct l N   0 μ6 (v9, μ8) h7) okX0_nextAct q834 (b := 0) spX_0 rfl ⟨rfl, rfl, Nat.le_of_ble_eq_true rfl, Nat.le_of_ble_eq_true rfl, Nat.zero_le _, Nat.zero_le _⟩ (Nat.le_of_ble_eq_true rfl) rfl ?_
    refine wr_istore_n 21 [(3, .int v9), (2, .int 0), (0, .ref (q 0)), (1, .int a1)] C dX0_may_21 rfl rfl (Nat.le_of_ble_eq_true rfl) rfl ?_
    refine wr_sub [(0, .ref (q 0)), (1, .int a1), (2, .int 0), (3, .int v9)] [2, 3, 1, 0] rfl ?_
    refine tX0_may_22 C N   a1 _ r0 (fun  μ16 hf => ?_) N 0 v9 μ8 hf
    · replace hf := hf
      refine wr_iconst 50 C dX0_may_50 (v := (-1)) rfl ?_
      exact wr_iret 51 C dX0_may_51 ⟨Nat.zero_le _, Nat.zero_le _⟩ (Option.some.inj hf)
  · replace hf := o_pos c4 hf
    refine wr_bipush 7 C dX0_may_7 (v := (-2)) rfl ?_
    exact wr_iret 9 C dX0_may_9 ⟨Nat.zero_le _, Nat.zero_le _⟩ (Option.some.inj hf)
abbrev cX0_state : ByteArray := prog_1_method_21_code
def yX0_state : MethodName := ⟨RX0, "state", "()I"⟩
def dkwX0_state_1 : List UInt8 := [16, 7, 104, 42, 180, 0, 24, 4, 46, 96, 4, 96, 16, 16, 104, 42, 180, 0, 185, 96, 172]
abbrev dktX0_state_1 : List UInt8 := dkwX0_state_1 ++ []
def dkwX0_state_0 : List UInt8 := [42, 180, 0, 179, 5, 104, 42, 180, 0, 182, 96, 16, 7, 104, 42, 180, 0, 24, 3, 46, 96, 4, 96]
abbrev dktX0_state_0 : List UInt8 := dkwX0_state_0 ++ dktX0_state_1
theorem dksX0_state_0 : cX0_state.data.toList.drop 0 = dktX0_state_0 := by decide +kernel
theorem dksX0_state_1 : cX0_state.data.toList.drop 23 = dktX0_state_1 := dk_seg dksX0_state_0 23 rfl rfl
theorem dX0_state_0 : decode cX0_state 0 = .ok (.aload_n 0, 1) := dk_42 (dk_at dksX0_state_0 0 rfl rfl)
theorem dX0_state_1 : decode cX0_state 1 = .ok (.getfield 179, 3) := dk_180 0 179 (dk_at dksX0_state_0 1 rfl rfl)
theorem dX0_state_4 : decode cX0_state 4 = .ok (.iconst 2, 1) := dk_5 (dk_at dksX0_state_0 4 rfl rfl)
theorem dX0_state_5 : decode cX0_state 5 = .ok (.imul, 1) := dk_104 (dk_at dksX0_state_0 5 rfl rfl)
theorem dX0_state_6 : decode cX0_state 6 = .ok (.aload_n 0, 1) := dk_42 (dk_at dksX0_state_0 6 rfl rfl)
theorem dX0_state_7 : decode cX0_state 7 = .ok (.getfield 182, 3) := dk_180 0 182 (dk_at dksX0_state_0 7 rfl rfl)
theorem dX0_state_10 : decode cX0_state 10 = .ok (.iadd, 1) := dk_96 (dk_at dksX0_state_0 10 rfl rfl)
theorem dX0_state_11 : decode cX0_state 11 = .ok (.bipush 7, 2) := dk_16 7 (dk_at dksX0_state_0 11 rfl rfl)
theorem dX0_state_13 : decode cX0_state 13 = .ok (.imul, 1) := dk_104 (dk_at dksX0_state_0 13 rfl rfl)
theorem dX0_state_14 : decode cX0_state 14 = .ok (.aload_n 0, 1) := dk_42 (dk_at dksX0_state_0 14 rfl rfl)
theorem dX0_state_15 : decode cX0_state 15 = .ok (.getfield 24, 3) := dk_180 0 24 (dk_at dksX0_state_0 15 rfl rfl)
theorem dX0_state_18 : decode cX0_state 18 = .ok (.iconst 0, 1) := dk_3 (dk_at dksX0_state_0 18 rfl rfl)
theorem dX0_state_19 : decode cX0_state 19 = .ok (.iaload, 1) := dk_46 (dk_at dksX0_state_0 19 rfl rfl)
theorem dX0_state_20 : decode cX0_state 20 = .ok (.iadd, 1) := dk_96 (dk_at dksX0_state_0 20 rfl rfl)
theorem dX0_state_21 : decode cX0_state 21 = .ok (.iconst 1, 1) := dk_4 (dk_at dksX0_state_0 21 rfl rfl)
theorem dX0_state_22 : decode cX0_state 22 = .ok (.iadd, 1) := dk_96 (dk_at dksX0_state_0 22 rfl rfl)
theorem dX0_state_23 : decode cX0_state 23 = .ok (.bipush 7, 2) := dk_16 7 (dk_at dksX0_state_1 0 rfl rfl)
theorem dX0_state_25 : decode cX0_state 25 = .ok (.imul, 1) := dk_104 (dk_at dksX0_state_1 2 rfl rfl)
theorem dX0_state_26 : decode cX0_state 26 = .ok (.aload_n 0, 1) := dk_42 (dk_at dksX0_state_1 3 rfl rfl)
theorem dX0_state_27 : decode cX0_state 27 = .ok (.getfield 24, 3) := dk_180 0 24 (dk_at dksX0_state_1 4 rfl rfl)
theorem dX0_state_30 : decode cX0_state 30 = .ok (.iconst 1, 1) := dk_4 (dk_at dksX0_state_1 7 rfl rfl)
theorem dX0_state_31 : decode cX0_state 31 = .ok (.iaload, 1) := dk_46 (dk_at dksX0_state_1 8 rfl rfl)
theorem dX0_state_32 : decode cX0_state 32 = .ok (.iadd, 1) := dk_96 (dk_at dksX0_state_1 9 rfl rfl)
theorem dX0_state_33 : decode cX0_state 33 = .ok (.iconst 1, 1) := dk_4 (dk_at dksX0_state_1 10 rfl rfl)
theorem dX0_state_34 : decode cX0_state 34 = .ok (.iadd, 1) := dk_96 (dk_at dksX0_state_1 11 rfl rfl)
theorem dX0_state_35 : decode cX0_state 35 = .ok (.bipush 16, 2) := dk_16 16 (dk_at dksX0_state_1 12 rfl rfl)
theorem dX0_state_37 : decode cX0_state 37 = .ok (.imul, 1) := dk_104 (dk_at dksX0_state_1 14 rfl rfl)
theorem dX0_state_38 : decode cX0_state 38 = .ok (.aload_n 0, 1) := dk_42 (dk_at dksX0_state_1 15 rfl rfl)
theorem dX0_state_39 : decode cX0_state 39 = .ok (.getfield 185, 3) := dk_180 0 185 (dk_at dksX0_state_1 16 rfl rfl)
theorem dX0_state_42 : decode cX0_state 42 = .ok (.iadd, 1) := dk_96 (dk_at dksX0_state_1 19 rfl rfl)
theorem dX0_state_43 : decode cX0_state 43 = .ok (.ireturn, 1) := dk_172 (dk_at dksX0_state_1 20 rfl rfl)

theorem okX0_state : wOkV yX0_state cX0_state 1 (some .int) 0 := ⟨q867, qs35, q136, q868, by decide, by decide, by decide +kernel⟩
def fX0_state (N : Nat)   (μ : wMem) : Option (Int32 × wMem) :=
  wG (ok_in (0 : Int32) 2) (wG (ok_in (1 : Int32) 2) (some (((((((((((μ.1 0 5) * (2 : Int32)) + (μ.1 0 6)) * (7 : Int32)) + (μ.1 9 (Int32.toNatClampNeg (0 : Int32)))) + (1 : Int32)) * (7 : Int32)) + (μ.1 9 (Int32.toNatClampNeg (1 : Int32)))) + (1 : Int32)) * (16 : Int32)) + (μ.1 0 7), μ)))
set_option maxHeartbeats 4000000 in
set_option maxRecDepth 100000 in
theorem tX0_state (l : Launch) {D : va_G} {E : List wCell} {q : Nat → Nat} {ca : wCA} (N : Nat)    (μ : wMem) (r0 : (Int32 × wMem)) (hf : fX0_state N   μ = some r0) : wMi l yX0_state cX0_state 1 (some .int) ({ frames := 0, cells := 0, slots := 0, locals := 0 } : Room) D vwCl (spX ++ E) q ca [.ref (q 0)] μ r0 := by
  refine wMi_intro (by decide) (Nat.le_of_ble_eq_true rfl) ?_
  intro p e s m args below meth c A C
  unfold fX0_state at hf
  refine wr_sub [(0, .ref (q 0))] [0] rfl ?_
  refine wr_aload_n 0 C dX0_state_0 0 rfl rfl ?_
  refine gespX_0_5_X0 1 C dX0_state_1 ?_
  refine wr_iconst 4 C dX0_state_4 (v := 2) rfl ?_
  refine wr_imul 5 C dX0_state_5 ?_
  refine wr_aload_n 6 C dX0_state_6 0 rfl rfl ?_
  refine gespX_0_6_X0 7 C dX0_state_7 ?_
  refine wr_iadd 10 C dX0_state_10 ?_
  refine wr_bipush 11 C dX0_state_11 (v := 7) rfl ?_
  refine wr_imul 13 C dX0_state_13 ?_
  refine wr_aload_n 14 C dX0_state_14 0 rfl rfl ?_
  refine gespX_0_8_X0 15 C dX0_state_15 ?_
  refine wr_iconst 18 C dX0_state_18 (v := 0) rfl ?_
  obtain ⟨g1, hf⟩ := o_g hf
  refine wr_iald 19 C dX0_state_19 spX_9 g1 ?_
  refine wr_iadd 20 C dX0_state_20 ?_
  refine wr_iconst 21 C dX0_state_21 (v := 1) rfl ?_
  refine wr_iadd 22 C dX0_state_22 ?_
  refine wr_bipush 23 C dX0_state_23 (v := 7) rfl ?_
  refine wr_imul 25 C dX0_state_25 ?_
  refine wr_aload_n 26 C dX0_state_26 0 rfl rfl ?_
  refine gespX_0_8_X0 27 C dX0_state_27 ?_
  refine wr_iconst 30 C dX0_state_30 (v := 1) rfl ?_
  obtain ⟨g2, hf⟩ := o_g hf
  refine wr_iald 31 C dX0_state_31 spX_9 g2 ?_
  refine wr_iadd 32 C dX0_state_32 ?_
  refine wr_iconst 33 C dX0_state_33 (v := 1) rfl ?_
  refine wr_iadd 34 C dX0_state_34 ?_
  refine wr_bipush 35 C dX0_state_35 (v := 16) rfl ?_
  refine wr_imul 37 C dX0_state_37 ?_
  refine wr_aload_n 38 C dX0_state_38 0 rfl rfl ?_
  refine gespX_0_7_X0 39 C dX0_state_39 ?_
  refine wr_iadd 42 C dX0_state_42 ?_
  exact wr_iret 43 C dX0_state_43 ⟨Nat.zero_le _, Nat.zero_le _⟩ (Option.some.inj hf)
