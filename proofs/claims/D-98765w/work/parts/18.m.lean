set_option maxRecDepth 100000
abbrev cX6_whom : ByteArray := prog_11_method_123_code
def yX6_whom : MethodName := ⟨RX6, "whom", "(I)I"⟩
def dkwX6_whom_4 : List UInt8 := [172]
abbrev dktX6_whom_4 : List UInt8 := dkwX6_whom_4 ++ []
def dkwX6_whom_3 : List UInt8 := [54, 6, 21, 6, 29, 163, 0, 6, 167, 0, 9, 21, 4, 61, 21, 6, 62, 132, 4, 1, 167, 255, 198, 28]
abbrev dktX6_whom_3 : List UInt8 := dkwX6_whom_3 ++ dktX6_whom_4
def dkwX6_whom_2 : List UInt8 := [3, 182, 1, 183, 54, 5, 21, 5, 2, 160, 0, 5, 2, 172, 21, 5, 42, 21, 4, 27, 182, 1, 183, 100]
abbrev dktX6_whom_2 : List UInt8 := dkwX6_whom_2 ++ dktX6_whom_3
def dkwX6_whom_1 : List UInt8 := [16, 254, 172, 2, 61, 3, 62, 3, 54, 4, 21, 4, 42, 180, 0, 34, 5, 46, 162, 0, 53, 42, 21, 4]
abbrev dktX6_whom_1 : List UInt8 := dkwX6_whom_1 ++ dktX6_whom_2
def dkwX6_whom_0 : List UInt8 := [42, 3, 181, 0, 88, 42, 182, 1, 67, 153, 0, 15, 27, 133, 9, 20, 1, 14, 184, 0, 93, 154, 0, 6]
abbrev dktX6_whom_0 : List UInt8 := dkwX6_whom_0 ++ dktX6_whom_1
theorem dksX6_whom_0 : cX6_whom.data.toList.drop 0 = dktX6_whom_0 := by decide +kernel
theorem dksX6_whom_1 : cX6_whom.data.toList.drop 24 = dktX6_whom_1 := dk_seg dksX6_whom_0 24 rfl rfl
theorem dksX6_whom_2 : cX6_whom.data.toList.drop 48 = dktX6_whom_2 := dk_seg dksX6_whom_1 24 rfl rfl
theorem dksX6_whom_3 : cX6_whom.data.toList.drop 72 = dktX6_whom_3 := dk_seg dksX6_whom_2 24 rfl rfl
theorem dksX6_whom_4 : cX6_whom.data.toList.drop 96 = dktX6_whom_4 := dk_seg dksX6_whom_3 24 rfl rfl
theorem dX6_whom_0 : decode cX6_whom 0 = .ok (.aload_n 0, 1) := dk_42 (dk_at dksX6_whom_0 0 rfl rfl)
theorem dX6_whom_1 : decode cX6_whom 1 = .ok (.iconst 0, 1) := dk_3 (dk_at dksX6_whom_0 1 rfl rfl)
theorem dX6_whom_2 : decode cX6_whom 2 = .ok (.putfield 88, 3) := dk_181 0 88 (dk_at dksX6_whom_0 2 rfl rfl)
theorem dX6_whom_5 : decode cX6_whom 5 = .ok (.aload_n 0, 1) := dk_42 (dk_at dksX6_whom_0 5 rfl rfl)
theorem dX6_whom_6 : decode cX6_whom 6 = .ok (.invokevirtual 323, 3) := dk_182 1 67 (dk_at dksX6_whom_0 6 rfl rfl)
theorem dX6_whom_9 : decode cX6_whom 9 = .ok (.ifCond .eq 15, 3) := dk_153 0 15 (dk_at dksX6_whom_0 9 rfl rfl)
theorem dX6_whom_12 : decode cX6_whom 12 = .ok (.iload_n 1, 1) := dk_27 (dk_at dksX6_whom_0 12 rfl rfl)
theorem dX6_whom_13 : decode cX6_whom 13 = .ok (.i2l, 1) := dk_133 (dk_at dksX6_whom_0 13 rfl rfl)
theorem dX6_whom_14 : decode cX6_whom 14 = .ok (.lconst 0, 1) := dk_9 (dk_at dksX6_whom_0 14 rfl rfl)
theorem dX6_whom_15 : decode cX6_whom 15 = .ok (.ldc2_w 270, 3) := dk_20 1 14 (dk_at dksX6_whom_0 15 rfl rfl)
theorem dX6_whom_18 : decode cX6_whom 18 = .ok (.invokestatic 93, 3) := dk_184 0 93 (dk_at dksX6_whom_0 18 rfl rfl)
theorem dX6_whom_21 : decode cX6_whom 21 = .ok (.ifCond .ne 6, 3) := dk_154 0 6 (dk_at dksX6_whom_0 21 rfl rfl)
theorem dX6_whom_24 : decode cX6_whom 24 = .ok (.bipush (-2), 2) := dk_16 254 (dk_at dksX6_whom_1 0 rfl rfl)
theorem dX6_whom_26 : decode cX6_whom 26 = .ok (.ireturn, 1) := dk_172 (dk_at dksX6_whom_1 2 rfl rfl)
theorem dX6_whom_27 : decode cX6_whom 27 = .ok (.iconst (-1), 1) := dk_2 (dk_at dksX6_whom_1 3 rfl rfl)
theorem dX6_whom_28 : decode cX6_whom 28 = .ok (.istore_n 2, 1) := dk_61 (dk_at dksX6_whom_1 4 rfl rfl)
theorem dX6_whom_29 : decode cX6_whom 29 = .ok (.iconst 0, 1) := dk_3 (dk_at dksX6_whom_1 5 rfl rfl)
theorem dX6_whom_30 : decode cX6_whom 30 = .ok (.istore_n 3, 1) := dk_62 (dk_at dksX6_whom_1 6 rfl rfl)
theorem dX6_whom_31 : decode cX6_whom 31 = .ok (.iconst 0, 1) := dk_3 (dk_at dksX6_whom_1 7 rfl rfl)
theorem dX6_whom_32 : decode cX6_whom 32 = .ok (.istore 4, 2) := dk_54 4 (dk_at dksX6_whom_1 8 rfl rfl)
theorem dX6_whom_34 : decode cX6_whom 34 = .ok (.iload 4, 2) := dk_21 4 (dk_at dksX6_whom_1 10 rfl rfl)
theorem dX6_whom_36 : decode cX6_whom 36 = .ok (.aload_n 0, 1) := dk_42 (dk_at dksX6_whom_1 12 rfl rfl)
theorem dX6_whom_37 : decode cX6_whom 37 = .ok (.getfield 34, 3) := dk_180 0 34 (dk_at dksX6_whom_1 13 rfl rfl)
theorem dX6_whom_40 : decode cX6_whom 40 = .ok (.iconst 2, 1) := dk_5 (dk_at dksX6_whom_1 16 rfl rfl)
theorem dX6_whom_41 : decode cX6_whom 41 = .ok (.iaload, 1) := dk_46 (dk_at dksX6_whom_1 17 rfl rfl)
theorem dX6_whom_42 : decode cX6_whom 42 = .ok (.if_icmp .ge 53, 3) := dk_162 0 53 (dk_at dksX6_whom_1 18 rfl rfl)
theorem dX6_whom_45 : decode cX6_whom 45 = .ok (.aload_n 0, 1) := dk_42 (dk_at dksX6_whom_1 21 rfl rfl)
theorem dX6_whom_46 : decode cX6_whom 46 = .ok (.iload 4, 2) := dk_21 4 (dk_at dksX6_whom_1 22 rfl rfl)
theorem dX6_whom_48 : decode cX6_whom 48 = .ok (.iconst 0, 1) := dk_3 (dk_at dksX6_whom_2 0 rfl rfl)
theorem dX6_whom_49 : decode cX6_whom 49 = .ok (.invokevirtual 439, 3) := dk_182 1 183 (dk_at dksX6_whom_2 1 rfl rfl)
theorem dX6_whom_52 : decode cX6_whom 52 = .ok (.istore 5, 2) := dk_54 5 (dk_at dksX6_whom_2 4 rfl rfl)
theorem dX6_whom_54 : decode cX6_whom 54 = .ok (.iload 5, 2) := dk_21 5 (dk_at dksX6_whom_2 6 rfl rfl)
theorem dX6_whom_56 : decode cX6_whom 56 = .ok (.iconst (-1), 1) := dk_2 (dk_at dksX6_whom_2 8 rfl rfl)
theorem dX6_whom_57 : decode cX6_whom 57 = .ok (.if_icmp .ne 5, 3) := dk_160 0 5 (dk_at dksX6_whom_2 9 rfl rfl)
theorem dX6_whom_60 : decode cX6_whom 60 = .ok (.iconst (-1), 1) := dk_2 (dk_at dksX6_whom_2 12 rfl rfl)
theorem dX6_whom_61 : decode cX6_whom 61 = .ok (.ireturn, 1) := dk_172 (dk_at dksX6_whom_2 13 rfl rfl)
theorem dX6_whom_62 : decode cX6_whom 62 = .ok (.iload 5, 2) := dk_21 5 (dk_at dksX6_whom_2 14 rfl rfl)
theorem dX6_whom_64 : decode cX6_whom 64 = .ok (.aload_n 0, 1) := dk_42 (dk_at dksX6_whom_2 16 rfl rfl)
theorem dX6_whom_65 : decode cX6_whom 65 = .ok (.iload 4, 2) := dk_21 4 (dk_at dksX6_whom_2 17 rfl rfl)
theorem dX6_whom_67 : decode cX6_whom 67 = .ok (.iload_n 1, 1) := dk_27 (dk_at dksX6_whom_2 19 rfl rfl)
theorem dX6_whom_68 : decode cX6_whom 68 = .ok (.invokevirtual 439, 3) := dk_182 1 183 (dk_at dksX6_whom_2 20 rfl rfl)
theorem dX6_whom_71 : decode cX6_whom 71 = .ok (.isub, 1) := dk_100 (dk_at dksX6_whom_2 23 rfl rfl)
theorem dX6_whom_72 : decode cX6_whom 72 = .ok (.istore 6, 2) := dk_54 6 (dk_at dksX6_whom_3 0 rfl rfl)
theorem dX6_whom_74 : decode cX6_whom 74 = .ok (.iload 6, 2) := dk_21 6 (dk_at dksX6_whom_3 2 rfl rfl)
theorem dX6_whom_76 : decode cX6_whom 76 = .ok (.iload_n 3, 1) := dk_29 (dk_at dksX6_whom_3 4 rfl rfl)
theorem dX6_whom_77 : decode cX6_whom 77 = .ok (.if_icmp .gt 6, 3) := dk_163 0 6 (dk_at dksX6_whom_3 5 rfl rfl)
theorem dX6_whom_80 : decode cX6_whom 80 = .ok (.goto 9, 3) := dk_167 0 9 (dk_at dksX6_whom_3 8 rfl rfl)
theorem dX6_whom_83 : decode cX6_whom 83 = .ok (.iload 4, 2) := dk_21 4 (dk_at dksX6_whom_3 11 rfl rfl)
theorem dX6_whom_85 : decode cX6_whom 85 = .ok (.istore_n 2, 1) := dk_61 (dk_at dksX6_whom_3 13 rfl rfl)
theorem dX6_whom_86 : decode cX6_whom 86 = .ok (.iload 6, 2) := dk_21 6 (dk_at dksX6_whom_3 14 rfl rfl)
theorem dX6_whom_88 : decode cX6_whom 88 = .ok (.istore_n 3, 1) := dk_62 (dk_at dksX6_whom_3 16 rfl rfl)
theorem dX6_whom_89 : decode cX6_whom 89 = .ok (.iinc 4 1, 3) := dk_132 4 1 (dk_at dksX6_whom_3 17 rfl rfl)
theorem dX6_whom_92 : decode cX6_whom 92 = .ok (.goto (-58), 3) := dk_167 255 198 (dk_at dksX6_whom_3 20 rfl rfl)
theorem dX6_whom_95 : decode cX6_whom 95 = .ok (.iload_n 2, 1) := dk_28 (dk_at dksX6_whom_3 23 rfl rfl)
theorem dX6_whom_96 : decode cX6_whom 96 = .ok (.ireturn, 1) := dk_172 (dk_at dksX6_whom_4 0 rfl rfl)

theorem okX6_whom : wOkV yX6_whom cX6_whom 7 (some .int) 1 := ⟨q2044, q2045, q145, q2046, by decide, by decide, by decide +kernel⟩
def gbX6_whom_34 (N : Nat)  (x1_ : Int32) (K : (Int32 → wMem → Option (Int32 × wMem))) (rec : (Int32 → Int32 → Int32 → wMem → Option (Int32 × wMem))) (x2_ : Int32) (x3_ : Int32) (x4_ : Int32) (μ : wMem) : Option (Int32 × wMem) :=
  wG (ok_in (2 : Int32) 35) (if (μ.1 7 (Int32.toNatClampNeg (2 : Int32))) ≤ x4_ then K x2_ μ else wBind (fX6_surestBy N  x4_ 0 μ) fun v15 μ14 => if v15 = (-1 : Int32) then some ((-1), μ14) else wBind (fX6_surestBy N  x4_ x1_ μ14) fun v19 μ18 => wLet (v15 - v19 : Int32) fun x20 => wLet (fun (x22 : Int32) (x23 : Int32) (μ21 : wMem) => wLet (x4_ + 1 : Int32) fun x24 => rec x22 x23 x24 μ21) fun Jwhom89 => if x3_ < x20 then Jwhom89 x4_ x20 μ18 else Jwhom89 x2_ x3_ μ18)
def gX6_whom_34 (N : Nat)  (x1_ : Int32) (K : (Int32 → wMem → Option (Int32 × wMem))) : Nat → (Int32 → Int32 → Int32 → wMem → Option (Int32 × wMem))
  | 0 => fun _ _ _ _ => none
  | k + 1 => gbX6_whom_34 N  x1_ K (gX6_whom_34 N  x1_ K k)
set_option maxHeartbeats 4000000 in
set_option maxRecDepth 100000 in
theorem tX6_whom_34 {p : Program} {l : Launch} {e : Env} {s : State} {m : MethodId} {args : Array Value} {below : List Frame} {meth : Method} {c : Code} {D : va_G} {E : List wCell} {q : Nat → Nat} {ca : wCA} {A : Nat → Prop} (C : wC p ({ frames := 9, cells := 0, slots := 0, locals := 213 } : Room) s m args meth c cX6_whom yX6_whom.cls 7 (some .int) D vwCl (spM ++ E) q ca A) (N : Nat)   (x1_ : Int32) (K : (Int32 → wMem → Option (Int32 × wMem))) (r0 : (Int32 × wMem)) (hK : ∀ (y2_ : Int32) (μ : wMem), K y2_ μ = some r0 → wJ p l e ({ frames := 9, cells := 0, slots := 0, locals := 213 } : Room) s m args below meth c 7 D vwCl (spM ++ E) q ca A (wQi ({ frames := 9, cells := 0, slots := 0, locals := 213 } : Room) D vwCl (spM ++ E) q ca below args s A r0) 0 0 μ 95 [(2, .int y2_)] []) : ∀ (k : Nat) (x2_ : Int32) (x3_ : Int32) (x4_ : Int32) (μ : wMem), gX6_whom_34 N  x1_ K k x2_ x3_ x4_ μ = some r0 → wJ p l e ({ frames := 9, cells := 0, slots := 0, locals := 213 } : Room) s m args below meth c 7 D vwCl (spM ++ E) q ca A (wQi ({ frames := 9, cells := 0, slots := 0, locals := 213 } : Room) D vwCl (spM ++ E) q ca below args s A r0) 0 0 μ 34 [(0, .ref (q 0)), (1, .int x1_), (2, .int x2_), (3, .int x3_), (4, .int x4_)] [] := by
  intro k
  induction k with
  | zero =>
    intro x2_ x3_ x4_ μ hf
    cases hf
  | succ k ih =>
    intro x2_ x3_ x4_ μ hf
    replace hf : gbX6_whom_34 N  x1_ K (gX6_whom_34 N  x1_ K k) x2_ x3_ x4_ μ = some r0 := hf
    unfold gbX6_whom_34 at hf
    refine wr_iload 34 C dX6_whom_34 4 rfl ?_
    refine wr_aload_n 36 C dX6_whom_36 0 rfl rfl ?_
    refine gespM_0_17_X6 37 C dX6_whom_37 ?_
    refine wr_iconst 40 C dX6_whom_40 (v := 2) rfl ?_
    obtain ⟨g11, hf⟩ := o_g hf
    refine wr_iald 41 C dX6_whom_41 spM_7 g11 ?_
    refine wr_icmp_ge 42 95 C dX6_whom_42 (by decide) (fun c12 => ?_) (fun c12 => ?_)
    · replace hf := o_pos c12 hf
      refine wr_sub [(2, .int x2_)] [2] rfl ?_
      exact hK x2_ μ hf
    · replace hf := o_neg c12 hf
      refine wr_aload_n 45 C dX6_whom_45 0 rfl rfl ?_
      refine wr_iload 46 C dX6_whom_46 4 rfl ?_
      refine wr_iconst 48 C dX6_whom_48 (v := 0) rfl ?_
      obtain ⟨v15, μ14, h13, hf⟩ := o_bind hf
      refine wr_Vi (kc1 := 0) (ks1 := 0) 49 [] C dX6_whom_49 (tX6_surestBy l N   x4_ 0 μ (v15, μ14) h13) okX6_surestBy q2039 (b := 0) spM_0 rfl ⟨rfl, rfl, Nat.le_of_ble_eq_true rfl, Nat.le_of_ble_eq_true rfl, Nat.zero_le _, Nat.zero_le _⟩ (Nat.le_of_ble_eq_true rfl) rfl ?_
      refine wr_istore 52 [(5, .int v15), (0, .ref (q 0)), (1, .int x1_), (2, .int x2_), (3, .int x3_), (4, .int x4_)] C dX6_whom_52 rfl (Nat.le_of_ble_eq_true rfl) rfl ?_
      refine wr_iload 54 C dX6_whom_54 0 rfl ?_
      refine wr_iconst 56 C dX6_whom_56 (v := (-1)) rfl ?_
      refine wr_icmp_ne 57 62 C dX6_whom_57 (by decide) (fun c16 => ?_) (fun c16 => ?_)
      · replace hf := o_neg c16 hf
        refine wr_iload 62 C dX6_whom_62 0 rfl ?_
        refine wr_aload_n 64 C dX6_whom_64 1 rfl rfl ?_
        refine wr_iload 65 C dX6_whom_65 5 rfl ?_
        refine wr_iload_n 67 C dX6_whom_67 2 rfl rfl ?_
        obtain ⟨v19, μ18, h17, hf⟩ := o_bind hf
        refine wr_Vi (kc1 := 0) (ks1 := 0) 68 [.int v15] C dX6_whom_68 (tX6_surestBy l N   x4_ x1_ μ14 (v19, μ18) h17) okX6_surestBy q2039 (b := 0) spM_0 rfl ⟨rfl, rfl, Nat.le_of_ble_eq_true rfl, Nat.le_of_ble_eq_true rfl, Nat.zero_le _, Nat.zero_le _⟩ (Nat.le_of_ble_eq_true rfl) rfl ?_
        refine wr_isub 71 C dX6_whom_71 ?_
        obtain ⟨x20, ex20, hf⟩ := o_let hf
        refine wr_istore 72 [(6, .int x20), (5, .int v15), (0, .ref (q 0)), (1, .int x1_), (2, .int x2_), (3, .int x3_), (4, .int x4_)] C dX6_whom_72 ex20 (Nat.le_of_ble_eq_true rfl) rfl ?_
        refine wr_iload 74 C dX6_whom_74 0 rfl ?_
        refine wr_iload_n 76 C dX6_whom_76 5 rfl rfl ?_
        obtain ⟨Jwhom89, eJwhom89, hf⟩ := o_let hf
        have hJwhom89 : ∀ (x22 : Int32) (x23 : Int32) (μ21 : wMem), Jwhom89 x22 x23 μ21 = some r0 → wJ p l e ({ frames := 9, cells := 0, slots := 0, locals := 213 } : Room) s m args below meth c 7 D vwCl (spM ++ E) q ca A (wQi ({ frames := 9, cells := 0, slots := 0, locals := 213 } : Room) D vwCl (spM ++ E) q ca below args s A r0) 0 0 μ21 89 [(0, .ref (q 0)), (1, .int x1_), (2, .int x22), (3, .int x23), (4, .int x4_)] [] := by
          intro x22 x23 μ21 hf
          rw [eJwhom89] at hf
          obtain ⟨x24, ex24, hf⟩ := o_let hf
          refine wr_iinc 89 [(4, .int x24), (0, .ref (q 0)), (1, .int x1_), (2, .int x22), (3, .int x23)] C dX6_whom_89 4 rfl (ex24.trans rfl) (Nat.le_of_ble_eq_true rfl) rfl ?_
          refine wr_goto 92 C dX6_whom_92 (tgt := 34) (by decide) ?_
          refine wr_sub [(0, .ref (q 0)), (1, .int x1_), (2, .int x22), (3, .int x23), (4, .int x24)] [1, 2, 3, 4, 0] rfl ?_
          exact ih x22 x23 x24 μ21 hf
        refine wr_icmp_gt 77 83 C dX6_whom_77 (by decide) (fun c25 => ?_) (fun c25 => ?_)
        · replace hf := o_pos c25 hf
          refine wr_iload 83 C dX6_whom_83 6 rfl ?_
          refine wr_istore_n 85 [(2, .int x4_), (6, .int x20), (5, .int v15), (0, .ref (q 0)), (1, .int x1_), (3, .int x3_), (4, .int x4_)] C dX6_whom_85 rfl rfl (Nat.le_of_ble_eq_true rfl) rfl ?_
          refine wr_iload 86 C dX6_whom_86 1 rfl ?_
          refine wr_istore_n 88 [(3, .int x20), (2, .int x4_), (6, .int x20), (5, .int v15), (0, .ref (q 0)), (1, .int x1_), (4, .int x4_)] C dX6_whom_88 rfl rfl (Nat.le_of_ble_eq_true rfl) rfl ?_
          refine wr_sub [(0, .ref (q 0)), (1, .int x1_), (2, .int x4_), (3, .int x20), (4, .int x4_)] [4, 5, 1, 0, 6] rfl ?_
          exact hJwhom89 x4_ x20 μ18 hf
        · replace hf := o_neg c25 hf
          refine wr_goto 80 C dX6_whom_80 (tgt := 89) (by decide) ?_
          refine wr_sub [(0, .ref (q 0)), (1, .int x1_), (2, .int x2_), (3, .int x3_), (4, .int x4_)] [2, 3, 4, 5, 6] rfl ?_
          exact hJwhom89 x2_ x3_ μ18 hf
      · replace hf := o_pos c16 hf
        refine wr_iconst 60 C dX6_whom_60 (v := (-1)) rfl ?_
        exact wr_iret 61 C dX6_whom_61 ⟨Nat.zero_le _, Nat.zero_le _⟩ (Option.some.inj hf)
def fX6_whom (N : Nat)  (a1 : Int32) (μ : wMem) : Option (Int32 × wMem) :=
  wLet (wSI μ 0 0 (0 : Int32)) fun μ1 => wBind (fX6_isFamily N   μ1) fun v4 μ3 => wLet (fun  (μ5 : wMem) => some ((-2), μ5)) fun Jwhom24 => if v4 = 0 then Jwhom24  μ3 else wBind (fX6_in N  (Int32.toInt64 a1) 0 100 μ3) fun v9 μ8 => if v9 = 0 then Jwhom24  μ8 else gX6_whom_34 N  a1 (fun (x27 : Int32) (μ26 : wMem) => some (x27, μ26)) N (-1) 0 0 μ8
set_option maxHeartbeats 4000000 in
set_option maxRecDepth 100000 in
theorem tX6_whom (l : Launch) {D : va_G} {E : List wCell} {q : Nat → Nat} {ca : wCA} (N : Nat)   (a1 : Int32) (μ : wMem) (r0 : (Int32 × wMem)) (hf : fX6_whom N  a1 μ = some r0) : wMi l yX6_whom cX6_whom 7 (some .int) ({ frames := 9, cells := 0, slots := 0, locals := 213 } : Room) D vwCl (spM ++ E) q ca [.ref (q 0), .int a1] μ r0 := by
  refine wMi_intro (by decide) (Nat.le_of_ble_eq_true rfl) ?_
  intro p e s m args below meth c A C
  unfold fX6_whom at hf
  refine wr_sub [(0, .ref (q 0)), (1, .int a1)] [0, 1] rfl ?_
  refine wr_aload_n 0 C dX6_whom_0 0 rfl rfl ?_
  refine wr_iconst 1 C dX6_whom_1 (v := 0) rfl ?_
  obtain ⟨μ1, eμ1, hf⟩ := o_let hf
  refine puspM_0_0_X6 2 C dX6_whom_2 eμ1 ?_
  refine wr_aload_n 5 C dX6_whom_5 0 rfl rfl ?_
  obtain ⟨v4, μ3, h2, hf⟩ := o_bind hf
  refine wr_Vi (kc1 := 0) (ks1 := 0) 6 [] C dX6_whom_6 (tX6_isFamily l N    μ1 (v4, μ3) h2) okX6_isFamily q1750 (b := 0) spM_0 rfl ⟨rfl, rfl, Nat.le_of_ble_eq_true rfl, Nat.le_of_ble_eq_true rfl, Nat.zero_le _, Nat.zero_le _⟩ (Nat.le_of_ble_eq_true rfl) rfl ?_
  obtain ⟨Jwhom24, eJwhom24, hf⟩ := o_let hf
  have hJwhom24 : ∀  (μ5 : wMem), Jwhom24  μ5 = some r0 → wJ p l e ({ frames := 9, cells := 0, slots := 0, locals := 213 } : Room) s m args below meth c 7 D vwCl (spM ++ E) q ca A (wQi ({ frames := 9, cells := 0, slots := 0, locals := 213 } : Room) D vwCl (spM ++ E) q ca below args s A r0) 0 0 μ5 24 [] [] := by
    intro  μ5 hf
    rw [eJwhom24] at hf
    refine wr_bipush 24 C dX6_whom_24 (v := (-2)) rfl ?_
    exact wr_iret 26 C dX6_whom_26 ⟨Nat.zero_le _, Nat.zero_le _⟩ (Option.some.inj hf)
  refine wr_if_eq 9 24 C dX6_whom_9 (by decide) (fun c6 => ?_) (fun c6 => ?_)
  · replace hf := o_pos c6 hf
    refine wr_sub [] [] rfl ?_
    exact hJwhom24  μ3 hf
  · replace hf := o_neg c6 hf
    refine wr_iload_n 12 C dX6_whom_12 1 rfl rfl ?_
    refine wr_i2l 13 C dX6_whom_13 ?_
    refine wr_lconst 14 C dX6_whom_14 (v := 0) rfl ?_
    refine wr_ldc2 15 C dX6_whom_15 q1823 ?_
    obtain ⟨v9, μ8, h7, hf⟩ := o_bind hf
    refine wr_Si (kc1 := 0) (ks1 := 0) 18 [] C dX6_whom_18 (tX6_in l N   (Int32.toInt64 a1) 0 100 μ3 (v9, μ8) h7) okX6_in q1552 ⟨rfl, rfl, Nat.le_of_ble_eq_true rfl, Nat.le_of_ble_eq_true rfl, Nat.zero_le _, Nat.zero_le _⟩ (Nat.le_of_ble_eq_true rfl) rfl ?_
    refine wr_if_ne 21 27 C dX6_whom_21 (by decide) (fun c10 => ?_) (fun c10 => ?_)
    · replace hf := o_neg c10 hf
      refine wr_iconst 27 C dX6_whom_27 (v := (-1)) rfl ?_
      refine wr_istore_n 28 [(2, .int ((-1))), (0, .ref (q 0)), (1, .int a1)] C dX6_whom_28 rfl rfl (Nat.le_of_ble_eq_true rfl) rfl ?_
      refine wr_iconst 29 C dX6_whom_29 (v := 0) rfl ?_
      refine wr_istore_n 30 [(3, .int 0), (2, .int ((-1))), (0, .ref (q 0)), (1, .int a1)] C dX6_whom_30 rfl rfl (Nat.le_of_ble_eq_true rfl) rfl ?_
      refine wr_iconst 31 C dX6_whom_31 (v := 0) rfl ?_
      refine wr_istore 32 [(4, .int 0), (3, .int 0), (2, .int ((-1))), (0, .ref (q 0)), (1, .int a1)] C dX6_whom_32 rfl (Nat.le_of_ble_eq_true rfl) rfl ?_
      refine wr_sub [(0, .ref (q 0)), (1, .int a1), (2, .int ((-1))), (3, .int 0), (4, .int 0)] [3, 4, 2, 1, 0] rfl ?_
      refine tX6_whom_34 C N   a1 _ r0 (fun x27 μ26 hf => ?_) N (-1) 0 0 μ8 hf
      · replace hf := hf
        refine wr_iload_n 95 C dX6_whom_95 0 rfl rfl ?_
        exact wr_iret 96 C dX6_whom_96 ⟨Nat.zero_le _, Nat.zero_le _⟩ (Option.some.inj hf)
    · replace hf := o_pos c10 hf
      refine wr_sub [] [] rfl ?_
      exact hJwhom24  μ8 hf
abbrev cX6_isHope : ByteArray := prog_11_method_124_code
def yX6_isHope : MethodName := ⟨RX6, "isHope", "()Z"⟩
def dkwX6_isHope_0 : List UInt8 := [42, 3, 3, 3, 182, 1, 120, 19, 1, 101, 159, 0, 7, 4, 167, 0, 4, 3, 172]
abbrev dktX6_isHope_0 : List UInt8 := dkwX6_isHope_0 ++ []
theorem dksX6_isHope_0 : cX6_isHope.data.toList.drop 0 = dktX6_isHope_0 := by decide +kernel
theorem dX6_isHope_0 : decode cX6_isHope 0 = .ok (.aload_n 0, 1) := dk_42 (dk_at dksX6_isHope_0 0 rfl rfl)
theorem dX6_isHope_1 : decode cX6_isHope 1 = .ok (.iconst 0, 1) := dk_3 (dk_at dksX6_isHope_0 1 rfl rfl)
theorem dX6_isHope_2 : decode cX6_isHope 2 = .ok (.iconst 0, 1) := dk_3 (dk_at dksX6_isHope_0 2 rfl rfl)
theorem dX6_isHope_3 : decode cX6_isHope 3 = .ok (.iconst 0, 1) := dk_3 (dk_at dksX6_isHope_0 3 rfl rfl)
theorem dX6_isHope_4 : decode cX6_isHope 4 = .ok (.invokevirtual 376, 3) := dk_182 1 120 (dk_at dksX6_isHope_0 4 rfl rfl)
theorem dX6_isHope_7 : decode cX6_isHope 7 = .ok (.ldc_w 357, 3) := dk_19 1 101 (dk_at dksX6_isHope_0 7 rfl rfl)
theorem dX6_isHope_10 : decode cX6_isHope 10 = .ok (.if_icmp .eq 7, 3) := dk_159 0 7 (dk_at dksX6_isHope_0 10 rfl rfl)
theorem dX6_isHope_13 : decode cX6_isHope 13 = .ok (.iconst 1, 1) := dk_4 (dk_at dksX6_isHope_0 13 rfl rfl)
theorem dX6_isHope_14 : decode cX6_isHope 14 = .ok (.goto 4, 3) := dk_167 0 4 (dk_at dksX6_isHope_0 14 rfl rfl)
theorem dX6_isHope_17 : decode cX6_isHope 17 = .ok (.iconst 0, 1) := dk_3 (dk_at dksX6_isHope_0 17 rfl rfl)
theorem dX6_isHope_18 : decode cX6_isHope 18 = .ok (.ireturn, 1) := dk_172 (dk_at dksX6_isHope_0 18 rfl rfl)

theorem okX6_isHope : wOkV yX6_isHope cX6_isHope 1 (some .boolean) 0 := ⟨q2053, qs133, q145, q2054, by decide, by decide, by decide +kernel⟩
def fX6_isHope (N : Nat)   (μ : wMem) : Option (Int32 × wMem) :=
  wBind (fX6_seeksNow N  0 0 0 μ) fun v3 μ2 => if v3 = (2000000000 : Int32) then some (0, μ2) else some (1, μ2)
set_option maxHeartbeats 4000000 in
set_option maxRecDepth 100000 in
theorem tX6_isHope (l : Launch) {D : va_G} {E : List wCell} {q : Nat → Nat} {ca : wCA} (N : Nat)    (μ : wMem) (r0 : (Int32 × wMem)) (hf : fX6_isHope N   μ = some r0) : wMi l yX6_isHope cX6_isHope 1 (some .boolean) ({ frames := 8, cells := 0, slots := 0, locals := 189 } : Room) D vwCl (spM ++ E) q ca [.ref (q 0)] μ r0 := by
  refine wMi_intro (by decide) (Nat.le_of_ble_eq_true rfl) ?_
  intro p e s m args below meth c A C
  unfold fX6_isHope at hf
  refine wr_sub [(0, .ref (q 0))] [0] rfl ?_
  refine wr_aload_n 0 C dX6_isHope_0 0 rfl rfl ?_
  refine wr_iconst 1 C dX6_isHope_1 (v := 0) rfl ?_
  refine wr_iconst 2 C dX6_isHope_2 (v := 0) rfl ?_
  refine wr_iconst 3 C dX6_isHope_3 (v := 0) rfl ?_
  obtain ⟨v3, μ2, h1, hf⟩ := o_bind hf
  refine wr_Vi (kc1 := 0) (ks1 := 0) 4 [] C dX6_isHope_4 (tX6_seeksNow l N   0 0 0 μ (v3, μ2) h1) okX6_seeksNow q1837 (b := 0) spM_0 rfl ⟨rfl, rfl, Nat.le_of_ble_eq_true rfl, Nat.le_of_ble_eq_true rfl, Nat.zero_le _, Nat.zero_le _⟩ (Nat.le_of_ble_eq_true rfl) rfl ?_
  refine wr_ldcw 7 C dX6_isHope_7 q1857 ?_
  refine wr_icmp_eq 10 17 C dX6_isHope_10 (by decide) (fun c4 => ?_) (fun c4 => ?_)
  · replace hf := o_pos c4 hf
    refine wr_iconst 17 C dX6_isHope_17 (v := 0) rfl ?_
    exact wr_zret 18 C dX6_isHope_18 rfl ⟨Nat.zero_le _, Nat.zero_le _⟩ (Option.some.inj hf)
  · replace hf := o_neg c4 hf
    refine wr_iconst 13 C dX6_isHope_13 (v := 1) rfl ?_
    refine wr_goto 14 C dX6_isHope_14 (tgt := 18) (by decide) ?_
    exact wr_zret 18 C dX6_isHope_18 rfl ⟨Nat.zero_le _, Nat.zero_le _⟩ (Option.some.inj hf)
abbrev cX6_blur : ByteArray := prog_11_method_125_code
def yX6_blur : MethodName := ⟨RX6, "blur", "(I)I"⟩
def dkwX6_blur_3 : List UInt8 := [42, 180, 0, 43, 6, 27, 104, 4, 96, 28, 79, 29, 172]
abbrev dktX6_blur_3 : List UInt8 := dkwX6_blur_3 ++ []
def dkwX6_blur_2 : List UInt8 := [6, 27, 104, 4, 96, 21, 4, 79, 42, 182, 1, 186, 153, 0, 6, 21, 4, 62, 132, 4, 1, 167, 255, 219]
abbrev dktX6_blur_2 : List UInt8 := dkwX6_blur_2 ++ dktX6_blur_3
def dkwX6_blur_1 : List UInt8 := [96, 46, 61, 2, 62, 3, 54, 4, 21, 4, 16, 9, 163, 0, 36, 29, 2, 160, 0, 31, 42, 180, 0, 43]
abbrev dktX6_blur_1 : List UInt8 := dkwX6_blur_1 ++ dktX6_blur_2
def dkwX6_blur_0 : List UInt8 := [42, 3, 181, 0, 88, 42, 27, 182, 1, 64, 154, 0, 6, 16, 254, 172, 42, 180, 0, 43, 6, 27, 104, 4]
abbrev dktX6_blur_0 : List UInt8 := dkwX6_blur_0 ++ dktX6_blur_1
theorem dksX6_blur_0 : cX6_blur.data.toList.drop 0 = dktX6_blur_0 := by decide +kernel
theorem dksX6_blur_1 : cX6_blur.data.toList.drop 24 = dktX6_blur_1 := dk_seg dksX6_blur_0 24 rfl rfl
theorem dksX6_blur_2 : cX6_blur.data.toList.drop 48 = dktX6_blur_2 := dk_seg dksX6_blur_1 24 rfl rfl
theorem dksX6_blur_3 : cX6_blur.data.toList.drop 72 = dktX6_blur_3 := dk_seg dksX6_blur_2 24 rfl rfl
theorem dX6_blur_0 : decode cX6_blur 0 = .ok (.aload_n 0, 1) := dk_42 (dk_at dksX6_blur_0 0 rfl rfl)
theorem dX6_blur_1 : decode cX6_blur 1 = .ok (.iconst 0, 1) := dk_3 (dk_at dksX6_blur_0 1 rfl rfl)
theorem dX6_blur_2 : decode cX6_blur 2 = .ok (.putfield 88, 3) := dk_181 0 88 (dk_at dksX6_blur_0 2 rfl rfl)
theorem dX6_blur_5 : decode cX6_blur 5 = .ok (.aload_n 0, 1) := dk_42 (dk_at dksX6_blur_0 5 rfl rfl)
theorem dX6_blur_6 : decode cX6_blur 6 = .ok (.iload_n 1, 1) := dk_27 (dk_at dksX6_blur_0 6 rfl rfl)
theorem dX6_blur_7 : decode cX6_blur 7 = .ok (.invokevirtual 320, 3) := dk_182 1 64 (dk_at dksX6_blur_0 7 rfl rfl)
theorem dX6_blur_10 : decode cX6_blur 10 = .ok (.ifCond .ne 6, 3) := dk_154 0 6 (dk_at dksX6_blur_0 10 rfl rfl)
theorem dX6_blur_13 : decode cX6_blur 13 = .ok (.bipush (-2), 2) := dk_16 254 (dk_at dksX6_blur_0 13 rfl rfl)
theorem dX6_blur_15 : decode cX6_blur 15 = .ok (.ireturn, 1) := dk_172 (dk_at dksX6_blur_0 15 rfl rfl)
theorem dX6_blur_16 : decode cX6_blur 16 = .ok (.aload_n 0, 1) := dk_42 (dk_at dksX6_blur_0 16 rfl rfl)
theorem dX6_blur_17 : decode cX6_blur 17 = .ok (.getfield 43, 3) := dk_180 0 43 (dk_at dksX6_blur_0 17 rfl rfl)
theorem dX6_blur_20 : decode cX6_blur 20 = .ok (.iconst 3, 1) := dk_6 (dk_at dksX6_blur_0 20 rfl rfl)
theorem dX6_blur_21 : decode cX6_blur 21 = .ok (.iload_n 1, 1) := dk_27 (dk_at dksX6_blur_0 21 rfl rfl)
theorem dX6_blur_22 : decode cX6_blur 22 = .ok (.imul, 1) := dk_104 (dk_at dksX6_blur_0 22 rfl rfl)
theorem dX6_blur_23 : decode cX6_blur 23 = .ok (.iconst 1, 1) := dk_4 (dk_at dksX6_blur_0 23 rfl rfl)
theorem dX6_blur_24 : decode cX6_blur 24 = .ok (.iadd, 1) := dk_96 (dk_at dksX6_blur_1 0 rfl rfl)
theorem dX6_blur_25 : decode cX6_blur 25 = .ok (.iaload, 1) := dk_46 (dk_at dksX6_blur_1 1 rfl rfl)
theorem dX6_blur_26 : decode cX6_blur 26 = .ok (.istore_n 2, 1) := dk_61 (dk_at dksX6_blur_1 2 rfl rfl)
theorem dX6_blur_27 : decode cX6_blur 27 = .ok (.iconst (-1), 1) := dk_2 (dk_at dksX6_blur_1 3 rfl rfl)
theorem dX6_blur_28 : decode cX6_blur 28 = .ok (.istore_n 3, 1) := dk_62 (dk_at dksX6_blur_1 4 rfl rfl)
theorem dX6_blur_29 : decode cX6_blur 29 = .ok (.iconst 0, 1) := dk_3 (dk_at dksX6_blur_1 5 rfl rfl)
theorem dX6_blur_30 : decode cX6_blur 30 = .ok (.istore 4, 2) := dk_54 4 (dk_at dksX6_blur_1 6 rfl rfl)
theorem dX6_blur_32 : decode cX6_blur 32 = .ok (.iload 4, 2) := dk_21 4 (dk_at dksX6_blur_1 8 rfl rfl)
theorem dX6_blur_34 : decode cX6_blur 34 = .ok (.bipush 9, 2) := dk_16 9 (dk_at dksX6_blur_1 10 rfl rfl)
theorem dX6_blur_36 : decode cX6_blur 36 = .ok (.if_icmp .gt 36, 3) := dk_163 0 36 (dk_at dksX6_blur_1 12 rfl rfl)
theorem dX6_blur_39 : decode cX6_blur 39 = .ok (.iload_n 3, 1) := dk_29 (dk_at dksX6_blur_1 15 rfl rfl)
theorem dX6_blur_40 : decode cX6_blur 40 = .ok (.iconst (-1), 1) := dk_2 (dk_at dksX6_blur_1 16 rfl rfl)
theorem dX6_blur_41 : decode cX6_blur 41 = .ok (.if_icmp .ne 31, 3) := dk_160 0 31 (dk_at dksX6_blur_1 17 rfl rfl)
theorem dX6_blur_44 : decode cX6_blur 44 = .ok (.aload_n 0, 1) := dk_42 (dk_at dksX6_blur_1 20 rfl rfl)
theorem dX6_blur_45 : decode cX6_blur 45 = .ok (.getfield 43, 3) := dk_180 0 43 (dk_at dksX6_blur_1 21 rfl rfl)
theorem dX6_blur_48 : decode cX6_blur 48 = .ok (.iconst 3, 1) := dk_6 (dk_at dksX6_blur_2 0 rfl rfl)
theorem dX6_blur_49 : decode cX6_blur 49 = .ok (.iload_n 1, 1) := dk_27 (dk_at dksX6_blur_2 1 rfl rfl)
theorem dX6_blur_50 : decode cX6_blur 50 = .ok (.imul, 1) := dk_104 (dk_at dksX6_blur_2 2 rfl rfl)
theorem dX6_blur_51 : decode cX6_blur 51 = .ok (.iconst 1, 1) := dk_4 (dk_at dksX6_blur_2 3 rfl rfl)
theorem dX6_blur_52 : decode cX6_blur 52 = .ok (.iadd, 1) := dk_96 (dk_at dksX6_blur_2 4 rfl rfl)
theorem dX6_blur_53 : decode cX6_blur 53 = .ok (.iload 4, 2) := dk_21 4 (dk_at dksX6_blur_2 5 rfl rfl)
theorem dX6_blur_55 : decode cX6_blur 55 = .ok (.iastore, 1) := dk_79 (dk_at dksX6_blur_2 7 rfl rfl)
theorem dX6_blur_56 : decode cX6_blur 56 = .ok (.aload_n 0, 1) := dk_42 (dk_at dksX6_blur_2 8 rfl rfl)
theorem dX6_blur_57 : decode cX6_blur 57 = .ok (.invokevirtual 442, 3) := dk_182 1 186 (dk_at dksX6_blur_2 9 rfl rfl)
theorem dX6_blur_60 : decode cX6_blur 60 = .ok (.ifCond .eq 6, 3) := dk_153 0 6 (dk_at dksX6_blur_2 12 rfl rfl)
theorem dX6_blur_63 : decode cX6_blur 63 = .ok (.iload 4, 2) := dk_21 4 (dk_at dksX6_blur_2 15 rfl rfl)
theorem dX6_blur_65 : decode cX6_blur 65 = .ok (.istore_n 3, 1) := dk_62 (dk_at dksX6_blur_2 17 rfl rfl)
theorem dX6_blur_66 : decode cX6_blur 66 = .ok (.iinc 4 1, 3) := dk_132 4 1 (dk_at dksX6_blur_2 18 rfl rfl)
theorem dX6_blur_69 : decode cX6_blur 69 = .ok (.goto (-37), 3) := dk_167 255 219 (dk_at dksX6_blur_2 21 rfl rfl)
theorem dX6_blur_72 : decode cX6_blur 72 = .ok (.aload_n 0, 1) := dk_42 (dk_at dksX6_blur_3 0 rfl rfl)
theorem dX6_blur_73 : decode cX6_blur 73 = .ok (.getfield 43, 3) := dk_180 0 43 (dk_at dksX6_blur_3 1 rfl rfl)
theorem dX6_blur_76 : decode cX6_blur 76 = .ok (.iconst 3, 1) := dk_6 (dk_at dksX6_blur_3 4 rfl rfl)
theorem dX6_blur_77 : decode cX6_blur 77 = .ok (.iload_n 1, 1) := dk_27 (dk_at dksX6_blur_3 5 rfl rfl)
theorem dX6_blur_78 : decode cX6_blur 78 = .ok (.imul, 1) := dk_104 (dk_at dksX6_blur_3 6 rfl rfl)
theorem dX6_blur_79 : decode cX6_blur 79 = .ok (.iconst 1, 1) := dk_4 (dk_at dksX6_blur_3 7 rfl rfl)
theorem dX6_blur_80 : decode cX6_blur 80 = .ok (.iadd, 1) := dk_96 (dk_at dksX6_blur_3 8 rfl rfl)
theorem dX6_blur_81 : decode cX6_blur 81 = .ok (.iload_n 2, 1) := dk_28 (dk_at dksX6_blur_3 9 rfl rfl)
theorem dX6_blur_82 : decode cX6_blur 82 = .ok (.iastore, 1) := dk_79 (dk_at dksX6_blur_3 10 rfl rfl)
theorem dX6_blur_83 : decode cX6_blur 83 = .ok (.iload_n 3, 1) := dk_29 (dk_at dksX6_blur_3 11 rfl rfl)
theorem dX6_blur_84 : decode cX6_blur 84 = .ok (.ireturn, 1) := dk_172 (dk_at dksX6_blur_3 12 rfl rfl)

theorem okX6_blur : wOkV yX6_blur cX6_blur 5 (some .int) 1 := ⟨q2048, q2049, q145, q2050, by decide, by decide, by decide +kernel⟩
def gbX6_blur_32 (N : Nat)  (x1_ : Int32) (x2_ : Int32) (K : (Int32 → wMem → Option (Int32 × wMem))) (rec : (Int32 → Int32 → wMem → Option (Int32 × wMem))) (x3_ : Int32) (x4_ : Int32) (μ : wMem) : Option (Int32 × wMem) :=
  if (9 : Int32) < x4_ then K x3_ μ else if x3_ = (-1 : Int32) then wG (ok_in (((3 : Int32) * x1_) + (1 : Int32)) 30) (wLet (wSI μ 10 (Int32.toNatClampNeg (((3 : Int32) * x1_) + (1 : Int32))) x4_) fun μ11 => wBind (fX6_isHope N   μ11) fun v14 μ13 => wLet (fun (x16 : Int32) (μ15 : wMem) => wLet (x4_ + 1 : Int32) fun x17 => rec x16 x17 μ15) fun Jblur66 => if v14 = 0 then Jblur66 x3_ μ13 else Jblur66 x4_ μ13) else K x3_ μ
def gX6_blur_32 (N : Nat)  (x1_ : Int32) (x2_ : Int32) (K : (Int32 → wMem → Option (Int32 × wMem))) : Nat → (Int32 → Int32 → wMem → Option (Int32 × wMem))
  | 0 => fun _ _ _ => none
  | k + 1 => gbX6_blur_32 N  x1_ x2_ K (gX6_blur_32 N  x1_ x2_ K k)
set_option maxHeartbeats 4000000 in
set_option maxRecDepth 100000 in
theorem tX6_blur_32 {p : Program} {l : Launch} {e : Env} {s : State} {m : MethodId} {args : Array Value} {below : List Frame} {meth : Method} {c : Code} {D : va_G} {E : List wCell} {q : Nat → Nat} {ca : wCA} {A : Nat → Prop} (C : wC p ({ frames := 9, cells := 0, slots := 0, locals := 209 } : Room) s m args meth c cX6_blur yX6_blur.cls 5 (some .int) D vwCl (spM ++ E) q ca A) (N : Nat)   (x1_ : Int32) (x2_ : Int32) (K : (Int32 → wMem → Option (Int32 × wMem))) (r0 : (Int32 × wMem)) (hK : ∀ (y3_ : Int32) (μ : wMem), K y3_ μ = some r0 → wJ p l e ({ frames := 9, cells := 0, slots := 0, locals := 209 } : Room) s m args below meth c 5 D vwCl (spM ++ E) q ca A (wQi ({ frames := 9, cells := 0, slots := 0, locals := 209 } : Room) D vwCl (spM ++ E) q ca below args s A r0) 0 0 μ 72 [(0, .ref (q 0)), (1, .int x1_), (2, .int x2_), (3, .int y3_)] []) : ∀ (k : Nat) (x3_ : Int32) (x4_ : Int32) (μ : wMem), gX6_blur_32 N  x1_ x2_ K k x3_ x4_ μ = some r0 → wJ p l e ({ frames := 9, cells := 0, slots := 0, locals := 209 } : Room) s m args below meth c 5 D vwCl (spM ++ E) q ca A (wQi ({ frames := 9, cells := 0, slots := 0, locals := 209 } : Room) D vwCl (spM ++ E) q ca below args s A r0) 0 0 μ 32 [(0, .ref (q 0)), (1, .int x1_), (2, .int x2_), (3, .int x3_), (4, .int x4_)] [] := by
  intro k
  induction k with
  | zero =>
    intro x3_ x4_ μ hf
    cases hf
  | succ k ih =>
    intro x3_ x4_ μ hf
    replace hf : gbX6_blur_32 N  x1_ x2_ K (gX6_blur_32 N  x1_ x2_ K k) x3_ x4_ μ = some r0 := hf
    unfold gbX6_blur_32 at hf
    refine wr_iload 32 C dX6_blur_32 4 rfl ?_
    refine wr_bipush 34 C dX6_blur_34 (v := 9) rfl ?_
    refine wr_icmp_gt 36 72 C dX6_blur_36 (by decide) (fun c8 => ?_) (fun c8 => ?_)
    · replace hf := o_pos c8 hf
      refine wr_sub [(0, .ref (q 0)), (1, .int x1_), (2, .int x2_), (3, .int x3_)] [0, 1, 2, 3] rfl ?_
      exact hK x3_ μ hf
    · replace hf := o_neg c8 hf
      refine wr_iload_n 39 C dX6_blur_39 3 rfl rfl ?_
      refine wr_iconst 40 C dX6_blur_40 (v := (-1)) rfl ?_
      refine wr_icmp_ne 41 72 C dX6_blur_41 (by decide) (fun c9 => ?_) (fun c9 => ?_)
      · replace hf := o_neg c9 hf
        refine wr_sub [(0, .ref (q 0)), (1, .int x1_), (2, .int x2_), (3, .int x3_)] [0, 1, 2, 3] rfl ?_
        exact hK x3_ μ hf
      · replace hf := o_pos c9 hf
        refine wr_aload_n 44 C dX6_blur_44 0 rfl rfl ?_
        refine gespM_0_20_X6 45 C dX6_blur_45 ?_
        refine wr_iconst 48 C dX6_blur_48 (v := 3) rfl ?_
        refine wr_iload_n 49 C dX6_blur_49 1 rfl rfl ?_
        refine wr_imul 50 C dX6_blur_50 ?_
        refine wr_iconst 51 C dX6_blur_51 (v := 1) rfl ?_
        refine wr_iadd 52 C dX6_blur_52 ?_
        refine wr_iload 53 C dX6_blur_53 4 rfl ?_
        obtain ⟨g10, hf⟩ := o_g hf
        obtain ⟨μ11, eμ11, hf⟩ := o_let hf
        refine wr_iast 55 C dX6_blur_55 spM_10 g10 eμ11 ?_
        refine wr_aload_n 56 C dX6_blur_56 0 rfl rfl ?_
        obtain ⟨v14, μ13, h12, hf⟩ := o_bind hf
        refine wr_Vi (kc1 := 0) (ks1 := 0) 57 [] C dX6_blur_57 (tX6_isHope l N    μ11 (v14, μ13) h12) okX6_isHope q2051 (b := 0) spM_0 rfl ⟨rfl, rfl, Nat.le_of_ble_eq_true rfl, Nat.le_of_ble_eq_true rfl, Nat.zero_le _, Nat.zero_le _⟩ (Nat.le_of_ble_eq_true rfl) rfl ?_
        obtain ⟨Jblur66, eJblur66, hf⟩ := o_let hf
        have hJblur66 : ∀ (x16 : Int32) (μ15 : wMem), Jblur66 x16 μ15 = some r0 → wJ p l e ({ frames := 9, cells := 0, slots := 0, locals := 209 } : Room) s m args below meth c 5 D vwCl (spM ++ E) q ca A (wQi ({ frames := 9, cells := 0, slots := 0, locals := 209 } : Room) D vwCl (spM ++ E) q ca below args s A r0) 0 0 μ15 66 [(0, .ref (q 0)), (1, .int x1_), (2, .int x2_), (3, .int x16), (4, .int x4_)] [] := by
          intro x16 μ15 hf
          rw [eJblur66] at hf
          obtain ⟨x17, ex17, hf⟩ := o_let hf
          refine wr_iinc 66 [(4, .int x17), (0, .ref (q 0)), (1, .int x1_), (2, .int x2_), (3, .int x16)] C dX6_blur_66 4 rfl (ex17.trans rfl) (Nat.le_of_ble_eq_true rfl) rfl ?_
          refine wr_goto 69 C dX6_blur_69 (tgt := 32) (by decide) ?_
          refine wr_sub [(0, .ref (q 0)), (1, .int x1_), (2, .int x2_), (3, .int x16), (4, .int x17)] [1, 2, 3, 4, 0] rfl ?_
          exact ih x16 x17 μ15 hf
        refine wr_if_eq 60 66 C dX6_blur_60 (by decide) (fun c18 => ?_) (fun c18 => ?_)
        · replace hf := o_pos c18 hf
          exact hJblur66 x3_ μ13 hf
        · replace hf := o_neg c18 hf
          refine wr_iload 63 C dX6_blur_63 4 rfl ?_
          refine wr_istore_n 65 [(3, .int x4_), (0, .ref (q 0)), (1, .int x1_), (2, .int x2_), (4, .int x4_)] C dX6_blur_65 rfl rfl (Nat.le_of_ble_eq_true rfl) rfl ?_
          refine wr_sub [(0, .ref (q 0)), (1, .int x1_), (2, .int x2_), (3, .int x4_), (4, .int x4_)] [1, 2, 3, 0, 4] rfl ?_
          exact hJblur66 x4_ μ13 hf
def fX6_blur (N : Nat)  (a1 : Int32) (μ : wMem) : Option (Int32 × wMem) :=
  wLet (wSI μ 0 0 (0 : Int32)) fun μ1 => wBind (fX6_isPost N  a1 μ1) fun v4 μ3 => if v4 = 0 then some ((-2), μ3) else wG (ok_in (((3 : Int32) * a1) + (1 : Int32)) 30) (wLet (μ3.1 10 (Int32.toNatClampNeg (((3 : Int32) * a1) + (1 : Int32))) : Int32) fun x7 => gX6_blur_32 N  a1 x7 (fun (x20 : Int32) (μ19 : wMem) => wG (ok_in (((3 : Int32) * a1) + (1 : Int32)) 30) (wLet (wSI μ19 10 (Int32.toNatClampNeg (((3 : Int32) * a1) + (1 : Int32))) x7) fun μ22 => some (x20, μ22))) N (-1) 0 μ3)
set_option maxHeartbeats 4000000 in
set_option maxRecDepth 100000 in
theorem tX6_blur (l : Launch) {D : va_G} {E : List wCell} {q : Nat → Nat} {ca : wCA} (N : Nat)   (a1 : Int32) (μ : wMem) (r0 : (Int32 × wMem)) (hf : fX6_blur N  a1 μ = some r0) : wMi l yX6_blur cX6_blur 5 (some .int) ({ frames := 9, cells := 0, slots := 0, locals := 209 } : Room) D vwCl (spM ++ E) q ca [.ref (q 0), .int a1] μ r0 := by
  refine wMi_intro (by decide) (Nat.le_of_ble_eq_true rfl) ?_
  intro p e s m args below meth c A C
  unfold fX6_blur at hf
  refine wr_sub [(0, .ref (q 0)), (1, .int a1)] [0, 1] rfl ?_
  refine wr_aload_n 0 C dX6_blur_0 0 rfl rfl ?_
  refine wr_iconst 1 C dX6_blur_1 (v := 0) rfl ?_
  obtain ⟨μ1, eμ1, hf⟩ := o_let hf
  refine puspM_0_0_X6 2 C dX6_blur_2 eμ1 ?_
  refine wr_aload_n 5 C dX6_blur_5 0 rfl rfl ?_
  refine wr_iload_n 6 C dX6_blur_6 1 rfl rfl ?_
  obtain ⟨v4, μ3, h2, hf⟩ := o_bind hf
  refine wr_Vi (kc1 := 0) (ks1 := 0) 7 [] C dX6_blur_7 (tX6_isPost l N   a1 μ1 (v4, μ3) h2) okX6_isPost q1730 (b := 0) spM_0 rfl ⟨rfl, rfl, Nat.le_of_ble_eq_true rfl, Nat.le_of_ble_eq_true rfl, Nat.zero_le _, Nat.zero_le _⟩ (Nat.le_of_ble_eq_true rfl) rfl ?_
  refine wr_if_ne 10 16 C dX6_blur_10 (by decide) (fun c5 => ?_) (fun c5 => ?_)
  · replace hf := o_neg c5 hf
    refine wr_aload_n 16 C dX6_blur_16 0 rfl rfl ?_
    refine gespM_0_20_X6 17 C dX6_blur_17 ?_
    refine wr_iconst 20 C dX6_blur_20 (v := 3) rfl ?_
    refine wr_iload_n 21 C dX6_blur_21 1 rfl rfl ?_
    refine wr_imul 22 C dX6_blur_22 ?_
    refine wr_iconst 23 C dX6_blur_23 (v := 1) rfl ?_
    refine wr_iadd 24 C dX6_blur_24 ?_
    obtain ⟨g6, hf⟩ := o_g hf
    refine wr_iald 25 C dX6_blur_25 spM_10 g6 ?_
    obtain ⟨x7, ex7, hf⟩ := o_let hf
    refine wr_istore_n 26 [(2, .int x7), (0, .ref (q 0)), (1, .int a1)] C dX6_blur_26 ex7 rfl (Nat.le_of_ble_eq_true rfl) rfl ?_
    refine wr_iconst 27 C dX6_blur_27 (v := (-1)) rfl ?_
    refine wr_istore_n 28 [(3, .int ((-1))), (2, .int x7), (0, .ref (q 0)), (1, .int a1)] C dX6_blur_28 rfl rfl (Nat.le_of_ble_eq_true rfl) rfl ?_
    refine wr_iconst 29 C dX6_blur_29 (v := 0) rfl ?_
    refine wr_istore 30 [(4, .int 0), (3, .int ((-1))), (2, .int x7), (0, .ref (q 0)), (1, .int a1)] C dX6_blur_30 rfl (Nat.le_of_ble_eq_true rfl) rfl ?_
    refine wr_sub [(0, .ref (q 0)), (1, .int a1), (2, .int x7), (3, .int ((-1))), (4, .int 0)] [3, 4, 2, 1, 0] rfl ?_
    refine tX6_blur_32 C N   a1 x7 _ r0 (fun x20 μ19 hf => ?_) N (-1) 0 μ3 hf
    · replace hf := hf
      refine wr_aload_n 72 C dX6_blur_72 0 rfl rfl ?_
      refine gespM_0_20_X6 73 C dX6_blur_73 ?_
      refine wr_iconst 76 C dX6_blur_76 (v := 3) rfl ?_
      refine wr_iload_n 77 C dX6_blur_77 1 rfl rfl ?_
      refine wr_imul 78 C dX6_blur_78 ?_
      refine wr_iconst 79 C dX6_blur_79 (v := 1) rfl ?_
      refine wr_iadd 80 C dX6_blur_80 ?_
      refine wr_iload_n 81 C dX6_blur_81 2 rfl rfl ?_
      obtain ⟨g21, hf⟩ := o_g hf
      obtain ⟨μ22, eμ22, hf⟩ := o_let hf
      refine wr_iast 82 C dX6_blur_82 spM_10 g21 eμ22 ?_
      refine wr_iload_n 83 C dX6_blur_83 3 rfl rfl ?_
      exact wr_iret 84 C dX6_blur_84 ⟨Nat.zero_le _, Nat.zero_le _⟩ (Option.some.inj hf)
  · replace hf := o_pos c5 hf
    refine wr_bipush 13 C dX6_blur_13 (v := (-2)) rfl ?_
    exact wr_iret 15 C dX6_blur_15 ⟨Nat.zero_le _, Nat.zero_le _⟩ (Option.some.inj hf)
abbrev cX6_looks : ByteArray := prog_11_method_126_code
def yX6_looks : MethodName := ⟨RX6, "looks", "(I)I"⟩
def dkwX6_looks_3 : List UInt8 := [180, 0, 43, 6, 27, 104, 5, 96, 28, 79, 29, 172]
abbrev dktX6_looks_3 : List UInt8 := dkwX6_looks_3 ++ []
def dkwX6_looks_2 : List UInt8 := [104, 5, 96, 21, 4, 79, 42, 182, 1, 186, 153, 0, 6, 21, 4, 62, 132, 4, 255, 167, 255, 221, 42]
abbrev dktX6_looks_2 : List UInt8 := dkwX6_looks_2 ++ dktX6_looks_3
def dkwX6_looks_1 : List UInt8 := [96, 46, 61, 2, 62, 6, 54, 4, 21, 4, 155, 0, 36, 29, 2, 160, 0, 31, 42, 180, 0, 43, 6, 27]
abbrev dktX6_looks_1 : List UInt8 := dkwX6_looks_1 ++ dktX6_looks_2
def dkwX6_looks_0 : List UInt8 := [42, 3, 181, 0, 88, 42, 27, 182, 1, 64, 154, 0, 6, 16, 254, 172, 42, 180, 0, 43, 6, 27, 104, 5]
abbrev dktX6_looks_0 : List UInt8 := dkwX6_looks_0 ++ dktX6_looks_1
theorem dksX6_looks_0 : cX6_looks.data.toList.drop 0 = dktX6_looks_0 := by decide +kernel
theorem dksX6_looks_1 : cX6_looks.data.toList.drop 24 = dktX6_looks_1 := dk_seg dksX6_looks_0 24 rfl rfl
theorem dksX6_looks_2 : cX6_looks.data.toList.drop 48 = dktX6_looks_2 := dk_seg dksX6_looks_1 24 rfl rfl
theorem dksX6_looks_3 : cX6_looks.data.toList.drop 71 = dktX6_looks_3 := dk_seg dksX6_looks_2 23 rfl rfl
theorem dX6_looks_0 : decode cX6_looks 0 = .ok (.aload_n 0, 1) := dk_42 (dk_at dksX6_looks_0 0 rfl rfl)
theorem dX6_looks_1 : decode cX6_looks 1 = .ok (.iconst 0, 1) := dk_3 (dk_at dksX6_looks_0 1 rfl rfl)
theorem dX6_looks_2 : decode cX6_looks 2 = .ok (.putfield 88, 3) := dk_181 0 88 (dk_at dksX6_looks_0 2 rfl rfl)
theorem dX6_looks_5 : decode cX6_looks 5 = .ok (.aload_n 0, 1) := dk_42 (dk_at dksX6_looks_0 5 rfl rfl)
theorem dX6_looks_6 : decode cX6_looks 6 = .ok (.iload_n 1, 1) := dk_27 (dk_at dksX6_looks_0 6 rfl rfl)
theorem dX6_looks_7 : decode cX6_looks 7 = .ok (.invokevirtual 320, 3) := dk_182 1 64 (dk_at dksX6_looks_0 7 rfl rfl)
theorem dX6_looks_10 : decode cX6_looks 10 = .ok (.ifCond .ne 6, 3) := dk_154 0 6 (dk_at dksX6_looks_0 10 rfl rfl)
theorem dX6_looks_13 : decode cX6_looks 13 = .ok (.bipush (-2), 2) := dk_16 254 (dk_at dksX6_looks_0 13 rfl rfl)
theorem dX6_looks_15 : decode cX6_looks 15 = .ok (.ireturn, 1) := dk_172 (dk_at dksX6_looks_0 15 rfl rfl)
theorem dX6_looks_16 : decode cX6_looks 16 = .ok (.aload_n 0, 1) := dk_42 (dk_at dksX6_looks_0 16 rfl rfl)
theorem dX6_looks_17 : decode cX6_looks 17 = .ok (.getfield 43, 3) := dk_180 0 43 (dk_at dksX6_looks_0 17 rfl rfl)
theorem dX6_looks_20 : decode cX6_looks 20 = .ok (.iconst 3, 1) := dk_6 (dk_at dksX6_looks_0 20 rfl rfl)
theorem dX6_looks_21 : decode cX6_looks 21 = .ok (.iload_n 1, 1) := dk_27 (dk_at dksX6_looks_0 21 rfl rfl)
theorem dX6_looks_22 : decode cX6_looks 22 = .ok (.imul, 1) := dk_104 (dk_at dksX6_looks_0 22 rfl rfl)
theorem dX6_looks_23 : decode cX6_looks 23 = .ok (.iconst 2, 1) := dk_5 (dk_at dksX6_looks_0 23 rfl rfl)
theorem dX6_looks_24 : decode cX6_looks 24 = .ok (.iadd, 1) := dk_96 (dk_at dksX6_looks_1 0 rfl rfl)
theorem dX6_looks_25 : decode cX6_looks 25 = .ok (.iaload, 1) := dk_46 (dk_at dksX6_looks_1 1 rfl rfl)
theorem dX6_looks_26 : decode cX6_looks 26 = .ok (.istore_n 2, 1) := dk_61 (dk_at dksX6_looks_1 2 rfl rfl)
theorem dX6_looks_27 : decode cX6_looks 27 = .ok (.iconst (-1), 1) := dk_2 (dk_at dksX6_looks_1 3 rfl rfl)
theorem dX6_looks_28 : decode cX6_looks 28 = .ok (.istore_n 3, 1) := dk_62 (dk_at dksX6_looks_1 4 rfl rfl)
theorem dX6_looks_29 : decode cX6_looks 29 = .ok (.iconst 3, 1) := dk_6 (dk_at dksX6_looks_1 5 rfl rfl)
theorem dX6_looks_30 : decode cX6_looks 30 = .ok (.istore 4, 2) := dk_54 4 (dk_at dksX6_looks_1 6 rfl rfl)
theorem dX6_looks_32 : decode cX6_looks 32 = .ok (.iload 4, 2) := dk_21 4 (dk_at dksX6_looks_1 8 rfl rfl)
theorem dX6_looks_34 : decode cX6_looks 34 = .ok (.ifCond .lt 36, 3) := dk_155 0 36 (dk_at dksX6_looks_1 10 rfl rfl)
theorem dX6_looks_37 : decode cX6_looks 37 = .ok (.iload_n 3, 1) := dk_29 (dk_at dksX6_looks_1 13 rfl rfl)
theorem dX6_looks_38 : decode cX6_looks 38 = .ok (.iconst (-1), 1) := dk_2 (dk_at dksX6_looks_1 14 rfl rfl)
theorem dX6_looks_39 : decode cX6_looks 39 = .ok (.if_icmp .ne 31, 3) := dk_160 0 31 (dk_at dksX6_looks_1 15 rfl rfl)
theorem dX6_looks_42 : decode cX6_looks 42 = .ok (.aload_n 0, 1) := dk_42 (dk_at dksX6_looks_1 18 rfl rfl)
theorem dX6_looks_43 : decode cX6_looks 43 = .ok (.getfield 43, 3) := dk_180 0 43 (dk_at dksX6_looks_1 19 rfl rfl)
theorem dX6_looks_46 : decode cX6_looks 46 = .ok (.iconst 3, 1) := dk_6 (dk_at dksX6_looks_1 22 rfl rfl)
theorem dX6_looks_47 : decode cX6_looks 47 = .ok (.iload_n 1, 1) := dk_27 (dk_at dksX6_looks_1 23 rfl rfl)
theorem dX6_looks_48 : decode cX6_looks 48 = .ok (.imul, 1) := dk_104 (dk_at dksX6_looks_2 0 rfl rfl)
theorem dX6_looks_49 : decode cX6_looks 49 = .ok (.iconst 2, 1) := dk_5 (dk_at dksX6_looks_2 1 rfl rfl)
theorem dX6_looks_50 : decode cX6_looks 50 = .ok (.iadd, 1) := dk_96 (dk_at dksX6_looks_2 2 rfl rfl)
theorem dX6_looks_51 : decode cX6_looks 51 = .ok (.iload 4, 2) := dk_21 4 (dk_at dksX6_looks_2 3 rfl rfl)
theorem dX6_looks_53 : decode cX6_looks 53 = .ok (.iastore, 1) := dk_79 (dk_at dksX6_looks_2 5 rfl rfl)
theorem dX6_looks_54 : decode cX6_looks 54 = .ok (.aload_n 0, 1) := dk_42 (dk_at dksX6_looks_2 6 rfl rfl)
theorem dX6_looks_55 : decode cX6_looks 55 = .ok (.invokevirtual 442, 3) := dk_182 1 186 (dk_at dksX6_looks_2 7 rfl rfl)
theorem dX6_looks_58 : decode cX6_looks 58 = .ok (.ifCond .eq 6, 3) := dk_153 0 6 (dk_at dksX6_looks_2 10 rfl rfl)
theorem dX6_looks_61 : decode cX6_looks 61 = .ok (.iload 4, 2) := dk_21 4 (dk_at dksX6_looks_2 13 rfl rfl)
theorem dX6_looks_63 : decode cX6_looks 63 = .ok (.istore_n 3, 1) := dk_62 (dk_at dksX6_looks_2 15 rfl rfl)
theorem dX6_looks_64 : decode cX6_looks 64 = .ok (.iinc 4 (-1), 3) := dk_132 4 255 (dk_at dksX6_looks_2 16 rfl rfl)
theorem dX6_looks_67 : decode cX6_looks 67 = .ok (.goto (-35), 3) := dk_167 255 221 (dk_at dksX6_looks_2 19 rfl rfl)
theorem dX6_looks_70 : decode cX6_looks 70 = .ok (.aload_n 0, 1) := dk_42 (dk_at dksX6_looks_2 22 rfl rfl)
theorem dX6_looks_71 : decode cX6_looks 71 = .ok (.getfield 43, 3) := dk_180 0 43 (dk_at dksX6_looks_3 0 rfl rfl)
theorem dX6_looks_74 : decode cX6_looks 74 = .ok (.iconst 3, 1) := dk_6 (dk_at dksX6_looks_3 3 rfl rfl)
theorem dX6_looks_75 : decode cX6_looks 75 = .ok (.iload_n 1, 1) := dk_27 (dk_at dksX6_looks_3 4 rfl rfl)
theorem dX6_looks_76 : decode cX6_looks 76 = .ok (.imul, 1) := dk_104 (dk_at dksX6_looks_3 5 rfl rfl)
theorem dX6_looks_77 : decode cX6_looks 77 = .ok (.iconst 2, 1) := dk_5 (dk_at dksX6_looks_3 6 rfl rfl)
theorem dX6_looks_78 : decode cX6_looks 78 = .ok (.iadd, 1) := dk_96 (dk_at dksX6_looks_3 7 rfl rfl)
theorem dX6_looks_79 : decode cX6_looks 79 = .ok (.iload_n 2, 1) := dk_28 (dk_at dksX6_looks_3 8 rfl rfl)
theorem dX6_looks_80 : decode cX6_looks 80 = .ok (.iastore, 1) := dk_79 (dk_at dksX6_looks_3 9 rfl rfl)
theorem dX6_looks_81 : decode cX6_looks 81 = .ok (.iload_n 3, 1) := dk_29 (dk_at dksX6_looks_3 10 rfl rfl)
theorem dX6_looks_82 : decode cX6_looks 82 = .ok (.ireturn, 1) := dk_172 (dk_at dksX6_looks_3 11 rfl rfl)

theorem okX6_looks : wOkV yX6_looks cX6_looks 5 (some .int) 1 := ⟨q2056, q2057, q145, q2058, by decide, by decide, by decide +kernel⟩
def gbX6_looks_32 (N : Nat)  (x1_ : Int32) (x2_ : Int32) (K : (Int32 → wMem → Option (Int32 × wMem))) (rec : (Int32 → Int32 → wMem → Option (Int32 × wMem))) (x3_ : Int32) (x4_ : Int32) (μ : wMem) : Option (Int32 × wMem) :=
  if x4_ < 0 then K x3_ μ else if x3_ = (-1 : Int32) then wG (ok_in (((3 : Int32) * x1_) + (2 : Int32)) 30) (wLet (wSI μ 10 (Int32.toNatClampNeg (((3 : Int32) * x1_) + (2 : Int32))) x4_) fun μ11 => wBind (fX6_isHope N   μ11) fun v14 μ13 => wLet (fun (x16 : Int32) (μ15 : wMem) => wLet (x4_ + (-1) : Int32) fun x17 => rec x16 x17 μ15) fun Jlooks64 => if v14 = 0 then Jlooks64 x3_ μ13 else Jlooks64 x4_ μ13) else K x3_ μ
def gX6_looks_32 (N : Nat)  (x1_ : Int32) (x2_ : Int32) (K : (Int32 → wMem → Option (Int32 × wMem))) : Nat → (Int32 → Int32 → wMem → Option (Int32 × wMem))
  | 0 => fun _ _ _ => none
  | k + 1 => gbX6_looks_32 N  x1_ x2_ K (gX6_looks_32 N  x1_ x2_ K k)
set_option maxHeartbeats 4000000 in
set_option maxRecDepth 100000 in
theorem tX6_looks_32 {p : Program} {l : Launch} {e : Env} {s : State} {m : MethodId} {args : Array Value} {below : List Frame} {meth : Method} {c : Code} {D : va_G} {E : List wCell} {q : Nat → Nat} {ca : wCA} {A : Nat → Prop} (C : wC p ({ frames := 9, cells := 0, slots := 0, locals := 209 } : Room) s m args meth c cX6_looks yX6_looks.cls 5 (some .int) D vwCl (spM ++ E) q ca A) (N : Nat)   (x1_ : Int32) (x2_ : Int32) (K : (Int32 → wMem → Option (Int32 × wMem))) (r0 : (Int32 × wMem)) (hK : ∀ (y3_ : Int32) (μ : wMem), K y3_ μ = some r0 → wJ p l e ({ frames := 9, cells := 0, slots := 0, locals := 209 } : Room) s m args below meth c 5 D vwCl (spM ++ E) q ca A (wQi ({ frames := 9, cells := 0, slots := 0, locals := 209 } : Room) D vwCl (spM ++ E) q ca below args s A r0) 0 0 μ 70 [(0, .ref (q 0)), (1, .int x1_), (2, .int x2_), (3, .int y3_)] []) : ∀ (k : Nat) (x3_ : Int32) (x4_ : Int32) (μ : wMem), gX6_looks_32 N  x1_ x2_ K k x3_ x4_ μ = some r0 → wJ p l e ({ frames := 9, cells := 0, slots := 0, locals := 209 } : Room) s m args below meth c 5 D vwCl (spM ++ E) q ca A (wQi ({ frames := 9, cells := 0, slots := 0, locals := 209 } : Room) D vwCl (spM ++ E) q ca below args s A r0) 0 0 μ 32 [(0, .ref (q 0)), (1, .int x1_), (2, .int x2_), (3, .int x3_), (4, .int x4_)] [] := by
  intro k
  induction k with
  | zero =>
    intro x3_ x4_ μ hf
    cases hf
  | succ k ih =>
    intro x3_ x4_ μ hf
    replace hf : gbX6_looks_32 N  x1_ x2_ K (gX6_looks_32 N  x1_ x2_ K k) x3_ x4_ μ = some r0 := hf
    unfold gbX6_looks_32 at hf
    refine wr_iload 32 C dX6_looks_32 4 rfl ?_
    refine wr_if_lt 34 70 C dX6_looks_34 (by decide) (fun c8 => ?_) (fun c8 => ?_)
    · replace hf := o_pos c8 hf
      refine wr_sub [(0, .ref (q 0)), (1, .int x1_), (2, .int x2_), (3, .int x3_)] [0, 1, 2, 3] rfl ?_
      exact hK x3_ μ hf
    · replace hf := o_neg c8 hf
      refine wr_iload_n 37 C dX6_looks_37 3 rfl rfl ?_
      refine wr_iconst 38 C dX6_looks_38 (v := (-1)) rfl ?_
      refine wr_icmp_ne 39 70 C dX6_looks_39 (by decide) (fun c9 => ?_) (fun c9 => ?_)
      · replace hf := o_neg c9 hf
        refine wr_sub [(0, .ref (q 0)), (1, .int x1_), (2, .int x2_), (3, .int x3_)] [0, 1, 2, 3] rfl ?_
        exact hK x3_ μ hf
      · replace hf := o_pos c9 hf
        refine wr_aload_n 42 C dX6_looks_42 0 rfl rfl ?_
        refine gespM_0_20_X6 43 C dX6_looks_43 ?_
        refine wr_iconst 46 C dX6_looks_46 (v := 3) rfl ?_
        refine wr_iload_n 47 C dX6_looks_47 1 rfl rfl ?_
        refine wr_imul 48 C dX6_looks_48 ?_
        refine wr_iconst 49 C dX6_looks_49 (v := 2) rfl ?_
        refine wr_iadd 50 C dX6_looks_50 ?_
        refine wr_iload 51 C dX6_looks_51 4 rfl ?_
        obtain ⟨g10, hf⟩ := o_g hf
        obtain ⟨μ11, eμ11, hf⟩ := o_let hf
        refine wr_iast 53 C dX6_looks_53 spM_10 g10 eμ11 ?_
        refine wr_aload_n 54 C dX6_looks_54 0 rfl rfl ?_
        obtain ⟨v14, μ13, h12, hf⟩ := o_bind hf
        refine wr_Vi (kc1 := 0) (ks1 := 0) 55 [] C dX6_looks_55 (tX6_isHope l N    μ11 (v14, μ13) h12) okX6_isHope q2051 (b := 0) spM_0 rfl ⟨rfl, rfl, Nat.le_of_ble_eq_true rfl, Nat.le_of_ble_eq_true rfl, Nat.zero_le _, Nat.zero_le _⟩ (Nat.le_of_ble_eq_true rfl) rfl ?_
        obtain ⟨Jlooks64, eJlooks64, hf⟩ := o_let hf
        have hJlooks64 : ∀ (x16 : Int32) (μ15 : wMem), Jlooks64 x16 μ15 = some r0 → wJ p l e ({ frames := 9, cells := 0, slots := 0, locals := 209 } : Room) s m args below meth c 5 D vwCl (spM ++ E) q ca A (wQi ({ frames := 9, cells := 0, slots := 0, locals := 209 } : Room) D vwCl (spM ++ E) q ca below args s A r0) 0 0 μ15 64 [(0, .ref (q 0)), (1, .int x1_), (2, .int x2_), (3, .int x16), (4, .int x4_)] [] := by
          intro x16 μ15 hf
          rw [eJlooks64] at hf
          obtain ⟨x17, ex17, hf⟩ := o_let hf
          refine wr_iinc 64 [(4, .int x17), (0, .ref (q 0)), (1, .int x1_), (2, .int x2_), (3, .int x16)] C dX6_looks_64 4 rfl (ex17.trans rfl) (Nat.le_of_ble_eq_true rfl) rfl ?_
          refine wr_goto 67 C dX6_looks_67 (tgt := 32) (by decide) ?_
          refine wr_sub [(0, .ref (q 0)), (1, .int x1_), (2, .int x2_), (3, .int x16), (4, .int x17)] [1, 2, 3, 4, 0] rfl ?_
          exact ih x16 x17 μ15 hf
        refine wr_if_eq 58 64 C dX6_looks_58 (by decide) (fun c18 => ?_) (fun c18 => ?_)
        · replace hf := o_pos c18 hf
          exact hJlooks64 x3_ μ13 hf
        · replace hf := o_neg c18 hf
          refine wr_iload 61 C dX6_looks_61 4 rfl ?_
          refine wr_istore_n 63 [(3, .int x4_), (0, .ref (q 0)), (1, .int x1_), (2, .int x2_), (4, .int x4_)] C dX6_looks_63 rfl rfl (Nat.le_of_ble_eq_true rfl) rfl ?_
          refine wr_sub [(0, .ref (q 0)), (1, .int x1_), (2, .int x2_), (3, .int x4_), (4, .int x4_)] [1, 2, 3, 0, 4] rfl ?_
          exact hJlooks64 x4_ μ13 hf
def fX6_looks (N : Nat)  (a1 : Int32) (μ : wMem) : Option (Int32 × wMem) :=
  wLet (wSI μ 0 0 (0 : Int32)) fun μ1 => wBind (fX6_isPost N  a1 μ1) fun v4 μ3 => if v4 = 0 then some ((-2), μ3) else wG (ok_in (((3 : Int32) * a1) + (2 : Int32)) 30) (wLet (μ3.1 10 (Int32.toNatClampNeg (((3 : Int32) * a1) + (2 : Int32))) : Int32) fun x7 => gX6_looks_32 N  a1 x7 (fun (x20 : Int32) (μ19 : wMem) => wG (ok_in (((3 : Int32) * a1) + (2 : Int32)) 30) (wLet (wSI μ19 10 (Int32.toNatClampNeg (((3 : Int32) * a1) + (2 : Int32))) x7) fun μ22 => some (x20, μ22))) N (-1) 3 μ3)
set_option maxHeartbeats 4000000 in
set_option maxRecDepth 100000 in
theorem tX6_looks (l : Launch) {D : va_G} {E : List wCell} {q : Nat → Nat} {ca : wCA} (N : Nat)   (a1 : Int32) (μ : wMem) (r0 : (Int32 × wMem)) (hf : fX6_looks N  a1 μ = some r0) : wMi l yX6_looks cX6_looks 5 (some .int) ({ frames := 9, cells := 0, slots := 0, locals := 209 } : Room) D vwCl (spM ++ E) q ca [.ref (q 0), .int a1] μ r0 := by
  refine wMi_intro (by decide) (Nat.le_of_ble_eq_true rfl) ?_
  intro p e s m args below meth c A C
  unfold fX6_looks at hf
  refine wr_sub [(0, .ref (q 0)), (1, .int a1)] [0, 1] rfl ?_
  refine wr_aload_n 0 C dX6_looks_0 0 rfl rfl ?_
  refine wr_iconst 1 C dX6_looks_1 (v := 0) rfl ?_
  obtain ⟨μ1, eμ1, hf⟩ := o_let hf
  refine puspM_0_0_X6 2 C dX6_looks_2 eμ1 ?_
  refine wr_aload_n 5 C dX6_looks_5 0 rfl rfl ?_
  refine wr_iload_n 6 C dX6_looks_6 1 rfl rfl ?_
  obtain ⟨v4, μ3, h2, hf⟩ := o_bind hf
  refine wr_Vi (kc1 := 0) (ks1 := 0) 7 [] C dX6_looks_7 (tX6_isPost l N   a1 μ1 (v4, μ3) h2) okX6_isPost q1730 (b := 0) spM_0 rfl ⟨rfl, rfl, Nat.le_of_ble_eq_true rfl, Nat.le_of_ble_eq_true rfl, Nat.zero_le _, Nat.zero_le _⟩ (Nat.le_of_ble_eq_true rfl) rfl ?_
  refine wr_if_ne 10 16 C dX6_looks_10 (by decide) (fun c5 => ?_) (fun c5 => ?_)
  · replace hf := o_neg c5 hf
    refine wr_aload_n 16 C dX6_looks_16 0 rfl rfl ?_
    refine gespM_0_20_X6 17 C dX6_looks_17 ?_
    refine wr_iconst 20 C dX6_looks_20 (v := 3) rfl ?_
    refine wr_iload_n 21 C dX6_looks_21 1 rfl rfl ?_
    refine wr_imul 22 C dX6_looks_22 ?_
    refine wr_iconst 23 C dX6_looks_23 (v := 2) rfl ?_
    refine wr_iadd 24 C dX6_looks_24 ?_
    obtain ⟨g6, hf⟩ := o_g hf
    refine wr_iald 25 C dX6_looks_25 spM_10 g6 ?_
    obtain ⟨x7, ex7, hf⟩ := o_let hf
    refine wr_istore_n 26 [(2, .int x7), (0, .ref (q 0)), (1, .int a1)] C dX6_looks_26 ex7 rfl (Nat.le_of_ble_eq_true rfl) rfl ?_
    refine wr_iconst 27 C dX6_looks_27 (v := (-1)) rfl ?_
    refine wr_istore_n 28 [(3, .int ((-1))), (2, .int x7), (0, .ref (q 0)), (1, .int a1)] C dX6_looks_28 rfl rfl (Nat.le_of_ble_eq_true rfl) rfl ?_
    refine wr_iconst 29 C dX6_looks_29 (v := 3) rfl ?_
    refine wr_istore 30 [(4, .int 3), (3, .int ((-1))), (2, .int x7), (0, .ref (q 0)), (1, .int a1)] C dX6_looks_30 rfl (Nat.le_of_ble_eq_true rfl) rfl ?_
    refine wr_sub [(0, .ref (q 0)), (1, .int a1), (2, .int x7), (3, .int ((-1))), (4, .int 3)] [3, 4, 2, 1, 0] rfl ?_
    refine tX6_looks_32 C N   a1 x7 _ r0 (fun x20 μ19 hf => ?_) N (-1) 3 μ3 hf
    · replace hf := hf
      refine wr_aload_n 70 C dX6_looks_70 0 rfl rfl ?_
      refine gespM_0_20_X6 71 C dX6_looks_71 ?_
      refine wr_iconst 74 C dX6_looks_74 (v := 3) rfl ?_
      refine wr_iload_n 75 C dX6_looks_75 1 rfl rfl ?_
      refine wr_imul 76 C dX6_looks_76 ?_
      refine wr_iconst 77 C dX6_looks_77 (v := 2) rfl ?_
      refine wr_iadd 78 C dX6_looks_78 ?_
      refine wr_iload_n 79 C dX6_looks_79 2 rfl rfl ?_
      obtain ⟨g21, hf⟩ := o_g hf
      obtain ⟨μ22, eμ22, hf⟩ := o_let hf
      refine wr_iast 80 C dX6_looks_80 spM_10 g21 eμ22 ?_
      refine wr_iload_n 81 C dX6_looks_81 3 rfl rfl ?_
      exact wr_iret 82 C dX6_looks_82 ⟨Nat.zero_le _, Nat.zero_le _⟩ (Option.some.inj hf)
  · replace hf := o_pos c5 hf
    refine wr_bipush 13 C dX6_looks_13 (v := (-2)) rfl ?_
    exact wr_iret 15 C dX6_looks_15 ⟨Nat.zero_le _, Nat.zero_le _⟩ (Option.some.inj hf)
abbrev cX6_draws : ByteArray := prog_11_method_127_code
def yX6_draws : MethodName := ⟨RX6, "draws", "(J)I"⟩
def dkwX6_draws_5 : List UInt8 := [181, 1, 189, 2, 172]
abbrev dktX6_draws_5 : List UInt8 := dkwX6_draws_5 ++ []
def dkwX6_draws_4 : List UInt8 := [42, 42, 180, 0, 66, 21, 5, 46, 182, 1, 47, 132, 5, 1, 167, 255, 157, 42, 42, 180, 0, 238]
abbrev dktX6_draws_4 : List UInt8 := dkwX6_draws_4 ++ dktX6_draws_5
def dkwX6_draws_3 : List UInt8 := [16, 10, 112, 42, 180, 0, 66, 21, 5, 46, 16, 100, 108, 182, 1, 44, 133, 148, 156, 0, 6, 21, 5, 172]
abbrev dktX6_draws_3 : List UInt8 := dkwX6_draws_3 ++ dktX6_draws_4
def dkwX6_draws_2 : List UInt8 := [97, 20, 1, 196, 113, 66, 33, 20, 1, 198, 109, 20, 1, 14, 113, 42, 42, 180, 0, 66, 21, 5, 46]
abbrev dktX6_draws_2 : List UInt8 := dkwX6_draws_2 ++ dktX6_draws_3
def dkwX6_draws_1 : List UInt8 := [181, 1, 189, 42, 180, 0, 66, 21, 5, 46, 17, 0, 200, 159, 0, 58, 20, 1, 192, 33, 105, 20, 1, 194]
abbrev dktX6_draws_1 : List UInt8 := dkwX6_draws_1 ++ dktX6_draws_2
def dkwX6_draws_0 : List UInt8 := [42, 182, 1, 61, 31, 66, 3, 54, 5, 21, 5, 42, 180, 1, 117, 162, 0, 96, 42, 42, 180, 0, 238]
abbrev dktX6_draws_0 : List UInt8 := dkwX6_draws_0 ++ dktX6_draws_1
theorem dksX6_draws_0 : cX6_draws.data.toList.drop 0 = dktX6_draws_0 := by decide +kernel
theorem dksX6_draws_1 : cX6_draws.data.toList.drop 23 = dktX6_draws_1 := dk_seg dksX6_draws_0 23 rfl rfl
theorem dksX6_draws_2 : cX6_draws.data.toList.drop 47 = dktX6_draws_2 := dk_seg dksX6_draws_1 24 rfl rfl
theorem dksX6_draws_3 : cX6_draws.data.toList.drop 70 = dktX6_draws_3 := dk_seg dksX6_draws_2 23 rfl rfl
theorem dksX6_draws_4 : cX6_draws.data.toList.drop 94 = dktX6_draws_4 := dk_seg dksX6_draws_3 24 rfl rfl
theorem dksX6_draws_5 : cX6_draws.data.toList.drop 116 = dktX6_draws_5 := dk_seg dksX6_draws_4 22 rfl rfl
theorem dX6_draws_0 : decode cX6_draws 0 = .ok (.aload_n 0, 1) := dk_42 (dk_at dksX6_draws_0 0 rfl rfl)
theorem dX6_draws_1 : decode cX6_draws 1 = .ok (.invokevirtual 317, 3) := dk_182 1 61 (dk_at dksX6_draws_0 1 rfl rfl)
theorem dX6_draws_4 : decode cX6_draws 4 = .ok (.lload_n 1, 1) := dk_31 (dk_at dksX6_draws_0 4 rfl rfl)
theorem dX6_draws_5 : decode cX6_draws 5 = .ok (.lstore_n 3, 1) := dk_66 (dk_at dksX6_draws_0 5 rfl rfl)
theorem dX6_draws_6 : decode cX6_draws 6 = .ok (.iconst 0, 1) := dk_3 (dk_at dksX6_draws_0 6 rfl rfl)
theorem dX6_draws_7 : decode cX6_draws 7 = .ok (.istore 5, 2) := dk_54 5 (dk_at dksX6_draws_0 7 rfl rfl)
theorem dX6_draws_9 : decode cX6_draws 9 = .ok (.iload 5, 2) := dk_21 5 (dk_at dksX6_draws_0 9 rfl rfl)
theorem dX6_draws_11 : decode cX6_draws 11 = .ok (.aload_n 0, 1) := dk_42 (dk_at dksX6_draws_0 11 rfl rfl)
theorem dX6_draws_12 : decode cX6_draws 12 = .ok (.getfield 373, 3) := dk_180 1 117 (dk_at dksX6_draws_0 12 rfl rfl)
theorem dX6_draws_15 : decode cX6_draws 15 = .ok (.if_icmp .ge 96, 3) := dk_162 0 96 (dk_at dksX6_draws_0 15 rfl rfl)
theorem dX6_draws_18 : decode cX6_draws 18 = .ok (.aload_n 0, 1) := dk_42 (dk_at dksX6_draws_0 18 rfl rfl)
theorem dX6_draws_19 : decode cX6_draws 19 = .ok (.aload_n 0, 1) := dk_42 (dk_at dksX6_draws_0 19 rfl rfl)
theorem dX6_draws_20 : decode cX6_draws 20 = .ok (.getfield 238, 3) := dk_180 0 238 (dk_at dksX6_draws_0 20 rfl rfl)
theorem dX6_draws_23 : decode cX6_draws 23 = .ok (.putfield 445, 3) := dk_181 1 189 (dk_at dksX6_draws_1 0 rfl rfl)
theorem dX6_draws_26 : decode cX6_draws 26 = .ok (.aload_n 0, 1) := dk_42 (dk_at dksX6_draws_1 3 rfl rfl)
theorem dX6_draws_27 : decode cX6_draws 27 = .ok (.getfield 66, 3) := dk_180 0 66 (dk_at dksX6_draws_1 4 rfl rfl)
theorem dX6_draws_30 : decode cX6_draws 30 = .ok (.iload 5, 2) := dk_21 5 (dk_at dksX6_draws_1 7 rfl rfl)
theorem dX6_draws_32 : decode cX6_draws 32 = .ok (.iaload, 1) := dk_46 (dk_at dksX6_draws_1 9 rfl rfl)
theorem dX6_draws_33 : decode cX6_draws 33 = .ok (.sipush 200, 3) := dk_17 0 200 (dk_at dksX6_draws_1 10 rfl rfl)
theorem dX6_draws_36 : decode cX6_draws 36 = .ok (.if_icmp .eq 58, 3) := dk_159 0 58 (dk_at dksX6_draws_1 13 rfl rfl)
theorem dX6_draws_39 : decode cX6_draws 39 = .ok (.ldc2_w 448, 3) := dk_20 1 192 (dk_at dksX6_draws_1 16 rfl rfl)
theorem dX6_draws_42 : decode cX6_draws 42 = .ok (.lload_n 3, 1) := dk_33 (dk_at dksX6_draws_1 19 rfl rfl)
theorem dX6_draws_43 : decode cX6_draws 43 = .ok (.lmul, 1) := dk_105 (dk_at dksX6_draws_1 20 rfl rfl)
theorem dX6_draws_44 : decode cX6_draws 44 = .ok (.ldc2_w 450, 3) := dk_20 1 194 (dk_at dksX6_draws_1 21 rfl rfl)
theorem dX6_draws_47 : decode cX6_draws 47 = .ok (.ladd, 1) := dk_97 (dk_at dksX6_draws_2 0 rfl rfl)
theorem dX6_draws_48 : decode cX6_draws 48 = .ok (.ldc2_w 452, 3) := dk_20 1 196 (dk_at dksX6_draws_2 1 rfl rfl)
theorem dX6_draws_51 : decode cX6_draws 51 = .ok (.lrem, 1) := dk_113 (dk_at dksX6_draws_2 4 rfl rfl)
theorem dX6_draws_52 : decode cX6_draws 52 = .ok (.lstore_n 3, 1) := dk_66 (dk_at dksX6_draws_2 5 rfl rfl)
theorem dX6_draws_53 : decode cX6_draws 53 = .ok (.lload_n 3, 1) := dk_33 (dk_at dksX6_draws_2 6 rfl rfl)
theorem dX6_draws_54 : decode cX6_draws 54 = .ok (.ldc2_w 454, 3) := dk_20 1 198 (dk_at dksX6_draws_2 7 rfl rfl)
theorem dX6_draws_57 : decode cX6_draws 57 = .ok (.ldiv, 1) := dk_109 (dk_at dksX6_draws_2 10 rfl rfl)
theorem dX6_draws_58 : decode cX6_draws 58 = .ok (.ldc2_w 270, 3) := dk_20 1 14 (dk_at dksX6_draws_2 11 rfl rfl)
theorem dX6_draws_61 : decode cX6_draws 61 = .ok (.lrem, 1) := dk_113 (dk_at dksX6_draws_2 14 rfl rfl)
theorem dX6_draws_62 : decode cX6_draws 62 = .ok (.aload_n 0, 1) := dk_42 (dk_at dksX6_draws_2 15 rfl rfl)
theorem dX6_draws_63 : decode cX6_draws 63 = .ok (.aload_n 0, 1) := dk_42 (dk_at dksX6_draws_2 16 rfl rfl)
theorem dX6_draws_64 : decode cX6_draws 64 = .ok (.getfield 66, 3) := dk_180 0 66 (dk_at dksX6_draws_2 17 rfl rfl)
theorem dX6_draws_67 : decode cX6_draws 67 = .ok (.iload 5, 2) := dk_21 5 (dk_at dksX6_draws_2 20 rfl rfl)
theorem dX6_draws_69 : decode cX6_draws 69 = .ok (.iaload, 1) := dk_46 (dk_at dksX6_draws_2 22 rfl rfl)
theorem dX6_draws_70 : decode cX6_draws 70 = .ok (.bipush 10, 2) := dk_16 10 (dk_at dksX6_draws_3 0 rfl rfl)
theorem dX6_draws_72 : decode cX6_draws 72 = .ok (.irem, 1) := dk_112 (dk_at dksX6_draws_3 2 rfl rfl)
theorem dX6_draws_73 : decode cX6_draws 73 = .ok (.aload_n 0, 1) := dk_42 (dk_at dksX6_draws_3 3 rfl rfl)
theorem dX6_draws_74 : decode cX6_draws 74 = .ok (.getfield 66, 3) := dk_180 0 66 (dk_at dksX6_draws_3 4 rfl rfl)
theorem dX6_draws_77 : decode cX6_draws 77 = .ok (.iload 5, 2) := dk_21 5 (dk_at dksX6_draws_3 7 rfl rfl)
theorem dX6_draws_79 : decode cX6_draws 79 = .ok (.iaload, 1) := dk_46 (dk_at dksX6_draws_3 9 rfl rfl)
theorem dX6_draws_80 : decode cX6_draws 80 = .ok (.bipush 100, 2) := dk_16 100 (dk_at dksX6_draws_3 10 rfl rfl)
theorem dX6_draws_82 : decode cX6_draws 82 = .ok (.idiv, 1) := dk_108 (dk_at dksX6_draws_3 12 rfl rfl)
theorem dX6_draws_83 : decode cX6_draws 83 = .ok (.invokevirtual 300, 3) := dk_182 1 44 (dk_at dksX6_draws_3 13 rfl rfl)
theorem dX6_draws_86 : decode cX6_draws 86 = .ok (.i2l, 1) := dk_133 (dk_at dksX6_draws_3 16 rfl rfl)
theorem dX6_draws_87 : decode cX6_draws 87 = .ok (.lcmp, 1) := dk_148 (dk_at dksX6_draws_3 17 rfl rfl)
theorem dX6_draws_88 : decode cX6_draws 88 = .ok (.ifCond .ge 6, 3) := dk_156 0 6 (dk_at dksX6_draws_3 18 rfl rfl)
theorem dX6_draws_91 : decode cX6_draws 91 = .ok (.iload 5, 2) := dk_21 5 (dk_at dksX6_draws_3 21 rfl rfl)
theorem dX6_draws_93 : decode cX6_draws 93 = .ok (.ireturn, 1) := dk_172 (dk_at dksX6_draws_3 23 rfl rfl)
theorem dX6_draws_94 : decode cX6_draws 94 = .ok (.aload_n 0, 1) := dk_42 (dk_at dksX6_draws_4 0 rfl rfl)
theorem dX6_draws_95 : decode cX6_draws 95 = .ok (.aload_n 0, 1) := dk_42 (dk_at dksX6_draws_4 1 rfl rfl)
theorem dX6_draws_96 : decode cX6_draws 96 = .ok (.getfield 66, 3) := dk_180 0 66 (dk_at dksX6_draws_4 2 rfl rfl)
theorem dX6_draws_99 : decode cX6_draws 99 = .ok (.iload 5, 2) := dk_21 5 (dk_at dksX6_draws_4 5 rfl rfl)
theorem dX6_draws_101 : decode cX6_draws 101 = .ok (.iaload, 1) := dk_46 (dk_at dksX6_draws_4 7 rfl rfl)
theorem dX6_draws_102 : decode cX6_draws 102 = .ok (.invokevirtual 303, 3) := dk_182 1 47 (dk_at dksX6_draws_4 8 rfl rfl)
theorem dX6_draws_105 : decode cX6_draws 105 = .ok (.iinc 5 1, 3) := dk_132 5 1 (dk_at dksX6_draws_4 11 rfl rfl)
theorem dX6_draws_108 : decode cX6_draws 108 = .ok (.goto (-99), 3) := dk_167 255 157 (dk_at dksX6_draws_4 14 rfl rfl)
theorem dX6_draws_111 : decode cX6_draws 111 = .ok (.aload_n 0, 1) := dk_42 (dk_at dksX6_draws_4 17 rfl rfl)
theorem dX6_draws_112 : decode cX6_draws 112 = .ok (.aload_n 0, 1) := dk_42 (dk_at dksX6_draws_4 18 rfl rfl)
theorem dX6_draws_113 : decode cX6_draws 113 = .ok (.getfield 238, 3) := dk_180 0 238 (dk_at dksX6_draws_4 19 rfl rfl)
theorem dX6_draws_116 : decode cX6_draws 116 = .ok (.putfield 445, 3) := dk_181 1 189 (dk_at dksX6_draws_5 0 rfl rfl)
theorem dX6_draws_119 : decode cX6_draws 119 = .ok (.iconst (-1), 1) := dk_2 (dk_at dksX6_draws_5 3 rfl rfl)
theorem dX6_draws_120 : decode cX6_draws 120 = .ok (.ireturn, 1) := dk_172 (dk_at dksX6_draws_5 4 rfl rfl)
theorem puspM_0_47_X6 {p : Program} {l : Launch} {e : Env} {R : Room} {s : State} {m : MethodId} {args : Array Value} {below : List Frame} {meth : Method} {c : Code} {cc : ByteArray} {nL : Nat} {ret : Option FieldType} {D : va_G} {E : List wCell} {q : Nat → Nat} {ca : wCA} {A : Nat → Prop} {Q : State → Prop} {kc ks : Nat} {μ : wMem} {lv : List (Nat × Value)} {st : List Value} {v : Int32} {μ1 : wMem} (pc : Nat) (C : wC p R s m args meth c cc "OnePassportModel" nL ret D vwCl (spM ++ E) q ca A) (hd : decode cc pc = .ok (.putfield 445, 3)) (hμ : μ1 = wSI μ 0 47 v) (k : wJ p l e R s m args below meth c nL D vwCl (spM ++ E) q ca A Q kc ks μ1 (pc + 3) lv st) : wJ p l e R s m args below meth c nL D vwCl (spM ++ E) q ca A Q kc ks μ pc lv (.int v :: .ref (q 0) :: st) := wr_putI pc 47 C hd spM_0 rfl in_X6 tyX6 tyX6_ok nmX6 (by decide) rfl q1446 rfl rfl hμ k
theorem okX6_draws : wOkV yX6_draws cX6_draws 6 (some .int) 1 := ⟨q2066, qs134, q145, q2067, by decide, by decide, by decide +kernel⟩
def gbX6_draws_9 (N : Nat)   (K : (wMem → Option (Int32 × wMem))) (rec : (Int64 → Int32 → wMem → Option (Int32 × wMem))) (x3_ : Int64) (x5_ : Int32) (μ : wMem) : Option (Int32 × wMem) :=
  if (μ.1 0 40) ≤ x5_ then K  μ else wLet (wSI μ 0 47 (μ.1 0 23)) fun μ4 => wG (ok_in x5_ 400) (wLet (fun (x7 : Int64) (μ6 : wMem) => wG (ok_in x5_ 400) (wBindV (fX6_does N  (μ6.1 17 (Int32.toNatClampNeg x5_)) μ6) fun μ10 => wLet (x5_ + 1 : Int32) fun x11 => rec x7 x11 μ10)) fun Jdraws94 => if (μ4.1 17 (Int32.toNatClampNeg x5_)) = (200 : Int32) then Jdraws94 x3_ μ4 else wLet ((((1103515245 : Int64) * x3_) + (12345 : Int64)) - (((1103515245 : Int64) * x3_) + (12345 : Int64)) / (2147483648 : Int64) * (2147483648 : Int64) : Int64) fun x13 => wG (ok_in x5_ 400) (wG (ok_in x5_ 400) (wBind (fX6_riskOf N  ((μ4.1 17 (Int32.toNatClampNeg x5_)) - (μ4.1 17 (Int32.toNatClampNeg x5_)) / (10 : Int32) * (10 : Int32)) ((μ4.1 17 (Int32.toNatClampNeg x5_)) / (100 : Int32)) μ4) fun v18 μ17 => if (Int32.toInt64 v18) ≤ ((x13 / (65536 : Int64)) - (x13 / (65536 : Int64)) / (100 : Int64) * (100 : Int64)) then Jdraws94 x13 μ17 else some (x5_, μ17))))
def gX6_draws_9 (N : Nat)   (K : (wMem → Option (Int32 × wMem))) : Nat → (Int64 → Int32 → wMem → Option (Int32 × wMem))
  | 0 => fun _ _ _ => none
  | k + 1 => gbX6_draws_9 N   K (gX6_draws_9 N   K k)
set_option maxHeartbeats 4000000 in
set_option maxRecDepth 100000 in
theorem tX6_draws_9 {p : Program} {l : Launch} {e : Env} {s : State} {m : MethodId} {args : Array Value} {below : List Frame} {meth : Method} {c : Code} {D : va_G} {E : List wCell} {q : Nat → Nat} {ca : wCA} {A : Nat → Prop} (C : wC p ({ frames := 5, cells := 0, slots := 0, locals := 112 } : Room) s m args meth c cX6_draws yX6_draws.cls 6 (some .int) D vwCl (spM ++ E) q ca A) (N : Nat)    (K : (wMem → Option (Int32 × wMem))) (r0 : (Int32 × wMem)) (hK : ∀  (μ : wMem), K  μ = some r0 → wJ p l e ({ frames := 5, cells := 0, slots := 0, locals := 112 } : Room) s m args below meth c 6 D vwCl (spM ++ E) q ca A (wQi ({ frames := 5, cells := 0, slots := 0, locals := 112 } : Room) D vwCl (spM ++ E) q ca below args s A r0) 0 0 μ 111 [(0, .ref (q 0))] []) : ∀ (k : Nat) (x3_ : Int64) (x5_ : Int32) (μ : wMem), gX6_draws_9 N   K k x3_ x5_ μ = some r0 → wJ p l e ({ frames := 5, cells := 0, slots := 0, locals := 112 } : Room) s m args below meth c 6 D vwCl (spM ++ E) q ca A (wQi ({ frames := 5, cells := 0, slots := 0, locals := 112 } : Room) D vwCl (spM ++ E) q ca below args s A r0) 0 0 μ 9 [(0, .ref (q 0)), (3, .long x3_), (5, .int x5_)] [] := by
  intro k
  induction k with
  | zero =>
    intro x3_ x5_ μ hf
    cases hf
  | succ k ih =>
    intro x3_ x5_ μ hf
    replace hf : gbX6_draws_9 N   K (gX6_draws_9 N   K k) x3_ x5_ μ = some r0 := hf
    unfold gbX6_draws_9 at hf
    refine wr_iload 9 C dX6_draws_9 2 rfl ?_
    refine wr_aload_n 11 C dX6_draws_11 0 rfl rfl ?_
    refine gespM_0_40_X6 12 C dX6_draws_12 ?_
    refine wr_icmp_ge 15 111 C dX6_draws_15 (by decide) (fun c3 => ?_) (fun c3 => ?_)
    · replace hf := o_pos c3 hf
      refine wr_sub [(0, .ref (q 0))] [0] rfl ?_
      exact hK  μ hf
    · replace hf := o_neg c3 hf
      refine wr_aload_n 18 C dX6_draws_18 0 rfl rfl ?_
      refine wr_aload_n 19 C dX6_draws_19 0 rfl rfl ?_
      refine gespM_0_23_X6 20 C dX6_draws_20 ?_
      obtain ⟨μ4, eμ4, hf⟩ := o_let hf
      refine puspM_0_47_X6 23 C dX6_draws_23 eμ4 ?_
      refine wr_aload_n 26 C dX6_draws_26 0 rfl rfl ?_
      refine gespM_0_39_X6 27 C dX6_draws_27 ?_
      refine wr_iload 30 C dX6_draws_30 2 rfl ?_
      obtain ⟨g5, hf⟩ := o_g hf
      refine wr_iald 32 C dX6_draws_32 spM_17 g5 ?_
      refine wr_sipush 33 C dX6_draws_33 (v := 200) rfl ?_
      obtain ⟨Jdraws94, eJdraws94, hf⟩ := o_let hf
      have hJdraws94 : ∀ (x7 : Int64) (μ6 : wMem), Jdraws94 x7 μ6 = some r0 → wJ p l e ({ frames := 5, cells := 0, slots := 0, locals := 112 } : Room) s m args below meth c 6 D vwCl (spM ++ E) q ca A (wQi ({ frames := 5, cells := 0, slots := 0, locals := 112 } : Room) D vwCl (spM ++ E) q ca below args s A r0) 0 0 μ6 94 [(0, .ref (q 0)), (3, .long x7), (5, .int x5_)] [] := by
        intro x7 μ6 hf
        rw [eJdraws94] at hf
        refine wr_aload_n 94 C dX6_draws_94 0 rfl rfl ?_
        refine wr_aload_n 95 C dX6_draws_95 0 rfl rfl ?_
        refine gespM_0_39_X6 96 C dX6_draws_96 ?_
        refine wr_iload 99 C dX6_draws_99 2 rfl ?_
        obtain ⟨g8, hf⟩ := o_g hf
        refine wr_iald 101 C dX6_draws_101 spM_17 g8 ?_
        obtain ⟨μ10, h9, hf⟩ := o_bindV hf
        refine wr_Vv (kc1 := 0) (ks1 := 0) 102 [] C dX6_draws_102 (tX6_does l N   (μ6.1 17 (Int32.toNatClampNeg x5_)) μ6 μ10 h9) okX6_does q1710 (b := 0) spM_0 rfl ⟨rfl, rfl, Nat.le_of_ble_eq_true rfl, Nat.le_of_ble_eq_true rfl, Nat.zero_le _, Nat.zero_le _⟩ (Nat.le_of_ble_eq_true rfl) rfl ?_
        obtain ⟨x11, ex11, hf⟩ := o_let hf
        refine wr_iinc 105 [(5, .int x11), (0, .ref (q 0)), (3, .long x7)] C dX6_draws_105 2 rfl (ex11.trans rfl) (Nat.le_of_ble_eq_true rfl) rfl ?_
        refine wr_goto 108 C dX6_draws_108 (tgt := 9) (by decide) ?_
        refine wr_sub [(0, .ref (q 0)), (3, .long x7), (5, .int x11)] [1, 2, 0] rfl ?_
        exact ih x7 x11 μ10 hf
      refine wr_icmp_eq 36 94 C dX6_draws_36 (by decide) (fun c12 => ?_) (fun c12 => ?_)
      · replace hf := o_pos c12 hf
        exact hJdraws94 x3_ μ4 hf
      · replace hf := o_neg c12 hf
        refine wr_ldc2 39 C dX6_draws_39 q2068 ?_
        refine wr_lload_n 42 C dX6_draws_42 1 rfl rfl ?_
        refine wr_lmul 43 C dX6_draws_43 ?_
        refine wr_ldc2 44 C dX6_draws_44 q2069 ?_
        refine wr_ladd 47 C dX6_draws_47 ?_
        refine wr_ldc2 48 C dX6_draws_48 q2070 ?_
        refine wr_lrem 51 C dX6_draws_51 (by decide) ?_
        obtain ⟨x13, ex13, hf⟩ := o_let hf
        refine wr_lstore_n 52 [(3, .long x13), (0, .ref (q 0)), (5, .int x5_)] C dX6_draws_52 ex13 rfl (Nat.le_of_ble_eq_true rfl) rfl ?_
        refine wr_lload_n 53 C dX6_draws_53 0 rfl rfl ?_
        refine wr_ldc2 54 C dX6_draws_54 q2071 ?_
        refine wr_ldiv 57 C dX6_draws_57 (by decide) ?_
        refine wr_ldc2 58 C dX6_draws_58 q1823 ?_
        refine wr_lrem 61 C dX6_draws_61 (by decide) ?_
        refine wr_aload_n 62 C dX6_draws_62 1 rfl rfl ?_
        refine wr_aload_n 63 C dX6_draws_63 1 rfl rfl ?_
        refine gespM_0_39_X6 64 C dX6_draws_64 ?_
        refine wr_iload 67 C dX6_draws_67 2 rfl ?_
        obtain ⟨g14, hf⟩ := o_g hf
        refine wr_iald 69 C dX6_draws_69 spM_17 g14 ?_
        refine wr_bipush 70 C dX6_draws_70 (v := 10) rfl ?_
        refine wr_irem 72 C dX6_draws_72 (by decide) ?_
        refine wr_aload_n 73 C dX6_draws_73 1 rfl rfl ?_
        refine gespM_0_39_X6 74 C dX6_draws_74 ?_
        refine wr_iload 77 C dX6_draws_77 2 rfl ?_
        obtain ⟨g15, hf⟩ := o_g hf
        refine wr_iald 79 C dX6_draws_79 spM_17 g15 ?_
        refine wr_bipush 80 C dX6_draws_80 (v := 100) rfl ?_
        refine wr_idiv 82 C dX6_draws_82 (by decide) ?_
        obtain ⟨v18, μ17, h16, hf⟩ := o_bind hf
        refine wr_Vi (kc1 := 0) (ks1 := 0) 83 [.long ((x13 / (65536 : Int64)) - (x13 / (65536 : Int64)) / (100 : Int64) * (100 : Int64))] C dX6_draws_83 (tX6_riskOf l N   ((μ4.1 17 (Int32.toNatClampNeg x5_)) - (μ4.1 17 (Int32.toNatClampNeg x5_)) / (10 : Int32) * (10 : Int32)) ((μ4.1 17 (Int32.toNatClampNeg x5_)) / (100 : Int32)) μ4 (v18, μ17) h16) okX6_riskOf q1706 (b := 0) spM_0 rfl ⟨rfl, rfl, Nat.le_of_ble_eq_true rfl, Nat.le_of_ble_eq_true rfl, Nat.zero_le _, Nat.zero_le _⟩ (Nat.le_of_ble_eq_true rfl) rfl ?_
        refine wr_i2l 86 C dX6_draws_86 ?_
        refine wr_lcmp_ge 87 94 C dX6_draws_87 dX6_draws_88 (by decide) (fun c19 => ?_) (fun c19 => ?_)
        · replace hf := o_pos c19 hf
          refine wr_sub [(0, .ref (q 0)), (3, .long x13), (5, .int x5_)] [1, 0, 2] rfl ?_
          exact hJdraws94 x13 μ17 hf
        · replace hf := o_neg c19 hf
          refine wr_iload 91 C dX6_draws_91 2 rfl ?_
          exact wr_iret 93 C dX6_draws_93 ⟨Nat.zero_le _, Nat.zero_le _⟩ (Option.some.inj hf)
def fX6_draws (N : Nat)  (a1 : Int64) (μ : wMem) : Option (Int32 × wMem) :=
  wBindV (fX6_lays N   μ) fun μ2 => gX6_draws_9 N   (fun  (μ20 : wMem) => wLet (wSI μ20 0 47 (μ20.1 0 23)) fun μ21 => some ((-1), μ21)) N a1 0 μ2
set_option maxHeartbeats 4000000 in
set_option maxRecDepth 100000 in
theorem tX6_draws (l : Launch) {D : va_G} {E : List wCell} {q : Nat → Nat} {ca : wCA} (N : Nat)   (a1 : Int64) (μ : wMem) (r0 : (Int32 × wMem)) (hf : fX6_draws N  a1 μ = some r0) : wMi l yX6_draws cX6_draws 6 (some .int) ({ frames := 5, cells := 0, slots := 0, locals := 112 } : Room) D vwCl (spM ++ E) q ca [.ref (q 0), .long a1] μ r0 := by
  refine wMi_intro (by decide) (Nat.le_of_ble_eq_true rfl) ?_
  intro p e s m args below meth c A C
  unfold fX6_draws at hf
  refine wr_sub [(0, .ref (q 0)), (1, .long a1)] [0, 1] rfl ?_
  refine wr_aload_n 0 C dX6_draws_0 0 rfl rfl ?_
  obtain ⟨μ2, h1, hf⟩ := o_bindV hf
  refine wr_Vv (kc1 := 0) (ks1 := 0) 1 [] C dX6_draws_1 (tX6_lays l N    μ μ2 h1) okX6_lays q1690 (b := 0) spM_0 rfl ⟨rfl, rfl, Nat.le_of_ble_eq_true rfl, Nat.le_of_ble_eq_true rfl, Nat.zero_le _, Nat.zero_le _⟩ (Nat.le_of_ble_eq_true rfl) rfl ?_
  refine wr_lload_n 4 C dX6_draws_4 1 rfl rfl ?_
  refine wr_lstore_n 5 [(3, .long a1), (0, .ref (q 0)), (1, .long a1)] C dX6_draws_5 rfl rfl (Nat.le_of_ble_eq_true rfl) rfl ?_
  refine wr_iconst 6 C dX6_draws_6 (v := 0) rfl ?_
  refine wr_istore 7 [(5, .int 0), (3, .long a1), (0, .ref (q 0)), (1, .long a1)] C dX6_draws_7 rfl (Nat.le_of_ble_eq_true rfl) rfl ?_
  refine wr_sub [(0, .ref (q 0)), (3, .long a1), (5, .int 0)] [2, 1, 0] rfl ?_
  refine tX6_draws_9 C N    _ r0 (fun  μ20 hf => ?_) N a1 0 μ2 hf
  · replace hf := hf
    refine wr_aload_n 111 C dX6_draws_111 0 rfl rfl ?_
    refine wr_aload_n 112 C dX6_draws_112 0 rfl rfl ?_
    refine gespM_0_23_X6 113 C dX6_draws_113 ?_
    obtain ⟨μ21, eμ21, hf⟩ := o_let hf
    refine puspM_0_47_X6 116 C dX6_draws_116 eμ21 ?_
    refine wr_iconst 119 C dX6_draws_119 (v := (-1)) rfl ?_
    exact wr_iret 120 C dX6_draws_120 ⟨Nat.zero_le _, Nat.zero_le _⟩ (Option.some.inj hf)
abbrev cX6_drawn : ByteArray := prog_11_method_128_code
def yX6_drawn : MethodName := ⟨RX6, "drawn", "(II)I"⟩
def dkwX6_drawn_2 : List UInt8 := [182, 1, 202, 62, 28, 154, 0, 7, 29, 167, 0, 7, 42, 180, 1, 189, 172]
abbrev dktX6_drawn_2 : List UInt8 := dkwX6_drawn_2 ++ []
def dkwX6_drawn_1 : List UInt8 := [28, 133, 9, 10, 184, 0, 93, 153, 0, 11, 42, 4, 182, 1, 126, 154, 0, 6, 16, 254, 172, 42, 27, 133]
abbrev dktX6_drawn_1 : List UInt8 := dkwX6_drawn_1 ++ dktX6_drawn_2
def dkwX6_drawn_0 : List UInt8 := [42, 3, 181, 0, 88, 42, 182, 1, 67, 153, 0, 33, 27, 133, 9, 20, 1, 200, 184, 0, 93, 153, 0, 21]
abbrev dktX6_drawn_0 : List UInt8 := dkwX6_drawn_0 ++ dktX6_drawn_1
theorem dksX6_drawn_0 : cX6_drawn.data.toList.drop 0 = dktX6_drawn_0 := by decide +kernel
theorem dksX6_drawn_1 : cX6_drawn.data.toList.drop 24 = dktX6_drawn_1 := dk_seg dksX6_drawn_0 24 rfl rfl
theorem dksX6_drawn_2 : cX6_drawn.data.toList.drop 48 = dktX6_drawn_2 := dk_seg dksX6_drawn_1 24 rfl rfl
theorem dX6_drawn_0 : decode cX6_drawn 0 = .ok (.aload_n 0, 1) := dk_42 (dk_at dksX6_drawn_0 0 rfl rfl)
theorem dX6_drawn_1 : decode cX6_drawn 1 = .ok (.iconst 0, 1) := dk_3 (dk_at dksX6_drawn_0 1 rfl rfl)
theorem dX6_drawn_2 : decode cX6_drawn 2 = .ok (.putfield 88, 3) := dk_181 0 88 (dk_at dksX6_drawn_0 2 rfl rfl)
theorem dX6_drawn_5 : decode cX6_drawn 5 = .ok (.aload_n 0, 1) := dk_42 (dk_at dksX6_drawn_0 5 rfl rfl)
theorem dX6_drawn_6 : decode cX6_drawn 6 = .ok (.invokevirtual 323, 3) := dk_182 1 67 (dk_at dksX6_drawn_0 6 rfl rfl)
theorem dX6_drawn_9 : decode cX6_drawn 9 = .ok (.ifCond .eq 33, 3) := dk_153 0 33 (dk_at dksX6_drawn_0 9 rfl rfl)
theorem dX6_drawn_12 : decode cX6_drawn 12 = .ok (.iload_n 1, 1) := dk_27 (dk_at dksX6_drawn_0 12 rfl rfl)
theorem dX6_drawn_13 : decode cX6_drawn 13 = .ok (.i2l, 1) := dk_133 (dk_at dksX6_drawn_0 13 rfl rfl)
theorem dX6_drawn_14 : decode cX6_drawn 14 = .ok (.lconst 0, 1) := dk_9 (dk_at dksX6_drawn_0 14 rfl rfl)
theorem dX6_drawn_15 : decode cX6_drawn 15 = .ok (.ldc2_w 456, 3) := dk_20 1 200 (dk_at dksX6_drawn_0 15 rfl rfl)
theorem dX6_drawn_18 : decode cX6_drawn 18 = .ok (.invokestatic 93, 3) := dk_184 0 93 (dk_at dksX6_drawn_0 18 rfl rfl)
theorem dX6_drawn_21 : decode cX6_drawn 21 = .ok (.ifCond .eq 21, 3) := dk_153 0 21 (dk_at dksX6_drawn_0 21 rfl rfl)
theorem dX6_drawn_24 : decode cX6_drawn 24 = .ok (.iload_n 2, 1) := dk_28 (dk_at dksX6_drawn_1 0 rfl rfl)
theorem dX6_drawn_25 : decode cX6_drawn 25 = .ok (.i2l, 1) := dk_133 (dk_at dksX6_drawn_1 1 rfl rfl)
theorem dX6_drawn_26 : decode cX6_drawn 26 = .ok (.lconst 0, 1) := dk_9 (dk_at dksX6_drawn_1 2 rfl rfl)
theorem dX6_drawn_27 : decode cX6_drawn 27 = .ok (.lconst 1, 1) := dk_10 (dk_at dksX6_drawn_1 3 rfl rfl)
theorem dX6_drawn_28 : decode cX6_drawn 28 = .ok (.invokestatic 93, 3) := dk_184 0 93 (dk_at dksX6_drawn_1 4 rfl rfl)
theorem dX6_drawn_31 : decode cX6_drawn 31 = .ok (.ifCond .eq 11, 3) := dk_153 0 11 (dk_at dksX6_drawn_1 7 rfl rfl)
theorem dX6_drawn_34 : decode cX6_drawn 34 = .ok (.aload_n 0, 1) := dk_42 (dk_at dksX6_drawn_1 10 rfl rfl)
theorem dX6_drawn_35 : decode cX6_drawn 35 = .ok (.iconst 1, 1) := dk_4 (dk_at dksX6_drawn_1 11 rfl rfl)
theorem dX6_drawn_36 : decode cX6_drawn 36 = .ok (.invokevirtual 382, 3) := dk_182 1 126 (dk_at dksX6_drawn_1 12 rfl rfl)
theorem dX6_drawn_39 : decode cX6_drawn 39 = .ok (.ifCond .ne 6, 3) := dk_154 0 6 (dk_at dksX6_drawn_1 15 rfl rfl)
theorem dX6_drawn_42 : decode cX6_drawn 42 = .ok (.bipush (-2), 2) := dk_16 254 (dk_at dksX6_drawn_1 18 rfl rfl)
theorem dX6_drawn_44 : decode cX6_drawn 44 = .ok (.ireturn, 1) := dk_172 (dk_at dksX6_drawn_1 20 rfl rfl)
theorem dX6_drawn_45 : decode cX6_drawn 45 = .ok (.aload_n 0, 1) := dk_42 (dk_at dksX6_drawn_1 21 rfl rfl)
theorem dX6_drawn_46 : decode cX6_drawn 46 = .ok (.iload_n 1, 1) := dk_27 (dk_at dksX6_drawn_1 22 rfl rfl)
theorem dX6_drawn_47 : decode cX6_drawn 47 = .ok (.i2l, 1) := dk_133 (dk_at dksX6_drawn_1 23 rfl rfl)
theorem dX6_drawn_48 : decode cX6_drawn 48 = .ok (.invokevirtual 458, 3) := dk_182 1 202 (dk_at dksX6_drawn_2 0 rfl rfl)
theorem dX6_drawn_51 : decode cX6_drawn 51 = .ok (.istore_n 3, 1) := dk_62 (dk_at dksX6_drawn_2 3 rfl rfl)
theorem dX6_drawn_52 : decode cX6_drawn 52 = .ok (.iload_n 2, 1) := dk_28 (dk_at dksX6_drawn_2 4 rfl rfl)
theorem dX6_drawn_53 : decode cX6_drawn 53 = .ok (.ifCond .ne 7, 3) := dk_154 0 7 (dk_at dksX6_drawn_2 5 rfl rfl)
theorem dX6_drawn_56 : decode cX6_drawn 56 = .ok (.iload_n 3, 1) := dk_29 (dk_at dksX6_drawn_2 8 rfl rfl)
theorem dX6_drawn_57 : decode cX6_drawn 57 = .ok (.goto 7, 3) := dk_167 0 7 (dk_at dksX6_drawn_2 9 rfl rfl)
theorem dX6_drawn_60 : decode cX6_drawn 60 = .ok (.aload_n 0, 1) := dk_42 (dk_at dksX6_drawn_2 12 rfl rfl)
theorem dX6_drawn_61 : decode cX6_drawn 61 = .ok (.getfield 445, 3) := dk_180 1 189 (dk_at dksX6_drawn_2 13 rfl rfl)
theorem dX6_drawn_64 : decode cX6_drawn 64 = .ok (.ireturn, 1) := dk_172 (dk_at dksX6_drawn_2 16 rfl rfl)
theorem gespM_0_47_X6 {p : Program} {l : Launch} {e : Env} {R : Room} {s : State} {m : MethodId} {args : Array Value} {below : List Frame} {meth : Method} {c : Code} {cc : ByteArray} {nL : Nat} {ret : Option FieldType} {D : va_G} {E : List wCell} {q : Nat → Nat} {ca : wCA} {A : Nat → Prop} {Q : State → Prop} {kc ks : Nat} {μ : wMem} {lv : List (Nat × Value)} {st : List Value} (pc : Nat) (C : wC p R s m args meth c cc "OnePassportModel" nL ret D vwCl (spM ++ E) q ca A) (hd : decode cc pc = .ok (.getfield 445, 3)) (k : wJ p l e R s m args below meth c nL D vwCl (spM ++ E) q ca A Q kc ks μ (pc + 3) lv (.int (μ.1 0 47) :: st)) : wJ p l e R s m args below meth c nL D vwCl (spM ++ E) q ca A Q kc ks μ pc lv (.ref (q 0) :: st) := wr_getI pc 47 C hd spM_0 rfl in_X6 (by decide) rfl q1446 k
theorem okX6_drawn : wOkV yX6_drawn cX6_drawn 4 (some .int) 2 := ⟨q2060, q2061, q145, q2062, by decide, by decide, by decide +kernel⟩
def fX6_drawn (N : Nat)  (a1 : Int32) (a2 : Int32) (μ : wMem) : Option (Int32 × wMem) :=
  wLet (wSI μ 0 0 (0 : Int32)) fun μ1 => wBind (fX6_isFamily N   μ1) fun v4 μ3 => wLet (fun  (μ5 : wMem) => some ((-2), μ5)) fun Jdrawn42 => if v4 = 0 then Jdrawn42  μ3 else wBind (fX6_in N  (Int32.toInt64 a1) 0 2000000000 μ3) fun v9 μ8 => if v9 = 0 then Jdrawn42  μ8 else wBind (fX6_in N  (Int32.toInt64 a2) 0 1 μ8) fun v13 μ12 => if v13 = 0 then Jdrawn42  μ12 else wBind (fX6_isRow N  1 μ12) fun v17 μ16 => if v17 = 0 then Jdrawn42  μ16 else wBind (fX6_draws N  (Int32.toInt64 a1) μ16) fun v21 μ20 => if a2 = 0 then some (v21, μ20) else some (μ20.1 0 47, μ20)
set_option maxHeartbeats 4000000 in
set_option maxRecDepth 100000 in
theorem tX6_drawn (l : Launch) {D : va_G} {E : List wCell} {q : Nat → Nat} {ca : wCA} (N : Nat)   (a1 : Int32) (a2 : Int32) (μ : wMem) (r0 : (Int32 × wMem)) (hf : fX6_drawn N  a1 a2 μ = some r0) : wMi l yX6_drawn cX6_drawn 4 (some .int) ({ frames := 9, cells := 0, slots := 0, locals := 210 } : Room) D vwCl (spM ++ E) q ca [.ref (q 0), .int a1, .int a2] μ r0 := by
  refine wMi_intro (by decide) (Nat.le_of_ble_eq_true rfl) ?_
  intro p e s m args below meth c A C
  unfold fX6_drawn at hf
  refine wr_sub [(0, .ref (q 0)), (1, .int a1), (2, .int a2)] [0, 1, 2] rfl ?_
  refine wr_aload_n 0 C dX6_drawn_0 0 rfl rfl ?_
  refine wr_iconst 1 C dX6_drawn_1 (v := 0) rfl ?_
  obtain ⟨μ1, eμ1, hf⟩ := o_let hf
  refine puspM_0_0_X6 2 C dX6_drawn_2 eμ1 ?_
  refine wr_aload_n 5 C dX6_drawn_5 0 rfl rfl ?_
  obtain ⟨v4, μ3, h2, hf⟩ := o_bind hf
  refine wr_Vi (kc1 := 0) (ks1 := 0) 6 [] C dX6_drawn_6 (tX6_isFamily l N    μ1 (v4, μ3) h2) okX6_isFamily q1750 (b := 0) spM_0 rfl ⟨rfl, rfl, Nat.le_of_ble_eq_true rfl, Nat.le_of_ble_eq_true rfl, Nat.zero_le _, Nat.zero_le _⟩ (Nat.le_of_ble_eq_true rfl) rfl ?_
  obtain ⟨Jdrawn42, eJdrawn42, hf⟩ := o_let hf
  have hJdrawn42 : ∀  (μ5 : wMem), Jdrawn42  μ5 = some r0 → wJ p l e ({ frames := 9, cells := 0, slots := 0, locals := 210 } : Room) s m args below meth c 4 D vwCl (spM ++ E) q ca A (wQi ({ frames := 9, cells := 0, slots := 0, locals := 210 } : Room) D vwCl (spM ++ E) q ca below args s A r0) 0 0 μ5 42 [] [] := by
    intro  μ5 hf
    rw [eJdrawn42] at hf
    refine wr_bipush 42 C dX6_drawn_42 (v := (-2)) rfl ?_
    exact wr_iret 44 C dX6_drawn_44 ⟨Nat.zero_le _, Nat.zero_le _⟩ (Option.some.inj hf)
  refine wr_if_eq 9 42 C dX6_drawn_9 (by decide) (fun c6 => ?_) (fun c6 => ?_)
  · replace hf := o_pos c6 hf
    refine wr_sub [] [] rfl ?_
    exact hJdrawn42  μ3 hf
  · replace hf := o_neg c6 hf
    refine wr_iload_n 12 C dX6_drawn_12 1 rfl rfl ?_
    refine wr_i2l 13 C dX6_drawn_13 ?_
    refine wr_lconst 14 C dX6_drawn_14 (v := 0) rfl ?_
    refine wr_ldc2 15 C dX6_drawn_15 q2063 ?_
    obtain ⟨v9, μ8, h7, hf⟩ := o_bind hf
    refine wr_Si (kc1 := 0) (ks1 := 0) 18 [] C dX6_drawn_18 (tX6_in l N   (Int32.toInt64 a1) 0 2000000000 μ3 (v9, μ8) h7) okX6_in q1552 ⟨rfl, rfl, Nat.le_of_ble_eq_true rfl, Nat.le_of_ble_eq_true rfl, Nat.zero_le _, Nat.zero_le _⟩ (Nat.le_of_ble_eq_true rfl) rfl ?_
    refine wr_if_eq 21 42 C dX6_drawn_21 (by decide) (fun c10 => ?_) (fun c10 => ?_)
    · replace hf := o_pos c10 hf
      refine wr_sub [] [] rfl ?_
      exact hJdrawn42  μ8 hf
    · replace hf := o_neg c10 hf
      refine wr_iload_n 24 C dX6_drawn_24 2 rfl rfl ?_
      refine wr_i2l 25 C dX6_drawn_25 ?_
      refine wr_lconst 26 C dX6_drawn_26 (v := 0) rfl ?_
      refine wr_lconst 27 C dX6_drawn_27 (v := 1) rfl ?_
      obtain ⟨v13, μ12, h11, hf⟩ := o_bind hf
      refine wr_Si (kc1 := 0) (ks1 := 0) 28 [] C dX6_drawn_28 (tX6_in l N   (Int32.toInt64 a2) 0 1 μ8 (v13, μ12) h11) okX6_in q1552 ⟨rfl, rfl, Nat.le_of_ble_eq_true rfl, Nat.le_of_ble_eq_true rfl, Nat.zero_le _, Nat.zero_le _⟩ (Nat.le_of_ble_eq_true rfl) rfl ?_
      refine wr_if_eq 31 42 C dX6_drawn_31 (by decide) (fun c14 => ?_) (fun c14 => ?_)
      · replace hf := o_pos c14 hf
        refine wr_sub [] [] rfl ?_
        exact hJdrawn42  μ12 hf
      · replace hf := o_neg c14 hf
        refine wr_aload_n 34 C dX6_drawn_34 0 rfl rfl ?_
        refine wr_iconst 35 C dX6_drawn_35 (v := 1) rfl ?_
        obtain ⟨v17, μ16, h15, hf⟩ := o_bind hf
        refine wr_Vi (kc1 := 0) (ks1 := 0) 36 [] C dX6_drawn_36 (tX6_isRow l N   1 μ12 (v17, μ16) h15) okX6_isRow q1874 (b := 0) spM_0 rfl ⟨rfl, rfl, Nat.le_of_ble_eq_true rfl, Nat.le_of_ble_eq_true rfl, Nat.zero_le _, Nat.zero_le _⟩ (Nat.le_of_ble_eq_true rfl) rfl ?_
        refine wr_if_ne 39 45 C dX6_drawn_39 (by decide) (fun c18 => ?_) (fun c18 => ?_)
        · replace hf := o_neg c18 hf
          refine wr_aload_n 45 C dX6_drawn_45 0 rfl rfl ?_
          refine wr_iload_n 46 C dX6_drawn_46 1 rfl rfl ?_
          refine wr_i2l 47 C dX6_drawn_47 ?_
          obtain ⟨v21, μ20, h19, hf⟩ := o_bind hf
          refine wr_Vi (kc1 := 0) (ks1 := 0) 48 [] C dX6_drawn_48 (tX6_draws l N   (Int32.toInt64 a1) μ16 (v21, μ20) h19) okX6_draws q2064 (b := 0) spM_0 rfl ⟨rfl, rfl, Nat.le_of_ble_eq_true rfl, Nat.le_of_ble_eq_true rfl, Nat.zero_le _, Nat.zero_le _⟩ (Nat.le_of_ble_eq_true rfl) rfl ?_
          refine wr_istore_n 51 [(3, .int v21), (0, .ref (q 0)), (1, .int a1), (2, .int a2)] C dX6_drawn_51 rfl rfl (Nat.le_of_ble_eq_true rfl) rfl ?_
          refine wr_iload_n 52 C dX6_drawn_52 3 rfl rfl ?_
          refine wr_if_ne 53 60 C dX6_drawn_53 (by decide) (fun c22 => ?_) (fun c22 => ?_)
          · replace hf := o_neg c22 hf
            refine wr_aload_n 60 C dX6_drawn_60 1 rfl rfl ?_
            refine gespM_0_47_X6 61 C dX6_drawn_61 ?_
            exact wr_iret 64 C dX6_drawn_64 ⟨Nat.zero_le _, Nat.zero_le _⟩ (Option.some.inj hf)
          · replace hf := o_pos c22 hf
            refine wr_iload_n 56 C dX6_drawn_56 0 rfl rfl ?_
            refine wr_goto 57 C dX6_drawn_57 (tgt := 64) (by decide) ?_
            exact wr_iret 64 C dX6_drawn_64 ⟨Nat.zero_le _, Nat.zero_le _⟩ (Option.some.inj hf)
        · replace hf := o_pos c18 hf
          refine wr_sub [] [] rfl ?_
          exact hJdrawn42  μ16 hf
abbrev cX6_luck : ByteArray := prog_11_method_129_code
def yX6_luck : MethodName := ⟨RX6, "luck", "(II)I"⟩
def dkwX6_luck_3 : List UInt8 := [160, 0, 7, 4, 167, 0, 4, 3, 96, 62, 132, 4, 1, 167, 255, 225, 29, 172]
abbrev dktX6_luck_3 : List UInt8 := dkwX6_luck_3 ++ []
def dkwX6_luck_2 : List UInt8 := [62, 3, 54, 4, 21, 4, 28, 162, 0, 31, 29, 42, 27, 133, 21, 4, 133, 97, 182, 1, 202, 2]
abbrev dktX6_luck_2 : List UInt8 := dkwX6_luck_2 ++ dktX6_luck_3
def dkwX6_luck_1 : List UInt8 := [28, 133, 10, 20, 1, 206, 184, 0, 93, 153, 0, 11, 42, 4, 182, 1, 126, 154, 0, 6, 16, 254, 172, 3]
abbrev dktX6_luck_1 : List UInt8 := dkwX6_luck_1 ++ dktX6_luck_2
def dkwX6_luck_0 : List UInt8 := [42, 3, 181, 0, 88, 42, 182, 1, 67, 153, 0, 35, 27, 133, 9, 20, 1, 200, 184, 0, 93, 153, 0, 23]
abbrev dktX6_luck_0 : List UInt8 := dkwX6_luck_0 ++ dktX6_luck_1
theorem dksX6_luck_0 : cX6_luck.data.toList.drop 0 = dktX6_luck_0 := by decide +kernel
theorem dksX6_luck_1 : cX6_luck.data.toList.drop 24 = dktX6_luck_1 := dk_seg dksX6_luck_0 24 rfl rfl
theorem dksX6_luck_2 : cX6_luck.data.toList.drop 48 = dktX6_luck_2 := dk_seg dksX6_luck_1 24 rfl rfl
theorem dksX6_luck_3 : cX6_luck.data.toList.drop 70 = dktX6_luck_3 := dk_seg dksX6_luck_2 22 rfl rfl
theorem dX6_luck_0 : decode cX6_luck 0 = .ok (.aload_n 0, 1) := dk_42 (dk_at dksX6_luck_0 0 rfl rfl)
theorem dX6_luck_1 : decode cX6_luck 1 = .ok (.iconst 0, 1) := dk_3 (dk_at dksX6_luck_0 1 rfl rfl)
theorem dX6_luck_2 : decode cX6_luck 2 = .ok (.putfield 88, 3) := dk_181 0 88 (dk_at dksX6_luck_0 2 rfl rfl)
theorem dX6_luck_5 : decode cX6_luck 5 = .ok (.aload_n 0, 1) := dk_42 (dk_at dksX6_luck_0 5 rfl rfl)
theorem dX6_luck_6 : decode cX6_luck 6 = .ok (.invokevirtual 323, 3) := dk_182 1 67 (dk_at dksX6_luck_0 6 rfl rfl)
theorem dX6_luck_9 : decode cX6_luck 9 = .ok (.ifCond .eq 35, 3) := dk_153 0 35 (dk_at dksX6_luck_0 9 rfl rfl)
theorem dX6_luck_12 : decode cX6_luck 12 = .ok (.iload_n 1, 1) := dk_27 (dk_at dksX6_luck_0 12 rfl rfl)
theorem dX6_luck_13 : decode cX6_luck 13 = .ok (.i2l, 1) := dk_133 (dk_at dksX6_luck_0 13 rfl rfl)
theorem dX6_luck_14 : decode cX6_luck 14 = .ok (.lconst 0, 1) := dk_9 (dk_at dksX6_luck_0 14 rfl rfl)
theorem dX6_luck_15 : decode cX6_luck 15 = .ok (.ldc2_w 456, 3) := dk_20 1 200 (dk_at dksX6_luck_0 15 rfl rfl)
theorem dX6_luck_18 : decode cX6_luck 18 = .ok (.invokestatic 93, 3) := dk_184 0 93 (dk_at dksX6_luck_0 18 rfl rfl)
theorem dX6_luck_21 : decode cX6_luck 21 = .ok (.ifCond .eq 23, 3) := dk_153 0 23 (dk_at dksX6_luck_0 21 rfl rfl)
theorem dX6_luck_24 : decode cX6_luck 24 = .ok (.iload_n 2, 1) := dk_28 (dk_at dksX6_luck_1 0 rfl rfl)
theorem dX6_luck_25 : decode cX6_luck 25 = .ok (.i2l, 1) := dk_133 (dk_at dksX6_luck_1 1 rfl rfl)
theorem dX6_luck_26 : decode cX6_luck 26 = .ok (.lconst 1, 1) := dk_10 (dk_at dksX6_luck_1 2 rfl rfl)
theorem dX6_luck_27 : decode cX6_luck 27 = .ok (.ldc2_w 462, 3) := dk_20 1 206 (dk_at dksX6_luck_1 3 rfl rfl)
theorem dX6_luck_30 : decode cX6_luck 30 = .ok (.invokestatic 93, 3) := dk_184 0 93 (dk_at dksX6_luck_1 6 rfl rfl)
theorem dX6_luck_33 : decode cX6_luck 33 = .ok (.ifCond .eq 11, 3) := dk_153 0 11 (dk_at dksX6_luck_1 9 rfl rfl)
theorem dX6_luck_36 : decode cX6_luck 36 = .ok (.aload_n 0, 1) := dk_42 (dk_at dksX6_luck_1 12 rfl rfl)
theorem dX6_luck_37 : decode cX6_luck 37 = .ok (.iconst 1, 1) := dk_4 (dk_at dksX6_luck_1 13 rfl rfl)
theorem dX6_luck_38 : decode cX6_luck 38 = .ok (.invokevirtual 382, 3) := dk_182 1 126 (dk_at dksX6_luck_1 14 rfl rfl)
theorem dX6_luck_41 : decode cX6_luck 41 = .ok (.ifCond .ne 6, 3) := dk_154 0 6 (dk_at dksX6_luck_1 17 rfl rfl)
theorem dX6_luck_44 : decode cX6_luck 44 = .ok (.bipush (-2), 2) := dk_16 254 (dk_at dksX6_luck_1 20 rfl rfl)
theorem dX6_luck_46 : decode cX6_luck 46 = .ok (.ireturn, 1) := dk_172 (dk_at dksX6_luck_1 22 rfl rfl)
theorem dX6_luck_47 : decode cX6_luck 47 = .ok (.iconst 0, 1) := dk_3 (dk_at dksX6_luck_1 23 rfl rfl)
theorem dX6_luck_48 : decode cX6_luck 48 = .ok (.istore_n 3, 1) := dk_62 (dk_at dksX6_luck_2 0 rfl rfl)
theorem dX6_luck_49 : decode cX6_luck 49 = .ok (.iconst 0, 1) := dk_3 (dk_at dksX6_luck_2 1 rfl rfl)
theorem dX6_luck_50 : decode cX6_luck 50 = .ok (.istore 4, 2) := dk_54 4 (dk_at dksX6_luck_2 2 rfl rfl)
theorem dX6_luck_52 : decode cX6_luck 52 = .ok (.iload 4, 2) := dk_21 4 (dk_at dksX6_luck_2 4 rfl rfl)
theorem dX6_luck_54 : decode cX6_luck 54 = .ok (.iload_n 2, 1) := dk_28 (dk_at dksX6_luck_2 6 rfl rfl)
theorem dX6_luck_55 : decode cX6_luck 55 = .ok (.if_icmp .ge 31, 3) := dk_162 0 31 (dk_at dksX6_luck_2 7 rfl rfl)
theorem dX6_luck_58 : decode cX6_luck 58 = .ok (.iload_n 3, 1) := dk_29 (dk_at dksX6_luck_2 10 rfl rfl)
theorem dX6_luck_59 : decode cX6_luck 59 = .ok (.aload_n 0, 1) := dk_42 (dk_at dksX6_luck_2 11 rfl rfl)
theorem dX6_luck_60 : decode cX6_luck 60 = .ok (.iload_n 1, 1) := dk_27 (dk_at dksX6_luck_2 12 rfl rfl)
theorem dX6_luck_61 : decode cX6_luck 61 = .ok (.i2l, 1) := dk_133 (dk_at dksX6_luck_2 13 rfl rfl)
theorem dX6_luck_62 : decode cX6_luck 62 = .ok (.iload 4, 2) := dk_21 4 (dk_at dksX6_luck_2 14 rfl rfl)
theorem dX6_luck_64 : decode cX6_luck 64 = .ok (.i2l, 1) := dk_133 (dk_at dksX6_luck_2 16 rfl rfl)
theorem dX6_luck_65 : decode cX6_luck 65 = .ok (.ladd, 1) := dk_97 (dk_at dksX6_luck_2 17 rfl rfl)
theorem dX6_luck_66 : decode cX6_luck 66 = .ok (.invokevirtual 458, 3) := dk_182 1 202 (dk_at dksX6_luck_2 18 rfl rfl)
theorem dX6_luck_69 : decode cX6_luck 69 = .ok (.iconst (-1), 1) := dk_2 (dk_at dksX6_luck_2 21 rfl rfl)
theorem dX6_luck_70 : decode cX6_luck 70 = .ok (.if_icmp .ne 7, 3) := dk_160 0 7 (dk_at dksX6_luck_3 0 rfl rfl)
theorem dX6_luck_73 : decode cX6_luck 73 = .ok (.iconst 1, 1) := dk_4 (dk_at dksX6_luck_3 3 rfl rfl)
theorem dX6_luck_74 : decode cX6_luck 74 = .ok (.goto 4, 3) := dk_167 0 4 (dk_at dksX6_luck_3 4 rfl rfl)
theorem dX6_luck_77 : decode cX6_luck 77 = .ok (.iconst 0, 1) := dk_3 (dk_at dksX6_luck_3 7 rfl rfl)
theorem dX6_luck_78 : decode cX6_luck 78 = .ok (.iadd, 1) := dk_96 (dk_at dksX6_luck_3 8 rfl rfl)
theorem dX6_luck_79 : decode cX6_luck 79 = .ok (.istore_n 3, 1) := dk_62 (dk_at dksX6_luck_3 9 rfl rfl)
theorem dX6_luck_80 : decode cX6_luck 80 = .ok (.iinc 4 1, 3) := dk_132 4 1 (dk_at dksX6_luck_3 10 rfl rfl)
theorem dX6_luck_83 : decode cX6_luck 83 = .ok (.goto (-31), 3) := dk_167 255 225 (dk_at dksX6_luck_3 13 rfl rfl)
theorem dX6_luck_86 : decode cX6_luck 86 = .ok (.iload_n 3, 1) := dk_29 (dk_at dksX6_luck_3 16 rfl rfl)
theorem dX6_luck_87 : decode cX6_luck 87 = .ok (.ireturn, 1) := dk_172 (dk_at dksX6_luck_3 17 rfl rfl)

theorem okX6_luck : wOkV yX6_luck cX6_luck 5 (some .int) 2 := ⟨q2073, q2074, q145, q2075, by decide, by decide, by decide +kernel⟩
def gbX6_luck_52 (N : Nat)  (x1_ : Int32) (x2_ : Int32) (K : (Int32 → wMem → Option (Int32 × wMem))) (rec : (Int32 → Int32 → wMem → Option (Int32 × wMem))) (x3_ : Int32) (x4_ : Int32) (μ : wMem) : Option (Int32 × wMem) :=
  if x2_ ≤ x4_ then K x3_ μ else wBind (fX6_draws N  ((Int32.toInt64 x1_) + (Int32.toInt64 x4_)) μ) fun v22 μ21 => wLet (fun (v24 : Int32) (v25 : Int32) (μ23 : wMem) => wLet (v25 + v24 : Int32) fun x26 => wLet (x4_ + 1 : Int32) fun x27 => rec x26 x27 μ23) fun Jluck78 => if v22 = (-1 : Int32) then Jluck78 1 x3_ μ21 else Jluck78 0 x3_ μ21
def gX6_luck_52 (N : Nat)  (x1_ : Int32) (x2_ : Int32) (K : (Int32 → wMem → Option (Int32 × wMem))) : Nat → (Int32 → Int32 → wMem → Option (Int32 × wMem))
  | 0 => fun _ _ _ => none
  | k + 1 => gbX6_luck_52 N  x1_ x2_ K (gX6_luck_52 N  x1_ x2_ K k)
set_option maxHeartbeats 4000000 in
set_option maxRecDepth 100000 in
theorem tX6_luck_52 {p : Program} {l : Launch} {e : Env} {s : State} {m : MethodId} {args : Array Value} {below : List Frame} {meth : Method} {c : Code} {D : va_G} {E : List wCell} {q : Nat → Nat} {ca : wCA} {A : Nat → Prop} (C : wC p ({ frames := 9, cells := 0, slots := 0, locals := 210 } : Room) s m args meth c cX6_luck yX6_luck.cls 5 (some .int) D vwCl (spM ++ E) q ca A) (N : Nat)   (x1_ : Int32) (x2_ : Int32) (K : (Int32 → wMem → Option (Int32 × wMem))) (r0 : (Int32 × wMem)) (hK : ∀ (y3_ : Int32) (μ : wMem), K y3_ μ = some r0 → wJ p l e ({ frames := 9, cells := 0, slots := 0, locals := 210 } : Room) s m args below meth c 5 D vwCl (spM ++ E) q ca A (wQi ({ frames := 9, cells := 0, slots := 0, locals := 210 } : Room) D vwCl (spM ++ E) q ca below args s A r0) 0 0 μ 86 [(3, .int y3_)] []) : ∀ (k : Nat) (x3_ : Int32) (x4_ : Int32) (μ : wMem), gX6_luck_52 N  x1_ x2_ K k x3_ x4_ μ = some r0 → wJ p l e ({ frames := 9, cells := 0, slots := 0, locals := 210 } : Room) s m args below meth c 5 D vwCl (spM ++ E) q ca A (wQi ({ frames := 9, cells := 0, slots := 0, locals := 210 } : Room) D vwCl (spM ++ E) q ca below args s A r0) 0 0 μ 52 [(0, .ref (q 0)), (1, .int x1_), (2, .int x2_), (3, .int x3_), (4, .int x4_)] [] := by
  intro k
  induction k with
  | zero =>
    intro x3_ x4_ μ hf
    cases hf
  | succ k ih =>
    intro x3_ x4_ μ hf
    replace hf : gbX6_luck_52 N  x1_ x2_ K (gX6_luck_52 N  x1_ x2_ K k) x3_ x4_ μ = some r0 := hf
    unfold gbX6_luck_52 at hf
    refine wr_iload 52 C dX6_luck_52 4 rfl ?_
    refine wr_iload_n 54 C dX6_luck_54 2 rfl rfl ?_
    refine wr_icmp_ge 55 86 C dX6_luck_55 (by decide) (fun c19 => ?_) (fun c19 => ?_)
    · replace hf := o_pos c19 hf
      refine wr_sub [(3, .int x3_)] [3] rfl ?_
      exact hK x3_ μ hf
    · replace hf := o_neg c19 hf
      refine wr_iload_n 58 C dX6_luck_58 3 rfl rfl ?_
      refine wr_aload_n 59 C dX6_luck_59 0 rfl rfl ?_
      refine wr_iload_n 60 C dX6_luck_60 1 rfl rfl ?_
      refine wr_i2l 61 C dX6_luck_61 ?_
      refine wr_iload 62 C dX6_luck_62 4 rfl ?_
      refine wr_i2l 64 C dX6_luck_64 ?_
      refine wr_ladd 65 C dX6_luck_65 ?_
      obtain ⟨v22, μ21, h20, hf⟩ := o_bind hf
      refine wr_Vi (kc1 := 0) (ks1 := 0) 66 [.int x3_] C dX6_luck_66 (tX6_draws l N   ((Int32.toInt64 x1_) + (Int32.toInt64 x4_)) μ (v22, μ21) h20) okX6_draws q2064 (b := 0) spM_0 rfl ⟨rfl, rfl, Nat.le_of_ble_eq_true rfl, Nat.le_of_ble_eq_true rfl, Nat.zero_le _, Nat.zero_le _⟩ (Nat.le_of_ble_eq_true rfl) rfl ?_
      refine wr_iconst 69 C dX6_luck_69 (v := (-1)) rfl ?_
      obtain ⟨Jluck78, eJluck78, hf⟩ := o_let hf
      have hJluck78 : ∀ (v24 : Int32) (v25 : Int32) (μ23 : wMem), Jluck78 v24 v25 μ23 = some r0 → wJ p l e ({ frames := 9, cells := 0, slots := 0, locals := 210 } : Room) s m args below meth c 5 D vwCl (spM ++ E) q ca A (wQi ({ frames := 9, cells := 0, slots := 0, locals := 210 } : Room) D vwCl (spM ++ E) q ca below args s A r0) 0 0 μ23 78 [(0, .ref (q 0)), (1, .int x1_), (2, .int x2_), (4, .int x4_)] [.int v24, .int v25] := by
        intro v24 v25 μ23 hf
        rw [eJluck78] at hf
        refine wr_iadd 78 C dX6_luck_78 ?_
        obtain ⟨x26, ex26, hf⟩ := o_let hf
        refine wr_istore_n 79 [(3, .int x26), (0, .ref (q 0)), (1, .int x1_), (2, .int x2_), (4, .int x4_)] C dX6_luck_79 ex26 rfl (Nat.le_of_ble_eq_true rfl) rfl ?_
        obtain ⟨x27, ex27, hf⟩ := o_let hf
        refine wr_iinc 80 [(4, .int x27), (3, .int x26), (0, .ref (q 0)), (1, .int x1_), (2, .int x2_)] C dX6_luck_80 4 rfl (ex27.trans rfl) (Nat.le_of_ble_eq_true rfl) rfl ?_
        refine wr_goto 83 C dX6_luck_83 (tgt := 52) (by decide) ?_
        refine wr_sub [(0, .ref (q 0)), (1, .int x1_), (2, .int x2_), (3, .int x26), (4, .int x27)] [2, 3, 4, 1, 0] rfl ?_
        exact ih x26 x27 μ23 hf
      refine wr_icmp_ne 70 77 C dX6_luck_70 (by decide) (fun c28 => ?_) (fun c28 => ?_)
      · replace hf := o_neg c28 hf
        refine wr_iconst 77 C dX6_luck_77 (v := 0) rfl ?_
        refine wr_sub [(0, .ref (q 0)), (1, .int x1_), (2, .int x2_), (4, .int x4_)] [0, 1, 2, 4] rfl ?_
        exact hJluck78 0 x3_ μ21 hf
      · replace hf := o_pos c28 hf
        refine wr_iconst 73 C dX6_luck_73 (v := 1) rfl ?_
        refine wr_goto 74 C dX6_luck_74 (tgt := 78) (by decide) ?_
        refine wr_sub [(0, .ref (q 0)), (1, .int x1_), (2, .int x2_), (4, .int x4_)] [0, 1, 2, 4] rfl ?_
        exact hJluck78 1 x3_ μ21 hf
def fX6_luck (N : Nat)  (a1 : Int32) (a2 : Int32) (μ : wMem) : Option (Int32 × wMem) :=
  wLet (wSI μ 0 0 (0 : Int32)) fun μ1 => wBind (fX6_isFamily N   μ1) fun v4 μ3 => wLet (fun  (μ5 : wMem) => some ((-2), μ5)) fun Jluck44 => if v4 = 0 then Jluck44  μ3 else wBind (fX6_in N  (Int32.toInt64 a1) 0 2000000000 μ3) fun v9 μ8 => if v9 = 0 then Jluck44  μ8 else wBind (fX6_in N  (Int32.toInt64 a2) 1 20 μ8) fun v13 μ12 => if v13 = 0 then Jluck44  μ12 else wBind (fX6_isRow N  1 μ12) fun v17 μ16 => if v17 = 0 then Jluck44  μ16 else gX6_luck_52 N  a1 a2 (fun (x30 : Int32) (μ29 : wMem) => some (x30, μ29)) N 0 0 μ16
set_option maxHeartbeats 4000000 in
set_option maxRecDepth 100000 in
theorem tX6_luck (l : Launch) {D : va_G} {E : List wCell} {q : Nat → Nat} {ca : wCA} (N : Nat)   (a1 : Int32) (a2 : Int32) (μ : wMem) (r0 : (Int32 × wMem)) (hf : fX6_luck N  a1 a2 μ = some r0) : wMi l yX6_luck cX6_luck 5 (some .int) ({ frames := 9, cells := 0, slots := 0, locals := 210 } : Room) D vwCl (spM ++ E) q ca [.ref (q 0), .int a1, .int a2] μ r0 := by
  refine wMi_intro (by decide) (Nat.le_of_ble_eq_true rfl) ?_
  intro p e s m args below meth c A C
  unfold fX6_luck at hf
  refine wr_sub [(0, .ref (q 0)), (1, .int a1), (2, .int a2)] [0, 1, 2] rfl ?_
  refine wr_aload_n 0 C dX6_luck_0 0 rfl rfl ?_
  refine wr_iconst 1 C dX6_luck_1 (v := 0) rfl ?_
  obtain ⟨μ1, eμ1, hf⟩ := o_let hf
  refine puspM_0_0_X6 2 C dX6_luck_2 eμ1 ?_
  refine wr_aload_n 5 C dX6_luck_5 0 rfl rfl ?_
  obtain ⟨v4, μ3, h2, hf⟩ := o_bind hf
  refine wr_Vi (kc1 := 0) (ks1 := 0) 6 [] C dX6_luck_6 (tX6_isFamily l N    μ1 (v4, μ3) h2) okX6_isFamily q1750 (b := 0) spM_0 rfl ⟨rfl, rfl, Nat.le_of_ble_eq_true rfl, Nat.le_of_ble_eq_true rfl, Nat.zero_le _, Nat.zero_le _⟩ (Nat.le_of_ble_eq_true rfl) rfl ?_
  obtain ⟨Jluck44, eJluck44, hf⟩ := o_let hf
  have hJluck44 : ∀  (μ5 : wMem), Jluck44  μ5 = some r0 → wJ p l e ({ frames := 9, cells := 0, slots := 0, locals := 210 } : Room) s m args below meth c 5 D vwCl (spM ++ E) q ca A (wQi ({ frames := 9, cells := 0, slots := 0, locals := 210 } : Room) D vwCl (spM ++ E) q ca below args s A r0) 0 0 μ5 44 [] [] := by
    intro  μ5 hf
    rw [eJluck44] at hf
    refine wr_bipush 44 C dX6_luck_44 (v := (-2)) rfl ?_
    exact wr_iret 46 C dX6_luck_46 ⟨Nat.zero_le _, Nat.zero_le _⟩ (Option.some.inj hf)
  refine wr_if_eq 9 44 C dX6_luck_9 (by decide) (fun c6 => ?_) (fun c6 => ?_)
  · replace hf := o_pos c6 hf
    refine wr_sub [] [] rfl ?_
    exact hJluck44  μ3 hf
  · replace hf := o_neg c6 hf
    refine wr_iload_n 12 C dX6_luck_12 1 rfl rfl ?_
    refine wr_i2l 13 C dX6_luck_13 ?_
    refine wr_lconst 14 C dX6_luck_14 (v := 0) rfl ?_
    refine wr_ldc2 15 C dX6_luck_15 q2063 ?_
    obtain ⟨v9, μ8, h7, hf⟩ := o_bind hf
    refine wr_Si (kc1 := 0) (ks1 := 0) 18 [] C dX6_luck_18 (tX6_in l N   (Int32.toInt64 a1) 0 2000000000 μ3 (v9, μ8) h7) okX6_in q1552 ⟨rfl, rfl, Nat.le_of_ble_eq_true rfl, Nat.le_of_ble_eq_true rfl, Nat.zero_le _, Nat.zero_le _⟩ (Nat.le_of_ble_eq_true rfl) rfl ?_
    refine wr_if_eq 21 44 C dX6_luck_21 (by decide) (fun c10 => ?_) (fun c10 => ?_)
    · replace hf := o_pos c10 hf
      refine wr_sub [] [] rfl ?_
      exact hJluck44  μ8 hf
    · replace hf := o_neg c10 hf
      refine wr_iload_n 24 C dX6_luck_24 2 rfl rfl ?_
      refine wr_i2l 25 C dX6_luck_25 ?_
      refine wr_lconst 26 C dX6_luck_26 (v := 1) rfl ?_
      refine wr_ldc2 27 C dX6_luck_27 q2076 ?_
      obtain ⟨v13, μ12, h11, hf⟩ := o_bind hf
      refine wr_Si (kc1 := 0) (ks1 := 0) 30 [] C dX6_luck_30 (tX6_in l N   (Int32.toInt64 a2) 1 20 μ8 (v13, μ12) h11) okX6_in q1552 ⟨rfl, rfl, Nat.le_of_ble_eq_true rfl, Nat.le_of_ble_eq_true rfl, Nat.zero_le _, Nat.zero_le _⟩ (Nat.le_of_ble_eq_true rfl) rfl ?_
      refine wr_if_eq 33 44 C dX6_luck_33 (by decide) (fun c14 => ?_) (fun c14 => ?_)
      · replace hf := o_pos c14 hf
        refine wr_sub [] [] rfl ?_
        exact hJluck44  μ12 hf
      · replace hf := o_neg c14 hf
        refine wr_aload_n 36 C dX6_luck_36 0 rfl rfl ?_
        refine wr_iconst 37 C dX6_luck_37 (v := 1) rfl ?_
        obtain ⟨v17, μ16, h15, hf⟩ := o_bind hf
        refine wr_Vi (kc1 := 0) (ks1 := 0) 38 [] C dX6_luck_38 (tX6_isRow l N   1 μ12 (v17, μ16) h15) okX6_isRow q1874 (b := 0) spM_0 rfl ⟨rfl, rfl, Nat.le_of_ble_eq_true rfl, Nat.le_of_ble_eq_true rfl, Nat.zero_le _, Nat.zero_le _⟩ (Nat.le_of_ble_eq_true rfl) rfl ?_
        refine wr_if_ne 41 47 C dX6_luck_41 (by decide) (fun c18 => ?_) (fun c18 => ?_)
        · replace hf := o_neg c18 hf
          refine wr_iconst 47 C dX6_luck_47 (v := 0) rfl ?_
          refine wr_istore_n 48 [(3, .int 0), (0, .ref (q 0)), (1, .int a1), (2, .int a2)] C dX6_luck_48 rfl rfl (Nat.le_of_ble_eq_true rfl) rfl ?_
          refine wr_iconst 49 C dX6_luck_49 (v := 0) rfl ?_
          refine wr_istore 50 [(4, .int 0), (3, .int 0), (0, .ref (q 0)), (1, .int a1), (2, .int a2)] C dX6_luck_50 rfl (Nat.le_of_ble_eq_true rfl) rfl ?_
          refine wr_sub [(0, .ref (q 0)), (1, .int a1), (2, .int a2), (3, .int 0), (4, .int 0)] [2, 3, 4, 1, 0] rfl ?_
          refine tX6_luck_52 C N   a1 a2 _ r0 (fun x30 μ29 hf => ?_) N 0 0 μ16 hf
          · replace hf := hf
            refine wr_iload_n 86 C dX6_luck_86 0 rfl rfl ?_
            exact wr_iret 87 C dX6_luck_87 ⟨Nat.zero_le _, Nat.zero_le _⟩ (Option.some.inj hf)
        · replace hf := o_pos c18 hf
          refine wr_sub [] [] rfl ?_
          exact hJluck44  μ16 hf
abbrev cX6_grow : ByteArray := prog_11_method_130_code
def yX6_grow : MethodName := ⟨RX6, "grow", "(II)I"⟩
def dkwX6_grow_1 : List UInt8 := [154, 0, 6, 16, 254, 172, 42, 180, 0, 37, 27, 46, 62, 42, 180, 0, 37, 27, 28, 79, 29, 172]
abbrev dktX6_grow_1 : List UInt8 := dkwX6_grow_1 ++ []
def dkwX6_grow_0 : List UInt8 := [42, 3, 181, 0, 88, 42, 27, 182, 1, 56, 153, 0, 15, 28, 133, 9, 20, 1, 14, 184, 0, 93]
abbrev dktX6_grow_0 : List UInt8 := dkwX6_grow_0 ++ dktX6_grow_1
theorem dksX6_grow_0 : cX6_grow.data.toList.drop 0 = dktX6_grow_0 := by decide +kernel
theorem dksX6_grow_1 : cX6_grow.data.toList.drop 22 = dktX6_grow_1 := dk_seg dksX6_grow_0 22 rfl rfl
theorem dX6_grow_0 : decode cX6_grow 0 = .ok (.aload_n 0, 1) := dk_42 (dk_at dksX6_grow_0 0 rfl rfl)
theorem dX6_grow_1 : decode cX6_grow 1 = .ok (.iconst 0, 1) := dk_3 (dk_at dksX6_grow_0 1 rfl rfl)
theorem dX6_grow_2 : decode cX6_grow 2 = .ok (.putfield 88, 3) := dk_181 0 88 (dk_at dksX6_grow_0 2 rfl rfl)
theorem dX6_grow_5 : decode cX6_grow 5 = .ok (.aload_n 0, 1) := dk_42 (dk_at dksX6_grow_0 5 rfl rfl)
theorem dX6_grow_6 : decode cX6_grow 6 = .ok (.iload_n 1, 1) := dk_27 (dk_at dksX6_grow_0 6 rfl rfl)
theorem dX6_grow_7 : decode cX6_grow 7 = .ok (.invokevirtual 312, 3) := dk_182 1 56 (dk_at dksX6_grow_0 7 rfl rfl)
theorem dX6_grow_10 : decode cX6_grow 10 = .ok (.ifCond .eq 15, 3) := dk_153 0 15 (dk_at dksX6_grow_0 10 rfl rfl)
theorem dX6_grow_13 : decode cX6_grow 13 = .ok (.iload_n 2, 1) := dk_28 (dk_at dksX6_grow_0 13 rfl rfl)
theorem dX6_grow_14 : decode cX6_grow 14 = .ok (.i2l, 1) := dk_133 (dk_at dksX6_grow_0 14 rfl rfl)
theorem dX6_grow_15 : decode cX6_grow 15 = .ok (.lconst 0, 1) := dk_9 (dk_at dksX6_grow_0 15 rfl rfl)
theorem dX6_grow_16 : decode cX6_grow 16 = .ok (.ldc2_w 270, 3) := dk_20 1 14 (dk_at dksX6_grow_0 16 rfl rfl)
theorem dX6_grow_19 : decode cX6_grow 19 = .ok (.invokestatic 93, 3) := dk_184 0 93 (dk_at dksX6_grow_0 19 rfl rfl)
theorem dX6_grow_22 : decode cX6_grow 22 = .ok (.ifCond .ne 6, 3) := dk_154 0 6 (dk_at dksX6_grow_1 0 rfl rfl)
theorem dX6_grow_25 : decode cX6_grow 25 = .ok (.bipush (-2), 2) := dk_16 254 (dk_at dksX6_grow_1 3 rfl rfl)
theorem dX6_grow_27 : decode cX6_grow 27 = .ok (.ireturn, 1) := dk_172 (dk_at dksX6_grow_1 5 rfl rfl)
theorem dX6_grow_28 : decode cX6_grow 28 = .ok (.aload_n 0, 1) := dk_42 (dk_at dksX6_grow_1 6 rfl rfl)
theorem dX6_grow_29 : decode cX6_grow 29 = .ok (.getfield 37, 3) := dk_180 0 37 (dk_at dksX6_grow_1 7 rfl rfl)
theorem dX6_grow_32 : decode cX6_grow 32 = .ok (.iload_n 1, 1) := dk_27 (dk_at dksX6_grow_1 10 rfl rfl)
theorem dX6_grow_33 : decode cX6_grow 33 = .ok (.iaload, 1) := dk_46 (dk_at dksX6_grow_1 11 rfl rfl)
theorem dX6_grow_34 : decode cX6_grow 34 = .ok (.istore_n 3, 1) := dk_62 (dk_at dksX6_grow_1 12 rfl rfl)
theorem dX6_grow_35 : decode cX6_grow 35 = .ok (.aload_n 0, 1) := dk_42 (dk_at dksX6_grow_1 13 rfl rfl)
theorem dX6_grow_36 : decode cX6_grow 36 = .ok (.getfield 37, 3) := dk_180 0 37 (dk_at dksX6_grow_1 14 rfl rfl)
theorem dX6_grow_39 : decode cX6_grow 39 = .ok (.iload_n 1, 1) := dk_27 (dk_at dksX6_grow_1 17 rfl rfl)
theorem dX6_grow_40 : decode cX6_grow 40 = .ok (.iload_n 2, 1) := dk_28 (dk_at dksX6_grow_1 18 rfl rfl)
theorem dX6_grow_41 : decode cX6_grow 41 = .ok (.iastore, 1) := dk_79 (dk_at dksX6_grow_1 19 rfl rfl)
theorem dX6_grow_42 : decode cX6_grow 42 = .ok (.iload_n 3, 1) := dk_29 (dk_at dksX6_grow_1 20 rfl rfl)
theorem dX6_grow_43 : decode cX6_grow 43 = .ok (.ireturn, 1) := dk_172 (dk_at dksX6_grow_1 21 rfl rfl)

theorem okX6_grow : wOkV yX6_grow cX6_grow 4 (some .int) 2 := ⟨q2078, q2079, q145, q2080, by decide, by decide, by decide +kernel⟩
def fX6_grow (N : Nat)  (a1 : Int32) (a2 : Int32) (μ : wMem) : Option (Int32 × wMem) :=
  wLet (wSI μ 0 0 (0 : Int32)) fun μ1 => wBind (fX6_isPerson N  a1 μ1) fun v4 μ3 => wLet (fun  (μ5 : wMem) => some ((-2), μ5)) fun Jgrow25 => if v4 = 0 then Jgrow25  μ3 else wBind (fX6_in N  (Int32.toInt64 a2) 0 100 μ3) fun v9 μ8 => if v9 = 0 then Jgrow25  μ8 else wG (ok_in a1 30) (wLet (μ8.1 8 (Int32.toNatClampNeg a1) : Int32) fun x12 => wG (ok_in a1 30) (wLet (wSI μ8 8 (Int32.toNatClampNeg a1) a2) fun μ14 => some (x12, μ14)))
set_option maxHeartbeats 4000000 in
set_option maxRecDepth 100000 in
theorem tX6_grow (l : Launch) {D : va_G} {E : List wCell} {q : Nat → Nat} {ca : wCA} (N : Nat)   (a1 : Int32) (a2 : Int32) (μ : wMem) (r0 : (Int32 × wMem)) (hf : fX6_grow N  a1 a2 μ = some r0) : wMi l yX6_grow cX6_grow 4 (some .int) ({ frames := 2, cells := 0, slots := 0, locals := 46 } : Room) D vwCl (spM ++ E) q ca [.ref (q 0), .int a1, .int a2] μ r0 := by
  refine wMi_intro (by decide) (Nat.le_of_ble_eq_true rfl) ?_
  intro p e s m args below meth c A C
  unfold fX6_grow at hf
  refine wr_sub [(0, .ref (q 0)), (1, .int a1), (2, .int a2)] [0, 1, 2] rfl ?_
  refine wr_aload_n 0 C dX6_grow_0 0 rfl rfl ?_
  refine wr_iconst 1 C dX6_grow_1 (v := 0) rfl ?_
  obtain ⟨μ1, eμ1, hf⟩ := o_let hf
  refine puspM_0_0_X6 2 C dX6_grow_2 eμ1 ?_
  refine wr_aload_n 5 C dX6_grow_5 0 rfl rfl ?_
  refine wr_iload_n 6 C dX6_grow_6 1 rfl rfl ?_
  obtain ⟨v4, μ3, h2, hf⟩ := o_bind hf
  refine wr_Vi (kc1 := 0) (ks1 := 0) 7 [] C dX6_grow_7 (tX6_isPerson l N   a1 μ1 (v4, μ3) h2) okX6_isPerson q1685 (b := 0) spM_0 rfl ⟨rfl, rfl, Nat.le_of_ble_eq_true rfl, Nat.le_of_ble_eq_true rfl, Nat.zero_le _, Nat.zero_le _⟩ (Nat.le_of_ble_eq_true rfl) rfl ?_
  obtain ⟨Jgrow25, eJgrow25, hf⟩ := o_let hf
  have hJgrow25 : ∀  (μ5 : wMem), Jgrow25  μ5 = some r0 → wJ p l e ({ frames := 2, cells := 0, slots := 0, locals := 46 } : Room) s m args below meth c 4 D vwCl (spM ++ E) q ca A (wQi ({ frames := 2, cells := 0, slots := 0, locals := 46 } : Room) D vwCl (spM ++ E) q ca below args s A r0) 0 0 μ5 25 [] [] := by
    intro  μ5 hf
    rw [eJgrow25] at hf
    refine wr_bipush 25 C dX6_grow_25 (v := (-2)) rfl ?_
    exact wr_iret 27 C dX6_grow_27 ⟨Nat.zero_le _, Nat.zero_le _⟩ (Option.some.inj hf)
  refine wr_if_eq 10 25 C dX6_grow_10 (by decide) (fun c6 => ?_) (fun c6 => ?_)
  · replace hf := o_pos c6 hf
    refine wr_sub [] [] rfl ?_
    exact hJgrow25  μ3 hf
  · replace hf := o_neg c6 hf
    refine wr_iload_n 13 C dX6_grow_13 2 rfl rfl ?_
    refine wr_i2l 14 C dX6_grow_14 ?_
    refine wr_lconst 15 C dX6_grow_15 (v := 0) rfl ?_
    refine wr_ldc2 16 C dX6_grow_16 q1823 ?_
    obtain ⟨v9, μ8, h7, hf⟩ := o_bind hf
    refine wr_Si (kc1 := 0) (ks1 := 0) 19 [] C dX6_grow_19 (tX6_in l N   (Int32.toInt64 a2) 0 100 μ3 (v9, μ8) h7) okX6_in q1552 ⟨rfl, rfl, Nat.le_of_ble_eq_true rfl, Nat.le_of_ble_eq_true rfl, Nat.zero_le _, Nat.zero_le _⟩ (Nat.le_of_ble_eq_true rfl) rfl ?_
    refine wr_if_ne 22 28 C dX6_grow_22 (by decide) (fun c10 => ?_) (fun c10 => ?_)
    · replace hf := o_neg c10 hf
      refine wr_aload_n 28 C dX6_grow_28 0 rfl rfl ?_
      refine gespM_0_18_X6 29 C dX6_grow_29 ?_
      refine wr_iload_n 32 C dX6_grow_32 1 rfl rfl ?_
      obtain ⟨g11, hf⟩ := o_g hf
      refine wr_iald 33 C dX6_grow_33 spM_8 g11 ?_
      obtain ⟨x12, ex12, hf⟩ := o_let hf
      refine wr_istore_n 34 [(3, .int x12), (0, .ref (q 0)), (1, .int a1), (2, .int a2)] C dX6_grow_34 ex12 rfl (Nat.le_of_ble_eq_true rfl) rfl ?_
      refine wr_aload_n 35 C dX6_grow_35 1 rfl rfl ?_
      refine gespM_0_18_X6 36 C dX6_grow_36 ?_
      refine wr_iload_n 39 C dX6_grow_39 2 rfl rfl ?_
      refine wr_iload_n 40 C dX6_grow_40 3 rfl rfl ?_
      obtain ⟨g13, hf⟩ := o_g hf
      obtain ⟨μ14, eμ14, hf⟩ := o_let hf
      refine wr_iast 41 C dX6_grow_41 spM_8 g13 eμ14 ?_
      refine wr_iload_n 42 C dX6_grow_42 0 rfl rfl ?_
      exact wr_iret 43 C dX6_grow_43 ⟨Nat.zero_le _, Nat.zero_le _⟩ (Option.some.inj hf)
    · replace hf := o_pos c10 hf
      refine wr_sub [] [] rfl ?_
      exact hJgrow25  μ8 hf
abbrev cX6_guard : ByteArray := prog_11_method_131_code
def yX6_guard : MethodName := ⟨RX6, "guard", "(II)I"⟩
def dkwX6_guard_2 : List UInt8 := [29, 172]
abbrev dktX6_guard_2 : List UInt8 := dkwX6_guard_2 ++ []
def dkwX6_guard_1 : List UInt8 := [154, 0, 6, 16, 254, 172, 42, 180, 0, 43, 6, 27, 104, 46, 62, 42, 180, 0, 43, 6, 27, 104, 28, 79]
abbrev dktX6_guard_1 : List UInt8 := dkwX6_guard_1 ++ dktX6_guard_2
def dkwX6_guard_0 : List UInt8 := [42, 3, 181, 0, 88, 42, 27, 182, 1, 64, 153, 0, 15, 28, 133, 9, 20, 1, 14, 184, 0, 93]
abbrev dktX6_guard_0 : List UInt8 := dkwX6_guard_0 ++ dktX6_guard_1
theorem dksX6_guard_0 : cX6_guard.data.toList.drop 0 = dktX6_guard_0 := by decide +kernel
theorem dksX6_guard_1 : cX6_guard.data.toList.drop 22 = dktX6_guard_1 := dk_seg dksX6_guard_0 22 rfl rfl
theorem dksX6_guard_2 : cX6_guard.data.toList.drop 46 = dktX6_guard_2 := dk_seg dksX6_guard_1 24 rfl rfl
theorem dX6_guard_0 : decode cX6_guard 0 = .ok (.aload_n 0, 1) := dk_42 (dk_at dksX6_guard_0 0 rfl rfl)
theorem dX6_guard_1 : decode cX6_guard 1 = .ok (.iconst 0, 1) := dk_3 (dk_at dksX6_guard_0 1 rfl rfl)
theorem dX6_guard_2 : decode cX6_guard 2 = .ok (.putfield 88, 3) := dk_181 0 88 (dk_at dksX6_guard_0 2 rfl rfl)
theorem dX6_guard_5 : decode cX6_guard 5 = .ok (.aload_n 0, 1) := dk_42 (dk_at dksX6_guard_0 5 rfl rfl)
theorem dX6_guard_6 : decode cX6_guard 6 = .ok (.iload_n 1, 1) := dk_27 (dk_at dksX6_guard_0 6 rfl rfl)
theorem dX6_guard_7 : decode cX6_guard 7 = .ok (.invokevirtual 320, 3) := dk_182 1 64 (dk_at dksX6_guard_0 7 rfl rfl)
theorem dX6_guard_10 : decode cX6_guard 10 = .ok (.ifCond .eq 15, 3) := dk_153 0 15 (dk_at dksX6_guard_0 10 rfl rfl)
theorem dX6_guard_13 : decode cX6_guard 13 = .ok (.iload_n 2, 1) := dk_28 (dk_at dksX6_guard_0 13 rfl rfl)
theorem dX6_guard_14 : decode cX6_guard 14 = .ok (.i2l, 1) := dk_133 (dk_at dksX6_guard_0 14 rfl rfl)
theorem dX6_guard_15 : decode cX6_guard 15 = .ok (.lconst 0, 1) := dk_9 (dk_at dksX6_guard_0 15 rfl rfl)
theorem dX6_guard_16 : decode cX6_guard 16 = .ok (.ldc2_w 270, 3) := dk_20 1 14 (dk_at dksX6_guard_0 16 rfl rfl)
theorem dX6_guard_19 : decode cX6_guard 19 = .ok (.invokestatic 93, 3) := dk_184 0 93 (dk_at dksX6_guard_0 19 rfl rfl)
theorem dX6_guard_22 : decode cX6_guard 22 = .ok (.ifCond .ne 6, 3) := dk_154 0 6 (dk_at dksX6_guard_1 0 rfl rfl)
theorem dX6_guard_25 : decode cX6_guard 25 = .ok (.bipush (-2), 2) := dk_16 254 (dk_at dksX6_guard_1 3 rfl rfl)
theorem dX6_guard_27 : decode cX6_guard 27 = .ok (.ireturn, 1) := dk_172 (dk_at dksX6_guard_1 5 rfl rfl)
theorem dX6_guard_28 : decode cX6_guard 28 = .ok (.aload_n 0, 1) := dk_42 (dk_at dksX6_guard_1 6 rfl rfl)
theorem dX6_guard_29 : decode cX6_guard 29 = .ok (.getfield 43, 3) := dk_180 0 43 (dk_at dksX6_guard_1 7 rfl rfl)
theorem dX6_guard_32 : decode cX6_guard 32 = .ok (.iconst 3, 1) := dk_6 (dk_at dksX6_guard_1 10 rfl rfl)
theorem dX6_guard_33 : decode cX6_guard 33 = .ok (.iload_n 1, 1) := dk_27 (dk_at dksX6_guard_1 11 rfl rfl)
theorem dX6_guard_34 : decode cX6_guard 34 = .ok (.imul, 1) := dk_104 (dk_at dksX6_guard_1 12 rfl rfl)
theorem dX6_guard_35 : decode cX6_guard 35 = .ok (.iaload, 1) := dk_46 (dk_at dksX6_guard_1 13 rfl rfl)
theorem dX6_guard_36 : decode cX6_guard 36 = .ok (.istore_n 3, 1) := dk_62 (dk_at dksX6_guard_1 14 rfl rfl)
theorem dX6_guard_37 : decode cX6_guard 37 = .ok (.aload_n 0, 1) := dk_42 (dk_at dksX6_guard_1 15 rfl rfl)
theorem dX6_guard_38 : decode cX6_guard 38 = .ok (.getfield 43, 3) := dk_180 0 43 (dk_at dksX6_guard_1 16 rfl rfl)
theorem dX6_guard_41 : decode cX6_guard 41 = .ok (.iconst 3, 1) := dk_6 (dk_at dksX6_guard_1 19 rfl rfl)
theorem dX6_guard_42 : decode cX6_guard 42 = .ok (.iload_n 1, 1) := dk_27 (dk_at dksX6_guard_1 20 rfl rfl)
theorem dX6_guard_43 : decode cX6_guard 43 = .ok (.imul, 1) := dk_104 (dk_at dksX6_guard_1 21 rfl rfl)
theorem dX6_guard_44 : decode cX6_guard 44 = .ok (.iload_n 2, 1) := dk_28 (dk_at dksX6_guard_1 22 rfl rfl)
theorem dX6_guard_45 : decode cX6_guard 45 = .ok (.iastore, 1) := dk_79 (dk_at dksX6_guard_1 23 rfl rfl)
theorem dX6_guard_46 : decode cX6_guard 46 = .ok (.iload_n 3, 1) := dk_29 (dk_at dksX6_guard_2 0 rfl rfl)
theorem dX6_guard_47 : decode cX6_guard 47 = .ok (.ireturn, 1) := dk_172 (dk_at dksX6_guard_2 1 rfl rfl)

theorem okX6_guard : wOkV yX6_guard cX6_guard 4 (some .int) 2 := ⟨q2082, q2083, q145, q2084, by decide, by decide, by decide +kernel⟩
def fX6_guard (N : Nat)  (a1 : Int32) (a2 : Int32) (μ : wMem) : Option (Int32 × wMem) :=
  wLet (wSI μ 0 0 (0 : Int32)) fun μ1 => wBind (fX6_isPost N  a1 μ1) fun v4 μ3 => wLet (fun  (μ5 : wMem) => some ((-2), μ5)) fun Jguard25 => if v4 = 0 then Jguard25  μ3 else wBind (fX6_in N  (Int32.toInt64 a2) 0 100 μ3) fun v9 μ8 => if v9 = 0 then Jguard25  μ8 else wG (ok_in ((3 : Int32) * a1) 30) (wLet (μ8.1 10 (Int32.toNatClampNeg ((3 : Int32) * a1)) : Int32) fun x12 => wG (ok_in ((3 : Int32) * a1) 30) (wLet (wSI μ8 10 (Int32.toNatClampNeg ((3 : Int32) * a1)) a2) fun μ14 => some (x12, μ14)))
set_option maxHeartbeats 4000000 in
set_option maxRecDepth 100000 in
theorem tX6_guard (l : Launch) {D : va_G} {E : List wCell} {q : Nat → Nat} {ca : wCA} (N : Nat)   (a1 : Int32) (a2 : Int32) (μ : wMem) (r0 : (Int32 × wMem)) (hf : fX6_guard N  a1 a2 μ = some r0) : wMi l yX6_guard cX6_guard 4 (some .int) ({ frames := 2, cells := 0, slots := 0, locals := 46 } : Room) D vwCl (spM ++ E) q ca [.ref (q 0), .int a1, .int a2] μ r0 := by
  refine wMi_intro (by decide) (Nat.le_of_ble_eq_true rfl) ?_
  intro p e s m args below meth c A C
  unfold fX6_guard at hf
  refine wr_sub [(0, .ref (q 0)), (1, .int a1), (2, .int a2)] [0, 1, 2] rfl ?_
  refine wr_aload_n 0 C dX6_guard_0 0 rfl rfl ?_
  refine wr_iconst 1 C dX6_guard_1 (v := 0) rfl ?_
  obtain ⟨μ1, eμ1, hf⟩ := o_let hf
  refine puspM_0_0_X6 2 C dX6_guard_2 eμ1 ?_
  refine wr_aload_n 5 C dX6_guard_5 0 rfl rfl ?_
  refine wr_iload_n 6 C dX6_guard_6 1 rfl rfl ?_
  obtain ⟨v4, μ3, h2, hf⟩ := o_bind hf
  refine wr_Vi (kc1 := 0) (ks1 := 0) 7 [] C dX6_guard_7 (tX6_isPost l N   a1 μ1 (v4, μ3) h2) okX6_isPost q1730 (b := 0) spM_0 rfl ⟨rfl, rfl, Nat.le_of_ble_eq_true rfl, Nat.le_of_ble_eq_true rfl, Nat.zero_le _, Nat.zero_le _⟩ (Nat.le_of_ble_eq_true rfl) rfl ?_
  obtain ⟨Jguard25, eJguard25, hf⟩ := o_let hf
  have hJguard25 : ∀  (μ5 : wMem), Jguard25  μ5 = some r0 → wJ p l e ({ frames := 2, cells := 0, slots := 0, locals := 46 } : Room) s m args below meth c 4 D vwCl (spM ++ E) q ca A (wQi ({ frames := 2, cells := 0, slots := 0, locals := 46 } : Room) D vwCl (spM ++ E) q ca below args s A r0) 0 0 μ5 25 [] [] := by
    intro  μ5 hf
    rw [eJguard25] at hf
    refine wr_bipush 25 C dX6_guard_25 (v := (-2)) rfl ?_
    exact wr_iret 27 C dX6_guard_27 ⟨Nat.zero_le _, Nat.zero_le _⟩ (Option.some.inj hf)
  refine wr_if_eq 10 25 C dX6_guard_10 (by decide) (fun c6 => ?_) (fun c6 => ?_)
  · replace hf := o_pos c6 hf
    refine wr_sub [] [] rfl ?_
    exact hJguard25  μ3 hf
  · replace hf := o_neg c6 hf
    refine wr_iload_n 13 C dX6_guard_13 2 rfl rfl ?_
    refine wr_i2l 14 C dX6_guard_14 ?_
    refine wr_lconst 15 C dX6_guard_15 (v := 0) rfl ?_
    refine wr_ldc2 16 C dX6_guard_16 q1823 ?_
    obtain ⟨v9, μ8, h7, hf⟩ := o_bind hf
    refine wr_Si (kc1 := 0) (ks1 := 0) 19 [] C dX6_guard_19 (tX6_in l N   (Int32.toInt64 a2) 0 100 μ3 (v9, μ8) h7) okX6_in q1552 ⟨rfl, rfl, Nat.le_of_ble_eq_true rfl, Nat.le_of_ble_eq_true rfl, Nat.zero_le _, Nat.zero_le _⟩ (Nat.le_of_ble_eq_true rfl) rfl ?_
    refine wr_if_ne 22 28 C dX6_guard_22 (by decide) (fun c10 => ?_) (fun c10 => ?_)
    · replace hf := o_neg c10 hf
      refine wr_aload_n 28 C dX6_guard_28 0 rfl rfl ?_
      refine gespM_0_20_X6 29 C dX6_guard_29 ?_
      refine wr_iconst 32 C dX6_guard_32 (v := 3) rfl ?_
      refine wr_iload_n 33 C dX6_guard_33 1 rfl rfl ?_
      refine wr_imul 34 C dX6_guard_34 ?_
      obtain ⟨g11, hf⟩ := o_g hf
      refine wr_iald 35 C dX6_guard_35 spM_10 g11 ?_
      obtain ⟨x12, ex12, hf⟩ := o_let hf
      refine wr_istore_n 36 [(3, .int x12), (0, .ref (q 0)), (1, .int a1), (2, .int a2)] C dX6_guard_36 ex12 rfl (Nat.le_of_ble_eq_true rfl) rfl ?_
      refine wr_aload_n 37 C dX6_guard_37 1 rfl rfl ?_
      refine gespM_0_20_X6 38 C dX6_guard_38 ?_
      refine wr_iconst 41 C dX6_guard_41 (v := 3) rfl ?_
      refine wr_iload_n 42 C dX6_guard_42 2 rfl rfl ?_
      refine wr_imul 43 C dX6_guard_43 ?_
      refine wr_iload_n 44 C dX6_guard_44 3 rfl rfl ?_
      obtain ⟨g13, hf⟩ := o_g hf
      obtain ⟨μ14, eμ14, hf⟩ := o_let hf
      refine wr_iast 45 C dX6_guard_45 spM_10 g13 eμ14 ?_
      refine wr_iload_n 46 C dX6_guard_46 0 rfl rfl ?_
      exact wr_iret 47 C dX6_guard_47 ⟨Nat.zero_le _, Nat.zero_le _⟩ (Option.some.inj hf)
    · replace hf := o_pos c10 hf
      refine wr_sub [] [] rfl ?_
      exact hJguard25  μ8 hf
abbrev cX6_stay : ByteArray := prog_11_method_132_code
def yX6_stay : MethodName := ⟨RX6, "stay", "(II)I"⟩
def dkwX6_stay_2 : List UInt8 := [46, 4, 27, 120, 2, 130, 126, 28, 27, 120, 128, 79, 29, 172]
abbrev dktX6_stay_2 : List UInt8 := dkwX6_stay_2 ++ []
def dkwX6_stay_1 : List UInt8 := [16, 254, 172, 42, 180, 0, 34, 8, 46, 27, 122, 4, 126, 62, 42, 180, 0, 34, 8, 42, 180, 0, 34, 8]
abbrev dktX6_stay_1 : List UInt8 := dkwX6_stay_1 ++ dktX6_stay_2
def dkwX6_stay_0 : List UInt8 := [42, 3, 181, 0, 88, 42, 27, 182, 1, 56, 153, 0, 13, 28, 133, 9, 10, 184, 0, 93, 154, 0, 6]
abbrev dktX6_stay_0 : List UInt8 := dkwX6_stay_0 ++ dktX6_stay_1
theorem dksX6_stay_0 : cX6_stay.data.toList.drop 0 = dktX6_stay_0 := by decide +kernel
theorem dksX6_stay_1 : cX6_stay.data.toList.drop 23 = dktX6_stay_1 := dk_seg dksX6_stay_0 23 rfl rfl
theorem dksX6_stay_2 : cX6_stay.data.toList.drop 47 = dktX6_stay_2 := dk_seg dksX6_stay_1 24 rfl rfl
theorem dX6_stay_0 : decode cX6_stay 0 = .ok (.aload_n 0, 1) := dk_42 (dk_at dksX6_stay_0 0 rfl rfl)
theorem dX6_stay_1 : decode cX6_stay 1 = .ok (.iconst 0, 1) := dk_3 (dk_at dksX6_stay_0 1 rfl rfl)
theorem dX6_stay_2 : decode cX6_stay 2 = .ok (.putfield 88, 3) := dk_181 0 88 (dk_at dksX6_stay_0 2 rfl rfl)
theorem dX6_stay_5 : decode cX6_stay 5 = .ok (.aload_n 0, 1) := dk_42 (dk_at dksX6_stay_0 5 rfl rfl)
theorem dX6_stay_6 : decode cX6_stay 6 = .ok (.iload_n 1, 1) := dk_27 (dk_at dksX6_stay_0 6 rfl rfl)
theorem dX6_stay_7 : decode cX6_stay 7 = .ok (.invokevirtual 312, 3) := dk_182 1 56 (dk_at dksX6_stay_0 7 rfl rfl)
theorem dX6_stay_10 : decode cX6_stay 10 = .ok (.ifCond .eq 13, 3) := dk_153 0 13 (dk_at dksX6_stay_0 10 rfl rfl)
theorem dX6_stay_13 : decode cX6_stay 13 = .ok (.iload_n 2, 1) := dk_28 (dk_at dksX6_stay_0 13 rfl rfl)
theorem dX6_stay_14 : decode cX6_stay 14 = .ok (.i2l, 1) := dk_133 (dk_at dksX6_stay_0 14 rfl rfl)
theorem dX6_stay_15 : decode cX6_stay 15 = .ok (.lconst 0, 1) := dk_9 (dk_at dksX6_stay_0 15 rfl rfl)
theorem dX6_stay_16 : decode cX6_stay 16 = .ok (.lconst 1, 1) := dk_10 (dk_at dksX6_stay_0 16 rfl rfl)
theorem dX6_stay_17 : decode cX6_stay 17 = .ok (.invokestatic 93, 3) := dk_184 0 93 (dk_at dksX6_stay_0 17 rfl rfl)
theorem dX6_stay_20 : decode cX6_stay 20 = .ok (.ifCond .ne 6, 3) := dk_154 0 6 (dk_at dksX6_stay_0 20 rfl rfl)
theorem dX6_stay_23 : decode cX6_stay 23 = .ok (.bipush (-2), 2) := dk_16 254 (dk_at dksX6_stay_1 0 rfl rfl)
theorem dX6_stay_25 : decode cX6_stay 25 = .ok (.ireturn, 1) := dk_172 (dk_at dksX6_stay_1 2 rfl rfl)
theorem dX6_stay_26 : decode cX6_stay 26 = .ok (.aload_n 0, 1) := dk_42 (dk_at dksX6_stay_1 3 rfl rfl)
theorem dX6_stay_27 : decode cX6_stay 27 = .ok (.getfield 34, 3) := dk_180 0 34 (dk_at dksX6_stay_1 4 rfl rfl)
theorem dX6_stay_30 : decode cX6_stay 30 = .ok (.iconst 5, 1) := dk_8 (dk_at dksX6_stay_1 7 rfl rfl)
theorem dX6_stay_31 : decode cX6_stay 31 = .ok (.iaload, 1) := dk_46 (dk_at dksX6_stay_1 8 rfl rfl)
theorem dX6_stay_32 : decode cX6_stay 32 = .ok (.iload_n 1, 1) := dk_27 (dk_at dksX6_stay_1 9 rfl rfl)
theorem dX6_stay_33 : decode cX6_stay 33 = .ok (.ishr, 1) := dk_122 (dk_at dksX6_stay_1 10 rfl rfl)
theorem dX6_stay_34 : decode cX6_stay 34 = .ok (.iconst 1, 1) := dk_4 (dk_at dksX6_stay_1 11 rfl rfl)
theorem dX6_stay_35 : decode cX6_stay 35 = .ok (.iand, 1) := dk_126 (dk_at dksX6_stay_1 12 rfl rfl)
theorem dX6_stay_36 : decode cX6_stay 36 = .ok (.istore_n 3, 1) := dk_62 (dk_at dksX6_stay_1 13 rfl rfl)
theorem dX6_stay_37 : decode cX6_stay 37 = .ok (.aload_n 0, 1) := dk_42 (dk_at dksX6_stay_1 14 rfl rfl)
theorem dX6_stay_38 : decode cX6_stay 38 = .ok (.getfield 34, 3) := dk_180 0 34 (dk_at dksX6_stay_1 15 rfl rfl)
theorem dX6_stay_41 : decode cX6_stay 41 = .ok (.iconst 5, 1) := dk_8 (dk_at dksX6_stay_1 18 rfl rfl)
theorem dX6_stay_42 : decode cX6_stay 42 = .ok (.aload_n 0, 1) := dk_42 (dk_at dksX6_stay_1 19 rfl rfl)
theorem dX6_stay_43 : decode cX6_stay 43 = .ok (.getfield 34, 3) := dk_180 0 34 (dk_at dksX6_stay_1 20 rfl rfl)
theorem dX6_stay_46 : decode cX6_stay 46 = .ok (.iconst 5, 1) := dk_8 (dk_at dksX6_stay_1 23 rfl rfl)
theorem dX6_stay_47 : decode cX6_stay 47 = .ok (.iaload, 1) := dk_46 (dk_at dksX6_stay_2 0 rfl rfl)
theorem dX6_stay_48 : decode cX6_stay 48 = .ok (.iconst 1, 1) := dk_4 (dk_at dksX6_stay_2 1 rfl rfl)
theorem dX6_stay_49 : decode cX6_stay 49 = .ok (.iload_n 1, 1) := dk_27 (dk_at dksX6_stay_2 2 rfl rfl)
theorem dX6_stay_50 : decode cX6_stay 50 = .ok (.ishl, 1) := dk_120 (dk_at dksX6_stay_2 3 rfl rfl)
theorem dX6_stay_51 : decode cX6_stay 51 = .ok (.iconst (-1), 1) := dk_2 (dk_at dksX6_stay_2 4 rfl rfl)
theorem dX6_stay_52 : decode cX6_stay 52 = .ok (.ixor, 1) := dk_130 (dk_at dksX6_stay_2 5 rfl rfl)
theorem dX6_stay_53 : decode cX6_stay 53 = .ok (.iand, 1) := dk_126 (dk_at dksX6_stay_2 6 rfl rfl)
theorem dX6_stay_54 : decode cX6_stay 54 = .ok (.iload_n 2, 1) := dk_28 (dk_at dksX6_stay_2 7 rfl rfl)
theorem dX6_stay_55 : decode cX6_stay 55 = .ok (.iload_n 1, 1) := dk_27 (dk_at dksX6_stay_2 8 rfl rfl)
theorem dX6_stay_56 : decode cX6_stay 56 = .ok (.ishl, 1) := dk_120 (dk_at dksX6_stay_2 9 rfl rfl)
theorem dX6_stay_57 : decode cX6_stay 57 = .ok (.ior, 1) := dk_128 (dk_at dksX6_stay_2 10 rfl rfl)
theorem dX6_stay_58 : decode cX6_stay 58 = .ok (.iastore, 1) := dk_79 (dk_at dksX6_stay_2 11 rfl rfl)
theorem dX6_stay_59 : decode cX6_stay 59 = .ok (.iload_n 3, 1) := dk_29 (dk_at dksX6_stay_2 12 rfl rfl)
theorem dX6_stay_60 : decode cX6_stay 60 = .ok (.ireturn, 1) := dk_172 (dk_at dksX6_stay_2 13 rfl rfl)

theorem okX6_stay : wOkV yX6_stay cX6_stay 4 (some .int) 2 := ⟨q2086, q2087, q145, q2088, by decide, by decide, by decide +kernel⟩
def fX6_stay (N : Nat)  (a1 : Int32) (a2 : Int32) (μ : wMem) : Option (Int32 × wMem) :=
  wLet (wSI μ 0 0 (0 : Int32)) fun μ1 => wBind (fX6_isPerson N  a1 μ1) fun v4 μ3 => wLet (fun  (μ5 : wMem) => some ((-2), μ5)) fun Jstay23 => if v4 = 0 then Jstay23  μ3 else wBind (fX6_in N  (Int32.toInt64 a2) 0 1 μ3) fun v9 μ8 => if v9 = 0 then Jstay23  μ8 else wG (ok_in (5 : Int32) 35) (wLet (((μ8.1 7 (Int32.toNatClampNeg (5 : Int32))) >>> (a1 &&& 31)) &&& (1 : Int32) : Int32) fun x12 => wG (ok_in (5 : Int32) 35) (wG (ok_in (5 : Int32) 35) (wLet (wSI μ8 7 (Int32.toNatClampNeg (5 : Int32)) (((μ8.1 7 (Int32.toNatClampNeg (5 : Int32))) &&& (((1 : Int32) <<< (a1 &&& 31)) ^^^ (-1 : Int32))) ||| (a2 <<< (a1 &&& 31)))) fun μ15 => some (x12, μ15))))
set_option maxHeartbeats 4000000 in
set_option maxRecDepth 100000 in
theorem tX6_stay (l : Launch) {D : va_G} {E : List wCell} {q : Nat → Nat} {ca : wCA} (N : Nat)   (a1 : Int32) (a2 : Int32) (μ : wMem) (r0 : (Int32 × wMem)) (hf : fX6_stay N  a1 a2 μ = some r0) : wMi l yX6_stay cX6_stay 4 (some .int) ({ frames := 2, cells := 0, slots := 0, locals := 46 } : Room) D vwCl (spM ++ E) q ca [.ref (q 0), .int a1, .int a2] μ r0 := by
  refine wMi_intro (by decide) (Nat.le_of_ble_eq_true rfl) ?_
  intro p e s m args below meth c A C
  unfold fX6_stay at hf
  refine wr_sub [(0, .ref (q 0)), (1, .int a1), (2, .int a2)] [0, 1, 2] rfl ?_
  refine wr_aload_n 0 C dX6_stay_0 0 rfl rfl ?_
  refine wr_iconst 1 C dX6_stay_1 (v := 0) rfl ?_
  obtain ⟨μ1, eμ1, hf⟩ := o_let hf
  refine puspM_0_0_X6 2 C dX6_stay_2 eμ1 ?_
  refine wr_aload_n 5 C dX6_stay_5 0 rfl rfl ?_
  refine wr_iload_n 6 C dX6_stay_6 1 rfl rfl ?_
  obtain ⟨v4, μ3, h2, hf⟩ := o_bind hf
  refine wr_Vi (kc1 := 0) (ks1 := 0) 7 [] C dX6_stay_7 (tX6_isPerson l N   a1 μ1 (v4, μ3) h2) okX6_isPerson q1685 (b := 0) spM_0 rfl ⟨rfl, rfl, Nat.le_of_ble_eq_true rfl, Nat.le_of_ble_eq_true rfl, Nat.zero_le _, Nat.zero_le _⟩ (Nat.le_of_ble_eq_true rfl) rfl ?_
  obtain ⟨Jstay23, eJstay23, hf⟩ := o_let hf
  have hJstay23 : ∀  (μ5 : wMem), Jstay23  μ5 = some r0 → wJ p l e ({ frames := 2, cells := 0, slots := 0, locals := 46 } : Room) s m args below meth c 4 D vwCl (spM ++ E) q ca A (wQi ({ frames := 2, cells := 0, slots := 0, locals := 46 } : Room) D vwCl (spM ++ E) q ca below args s A r0) 0 0 μ5 23 [] [] := by
    intro  μ5 hf
    rw [eJstay23] at hf
    refine wr_bipush 23 C dX6_stay_23 (v := (-2)) rfl ?_
    exact wr_iret 25 C dX6_stay_25 ⟨Nat.zero_le _, Nat.zero_le _⟩ (Option.some.inj hf)
  refine wr_if_eq 10 23 C dX6_stay_10 (by decide) (fun c6 => ?_) (fun c6 => ?_)
  · replace hf := o_pos c6 hf
    refine wr_sub [] [] rfl ?_
    exact hJstay23  μ3 hf
  · replace hf := o_neg c6 hf
    refine wr_iload_n 13 C dX6_stay_13 2 rfl rfl ?_
    refine wr_i2l 14 C dX6_stay_14 ?_
    refine wr_lconst 15 C dX6_stay_15 (v := 0) rfl ?_
    refine wr_lconst 16 C dX6_stay_16 (v := 1) rfl ?_
    obtain ⟨v9, μ8, h7, hf⟩ := o_bind hf
    refine wr_Si (kc1 := 0) (ks1 := 0) 17 [] C dX6_stay_17 (tX6_in l N   (Int32.toInt64 a2) 0 1 μ3 (v9, μ8) h7) okX6_in q1552 ⟨rfl, rfl, Nat.le_of_ble_eq_true rfl, Nat.le_of_ble_eq_true rfl, Nat.zero_le _, Nat.zero_le _⟩ (Nat.le_of_ble_eq_true rfl) rfl ?_
    refine wr_if_ne 20 26 C dX6_stay_20 (by decide) (fun c10 => ?_) (fun c10 => ?_)
    · replace hf := o_neg c10 hf
      refine wr_aload_n 26 C dX6_stay_26 0 rfl rfl ?_
      refine gespM_0_17_X6 27 C dX6_stay_27 ?_
      refine wr_iconst 30 C dX6_stay_30 (v := 5) rfl ?_
      obtain ⟨g11, hf⟩ := o_g hf
      refine wr_iald 31 C dX6_stay_31 spM_7 g11 ?_
      refine wr_iload_n 32 C dX6_stay_32 1 rfl rfl ?_
      refine wr_ishr 33 C dX6_stay_33 ?_
      refine wr_iconst 34 C dX6_stay_34 (v := 1) rfl ?_
      refine wr_iand 35 C dX6_stay_35 ?_
      obtain ⟨x12, ex12, hf⟩ := o_let hf
      refine wr_istore_n 36 [(3, .int x12), (0, .ref (q 0)), (1, .int a1), (2, .int a2)] C dX6_stay_36 ex12 rfl (Nat.le_of_ble_eq_true rfl) rfl ?_
      refine wr_aload_n 37 C dX6_stay_37 1 rfl rfl ?_
      refine gespM_0_17_X6 38 C dX6_stay_38 ?_
      refine wr_iconst 41 C dX6_stay_41 (v := 5) rfl ?_
      refine wr_aload_n 42 C dX6_stay_42 1 rfl rfl ?_
      refine gespM_0_17_X6 43 C dX6_stay_43 ?_
      refine wr_iconst 46 C dX6_stay_46 (v := 5) rfl ?_
      obtain ⟨g13, hf⟩ := o_g hf
      refine wr_iald 47 C dX6_stay_47 spM_7 g13 ?_
      refine wr_iconst 48 C dX6_stay_48 (v := 1) rfl ?_
      refine wr_iload_n 49 C dX6_stay_49 2 rfl rfl ?_
      refine wr_ishl 50 C dX6_stay_50 ?_
      refine wr_iconst 51 C dX6_stay_51 (v := (-1)) rfl ?_
      refine wr_ixor 52 C dX6_stay_52 ?_
      refine wr_iand 53 C dX6_stay_53 ?_
      refine wr_iload_n 54 C dX6_stay_54 3 rfl rfl ?_
      refine wr_iload_n 55 C dX6_stay_55 2 rfl rfl ?_
      refine wr_ishl 56 C dX6_stay_56 ?_
      refine wr_ior 57 C dX6_stay_57 ?_
      obtain ⟨g14, hf⟩ := o_g hf
      obtain ⟨μ15, eμ15, hf⟩ := o_let hf
      refine wr_iast 58 C dX6_stay_58 spM_7 g14 eμ15 ?_
      refine wr_iload_n 59 C dX6_stay_59 0 rfl rfl ?_
      exact wr_iret 60 C dX6_stay_60 ⟨Nat.zero_le _, Nat.zero_le _⟩ (Option.some.inj hf)
    · replace hf := o_pos c10 hf
      refine wr_sub [] [] rfl ?_
      exact hJstay23  μ8 hf
abbrev cX6_count : ByteArray := prog_11_method_133_code
def yX6_count : MethodName := ⟨RX6, "count", "(I)I"⟩
def dkwX6_count_6 : List UInt8 := [132, 3, 1, 167, 255, 230, 28, 172, 2, 172]
abbrev dktX6_count_6 : List UInt8 := dkwX6_count_6 ++ []
def dkwX6_count_5 : List UInt8 := [29, 7, 162, 0, 27, 28, 42, 180, 0, 7, 29, 46, 2, 160, 0, 7, 3, 167, 0, 4, 4, 96, 61]
abbrev dktX6_count_5 : List UInt8 := dkwX6_count_5 ++ dktX6_count_6
def dkwX6_count_4 : List UInt8 := [46, 172, 42, 180, 0, 34, 16, 6, 46, 172, 42, 180, 0, 31, 3, 46, 172, 42, 180, 0, 105, 172, 3, 62]
abbrev dktX6_count_4 : List UInt8 := dkwX6_count_4 ++ dktX6_count_5
def dkwX6_count_3 : List UInt8 := [180, 0, 34, 7, 46, 184, 1, 141, 172, 42, 180, 0, 34, 8, 46, 184, 1, 141, 172, 42, 180, 0, 34, 4]
abbrev dktX6_count_3 : List UInt8 := dkwX6_count_3 ++ dktX6_count_4
def dkwX6_count_2 : List UInt8 := [42, 180, 0, 34, 5, 46, 172, 42, 180, 0, 34, 6, 46, 172, 42, 180, 0, 34, 3, 46, 172, 42]
abbrev dktX6_count_2 : List UInt8 := dkwX6_count_2 ++ dktX6_count_3
def dkwX6_count_1 : List UInt8 := [170, 0, 0, 0, 0, 0, 0, 157, 0, 0, 0, 0, 0, 0, 0, 9, 0, 0, 0, 56, 0, 0, 0, 63, 0, 0, 0, 70, 0, 0, 0, 77, 0, 0, 0, 87, 0, 0, 0, 97, 0, 0, 0, 104, 0, 0, 0, 112, 0, 0, 0, 119, 0, 0, 0, 124]
abbrev dktX6_count_1 : List UInt8 := dkwX6_count_1 ++ dktX6_count_2
def dkwX6_count_0 : List UInt8 := [42, 3, 181, 0, 88, 3, 61, 27]
abbrev dktX6_count_0 : List UInt8 := dkwX6_count_0 ++ dktX6_count_1
theorem dksX6_count_0 : cX6_count.data.toList.drop 0 = dktX6_count_0 := by decide +kernel
theorem dksX6_count_1 : cX6_count.data.toList.drop 8 = dktX6_count_1 := dk_seg dksX6_count_0 8 rfl rfl
theorem dksX6_count_2 : cX6_count.data.toList.drop 64 = dktX6_count_2 := dk_seg dksX6_count_1 56 rfl rfl
theorem dksX6_count_3 : cX6_count.data.toList.drop 86 = dktX6_count_3 := dk_seg dksX6_count_2 22 rfl rfl
theorem dksX6_count_4 : cX6_count.data.toList.drop 110 = dktX6_count_4 := dk_seg dksX6_count_3 24 rfl rfl
theorem dksX6_count_5 : cX6_count.data.toList.drop 134 = dktX6_count_5 := dk_seg dksX6_count_4 24 rfl rfl
theorem dksX6_count_6 : cX6_count.data.toList.drop 157 = dktX6_count_6 := dk_seg dksX6_count_5 23 rfl rfl
theorem dX6_count_0 : decode cX6_count 0 = .ok (.aload_n 0, 1) := dk_42 (dk_at dksX6_count_0 0 rfl rfl)
theorem dX6_count_1 : decode cX6_count 1 = .ok (.iconst 0, 1) := dk_3 (dk_at dksX6_count_0 1 rfl rfl)
theorem dX6_count_2 : decode cX6_count 2 = .ok (.putfield 88, 3) := dk_181 0 88 (dk_at dksX6_count_0 2 rfl rfl)
theorem dX6_count_5 : decode cX6_count 5 = .ok (.iconst 0, 1) := dk_3 (dk_at dksX6_count_0 5 rfl rfl)
theorem dX6_count_6 : decode cX6_count 6 = .ok (.istore_n 2, 1) := dk_61 (dk_at dksX6_count_0 6 rfl rfl)
theorem dX6_count_7 : decode cX6_count 7 = .ok (.iload_n 1, 1) := dk_27 (dk_at dksX6_count_0 7 rfl rfl)
theorem dX6_count_8 : decode cX6_count 8 = .ok (.tableswitch 157 0 9 #[56, 63, 70, 77, 87, 97, 104, 112, 119, 124], 56) := by decide +kernel
theorem dX6_count_64 : decode cX6_count 64 = .ok (.aload_n 0, 1) := dk_42 (dk_at dksX6_count_2 0 rfl rfl)
theorem dX6_count_65 : decode cX6_count 65 = .ok (.getfield 34, 3) := dk_180 0 34 (dk_at dksX6_count_2 1 rfl rfl)
theorem dX6_count_68 : decode cX6_count 68 = .ok (.iconst 2, 1) := dk_5 (dk_at dksX6_count_2 4 rfl rfl)
theorem dX6_count_69 : decode cX6_count 69 = .ok (.iaload, 1) := dk_46 (dk_at dksX6_count_2 5 rfl rfl)
theorem dX6_count_70 : decode cX6_count 70 = .ok (.ireturn, 1) := dk_172 (dk_at dksX6_count_2 6 rfl rfl)
theorem dX6_count_71 : decode cX6_count 71 = .ok (.aload_n 0, 1) := dk_42 (dk_at dksX6_count_2 7 rfl rfl)
theorem dX6_count_72 : decode cX6_count 72 = .ok (.getfield 34, 3) := dk_180 0 34 (dk_at dksX6_count_2 8 rfl rfl)
theorem dX6_count_75 : decode cX6_count 75 = .ok (.iconst 3, 1) := dk_6 (dk_at dksX6_count_2 11 rfl rfl)
theorem dX6_count_76 : decode cX6_count 76 = .ok (.iaload, 1) := dk_46 (dk_at dksX6_count_2 12 rfl rfl)
theorem dX6_count_77 : decode cX6_count 77 = .ok (.ireturn, 1) := dk_172 (dk_at dksX6_count_2 13 rfl rfl)
theorem dX6_count_78 : decode cX6_count 78 = .ok (.aload_n 0, 1) := dk_42 (dk_at dksX6_count_2 14 rfl rfl)
theorem dX6_count_79 : decode cX6_count 79 = .ok (.getfield 34, 3) := dk_180 0 34 (dk_at dksX6_count_2 15 rfl rfl)
theorem dX6_count_82 : decode cX6_count 82 = .ok (.iconst 0, 1) := dk_3 (dk_at dksX6_count_2 18 rfl rfl)
theorem dX6_count_83 : decode cX6_count 83 = .ok (.iaload, 1) := dk_46 (dk_at dksX6_count_2 19 rfl rfl)
theorem dX6_count_84 : decode cX6_count 84 = .ok (.ireturn, 1) := dk_172 (dk_at dksX6_count_2 20 rfl rfl)
theorem dX6_count_85 : decode cX6_count 85 = .ok (.aload_n 0, 1) := dk_42 (dk_at dksX6_count_2 21 rfl rfl)
theorem dX6_count_86 : decode cX6_count 86 = .ok (.getfield 34, 3) := dk_180 0 34 (dk_at dksX6_count_3 0 rfl rfl)
theorem dX6_count_89 : decode cX6_count 89 = .ok (.iconst 4, 1) := dk_7 (dk_at dksX6_count_3 3 rfl rfl)
theorem dX6_count_90 : decode cX6_count 90 = .ok (.iaload, 1) := dk_46 (dk_at dksX6_count_3 4 rfl rfl)
theorem dX6_count_91 : decode cX6_count 91 = .ok (.invokestatic 397, 3) := dk_184 1 141 (dk_at dksX6_count_3 5 rfl rfl)
theorem dX6_count_94 : decode cX6_count 94 = .ok (.ireturn, 1) := dk_172 (dk_at dksX6_count_3 8 rfl rfl)
theorem dX6_count_95 : decode cX6_count 95 = .ok (.aload_n 0, 1) := dk_42 (dk_at dksX6_count_3 9 rfl rfl)
theorem dX6_count_96 : decode cX6_count 96 = .ok (.getfield 34, 3) := dk_180 0 34 (dk_at dksX6_count_3 10 rfl rfl)
theorem dX6_count_99 : decode cX6_count 99 = .ok (.iconst 5, 1) := dk_8 (dk_at dksX6_count_3 13 rfl rfl)
theorem dX6_count_100 : decode cX6_count 100 = .ok (.iaload, 1) := dk_46 (dk_at dksX6_count_3 14 rfl rfl)
theorem dX6_count_101 : decode cX6_count 101 = .ok (.invokestatic 397, 3) := dk_184 1 141 (dk_at dksX6_count_3 15 rfl rfl)
theorem dX6_count_104 : decode cX6_count 104 = .ok (.ireturn, 1) := dk_172 (dk_at dksX6_count_3 18 rfl rfl)
theorem dX6_count_105 : decode cX6_count 105 = .ok (.aload_n 0, 1) := dk_42 (dk_at dksX6_count_3 19 rfl rfl)
theorem dX6_count_106 : decode cX6_count 106 = .ok (.getfield 34, 3) := dk_180 0 34 (dk_at dksX6_count_3 20 rfl rfl)
theorem dX6_count_109 : decode cX6_count 109 = .ok (.iconst 1, 1) := dk_4 (dk_at dksX6_count_3 23 rfl rfl)
theorem dX6_count_110 : decode cX6_count 110 = .ok (.iaload, 1) := dk_46 (dk_at dksX6_count_4 0 rfl rfl)
theorem dX6_count_111 : decode cX6_count 111 = .ok (.ireturn, 1) := dk_172 (dk_at dksX6_count_4 1 rfl rfl)
theorem dX6_count_112 : decode cX6_count 112 = .ok (.aload_n 0, 1) := dk_42 (dk_at dksX6_count_4 2 rfl rfl)
theorem dX6_count_113 : decode cX6_count 113 = .ok (.getfield 34, 3) := dk_180 0 34 (dk_at dksX6_count_4 3 rfl rfl)
theorem dX6_count_116 : decode cX6_count 116 = .ok (.bipush 6, 2) := dk_16 6 (dk_at dksX6_count_4 6 rfl rfl)
theorem dX6_count_118 : decode cX6_count 118 = .ok (.iaload, 1) := dk_46 (dk_at dksX6_count_4 8 rfl rfl)
theorem dX6_count_119 : decode cX6_count 119 = .ok (.ireturn, 1) := dk_172 (dk_at dksX6_count_4 9 rfl rfl)
theorem dX6_count_120 : decode cX6_count 120 = .ok (.aload_n 0, 1) := dk_42 (dk_at dksX6_count_4 10 rfl rfl)
theorem dX6_count_121 : decode cX6_count 121 = .ok (.getfield 31, 3) := dk_180 0 31 (dk_at dksX6_count_4 11 rfl rfl)
theorem dX6_count_124 : decode cX6_count 124 = .ok (.iconst 0, 1) := dk_3 (dk_at dksX6_count_4 14 rfl rfl)
theorem dX6_count_125 : decode cX6_count 125 = .ok (.iaload, 1) := dk_46 (dk_at dksX6_count_4 15 rfl rfl)
theorem dX6_count_126 : decode cX6_count 126 = .ok (.ireturn, 1) := dk_172 (dk_at dksX6_count_4 16 rfl rfl)
theorem dX6_count_127 : decode cX6_count 127 = .ok (.aload_n 0, 1) := dk_42 (dk_at dksX6_count_4 17 rfl rfl)
theorem dX6_count_128 : decode cX6_count 128 = .ok (.getfield 105, 3) := dk_180 0 105 (dk_at dksX6_count_4 18 rfl rfl)
theorem dX6_count_131 : decode cX6_count 131 = .ok (.ireturn, 1) := dk_172 (dk_at dksX6_count_4 21 rfl rfl)
theorem dX6_count_132 : decode cX6_count 132 = .ok (.iconst 0, 1) := dk_3 (dk_at dksX6_count_4 22 rfl rfl)
theorem dX6_count_133 : decode cX6_count 133 = .ok (.istore_n 3, 1) := dk_62 (dk_at dksX6_count_4 23 rfl rfl)
theorem dX6_count_134 : decode cX6_count 134 = .ok (.iload_n 3, 1) := dk_29 (dk_at dksX6_count_5 0 rfl rfl)
theorem dX6_count_135 : decode cX6_count 135 = .ok (.iconst 4, 1) := dk_7 (dk_at dksX6_count_5 1 rfl rfl)
theorem dX6_count_136 : decode cX6_count 136 = .ok (.if_icmp .ge 27, 3) := dk_162 0 27 (dk_at dksX6_count_5 2 rfl rfl)
theorem dX6_count_139 : decode cX6_count 139 = .ok (.iload_n 2, 1) := dk_28 (dk_at dksX6_count_5 5 rfl rfl)
theorem dX6_count_140 : decode cX6_count 140 = .ok (.aload_n 0, 1) := dk_42 (dk_at dksX6_count_5 6 rfl rfl)
theorem dX6_count_141 : decode cX6_count 141 = .ok (.getfield 7, 3) := dk_180 0 7 (dk_at dksX6_count_5 7 rfl rfl)
theorem dX6_count_144 : decode cX6_count 144 = .ok (.iload_n 3, 1) := dk_29 (dk_at dksX6_count_5 10 rfl rfl)
theorem dX6_count_145 : decode cX6_count 145 = .ok (.iaload, 1) := dk_46 (dk_at dksX6_count_5 11 rfl rfl)
theorem dX6_count_146 : decode cX6_count 146 = .ok (.iconst (-1), 1) := dk_2 (dk_at dksX6_count_5 12 rfl rfl)
theorem dX6_count_147 : decode cX6_count 147 = .ok (.if_icmp .ne 7, 3) := dk_160 0 7 (dk_at dksX6_count_5 13 rfl rfl)
theorem dX6_count_150 : decode cX6_count 150 = .ok (.iconst 0, 1) := dk_3 (dk_at dksX6_count_5 16 rfl rfl)
theorem dX6_count_151 : decode cX6_count 151 = .ok (.goto 4, 3) := dk_167 0 4 (dk_at dksX6_count_5 17 rfl rfl)
theorem dX6_count_154 : decode cX6_count 154 = .ok (.iconst 1, 1) := dk_4 (dk_at dksX6_count_5 20 rfl rfl)
theorem dX6_count_155 : decode cX6_count 155 = .ok (.iadd, 1) := dk_96 (dk_at dksX6_count_5 21 rfl rfl)
theorem dX6_count_156 : decode cX6_count 156 = .ok (.istore_n 2, 1) := dk_61 (dk_at dksX6_count_5 22 rfl rfl)
theorem dX6_count_157 : decode cX6_count 157 = .ok (.iinc 3 1, 3) := dk_132 3 1 (dk_at dksX6_count_6 0 rfl rfl)
theorem dX6_count_160 : decode cX6_count 160 = .ok (.goto (-26), 3) := dk_167 255 230 (dk_at dksX6_count_6 3 rfl rfl)
theorem dX6_count_163 : decode cX6_count 163 = .ok (.iload_n 2, 1) := dk_28 (dk_at dksX6_count_6 6 rfl rfl)
theorem dX6_count_164 : decode cX6_count 164 = .ok (.ireturn, 1) := dk_172 (dk_at dksX6_count_6 7 rfl rfl)
theorem dX6_count_165 : decode cX6_count 165 = .ok (.iconst (-1), 1) := dk_2 (dk_at dksX6_count_6 8 rfl rfl)
theorem dX6_count_166 : decode cX6_count 166 = .ok (.ireturn, 1) := dk_172 (dk_at dksX6_count_6 9 rfl rfl)

theorem okX6_count : wOkV yX6_count cX6_count 4 (some .int) 1 := ⟨q2090, q2091, q145, q2092, by decide, by decide, by decide +kernel⟩
def gbX6_count_134 (N : Nat)   (K : (Int32 → wMem → Option (Int32 × wMem))) (rec : (Int32 → Int32 → wMem → Option (Int32 × wMem))) (x2_ : Int32) (x3_ : Int32) (μ : wMem) : Option (Int32 × wMem) :=
  if (4 : Int32) ≤ x3_ then K x2_ μ else wG (ok_in x3_ 4) (wLet (fun (v29 : Int32) (v30 : Int32) (μ28 : wMem) => wLet (v30 + v29 : Int32) fun x31 => wLet (x3_ + 1 : Int32) fun x32 => rec x31 x32 μ28) fun Jcount155 => if (μ.1 1 (Int32.toNatClampNeg x3_)) = (-1 : Int32) then Jcount155 0 x2_ μ else Jcount155 1 x2_ μ)
def gX6_count_134 (N : Nat)   (K : (Int32 → wMem → Option (Int32 × wMem))) : Nat → (Int32 → Int32 → wMem → Option (Int32 × wMem))
  | 0 => fun _ _ _ => none
  | k + 1 => gbX6_count_134 N   K (gX6_count_134 N   K k)
set_option maxHeartbeats 4000000 in
set_option maxRecDepth 100000 in
theorem tX6_count_134 {p : Program} {l : Launch} {e : Env} {s : State} {m : MethodId} {args : Array Value} {below : List Frame} {meth : Method} {c : Code} {D : va_G} {E : List wCell} {q : Nat → Nat} {ca : wCA} {A : Nat → Prop} (C : wC p ({ frames := 1, cells := 0, slots := 0, locals := 22 } : Room) s m args meth c cX6_count yX6_count.cls 4 (some .int) D vwCl (spM ++ E) q ca A) (N : Nat)    (K : (Int32 → wMem → Option (Int32 × wMem))) (r0 : (Int32 × wMem)) (hK : ∀ (y2_ : Int32) (μ : wMem), K y2_ μ = some r0 → wJ p l e ({ frames := 1, cells := 0, slots := 0, locals := 22 } : Room) s m args below meth c 4 D vwCl (spM ++ E) q ca A (wQi ({ frames := 1, cells := 0, slots := 0, locals := 22 } : Room) D vwCl (spM ++ E) q ca below args s A r0) 0 0 μ 163 [(2, .int y2_)] []) : ∀ (k : Nat) (x2_ : Int32) (x3_ : Int32) (μ : wMem), gX6_count_134 N   K k x2_ x3_ μ = some r0 → wJ p l e ({ frames := 1, cells := 0, slots := 0, locals := 22 } : Room) s m args below meth c 4 D vwCl (spM ++ E) q ca A (wQi ({ frames := 1, cells := 0, slots := 0, locals := 22 } : Room) D vwCl (spM ++ E) q ca below args s A r0) 0 0 μ 134 [(0, .ref (q 0)), (2, .int x2_), (3, .int x3_)] [] := by
  intro k
  induction k with
  | zero =>
    intro x2_ x3_ μ hf
    cases hf
  | succ k ih =>
    intro x2_ x3_ μ hf
    replace hf : gbX6_count_134 N   K (gX6_count_134 N   K k) x2_ x3_ μ = some r0 := hf
    unfold gbX6_count_134 at hf
    refine wr_iload_n 134 C dX6_count_134 2 rfl rfl ?_
    refine wr_iconst 135 C dX6_count_135 (v := 4) rfl ?_
    refine wr_icmp_ge 136 163 C dX6_count_136 (by decide) (fun c26 => ?_) (fun c26 => ?_)
    · replace hf := o_pos c26 hf
      refine wr_sub [(2, .int x2_)] [1] rfl ?_
      exact hK x2_ μ hf
    · replace hf := o_neg c26 hf
      refine wr_iload_n 139 C dX6_count_139 1 rfl rfl ?_
      refine wr_aload_n 140 C dX6_count_140 0 rfl rfl ?_
      refine gespM_0_1_X6 141 C dX6_count_141 ?_
      refine wr_iload_n 144 C dX6_count_144 2 rfl rfl ?_
      obtain ⟨g27, hf⟩ := o_g hf
      refine wr_iald 145 C dX6_count_145 spM_1 g27 ?_
      refine wr_iconst 146 C dX6_count_146 (v := (-1)) rfl ?_
      obtain ⟨Jcount155, eJcount155, hf⟩ := o_let hf
      have hJcount155 : ∀ (v29 : Int32) (v30 : Int32) (μ28 : wMem), Jcount155 v29 v30 μ28 = some r0 → wJ p l e ({ frames := 1, cells := 0, slots := 0, locals := 22 } : Room) s m args below meth c 4 D vwCl (spM ++ E) q ca A (wQi ({ frames := 1, cells := 0, slots := 0, locals := 22 } : Room) D vwCl (spM ++ E) q ca below args s A r0) 0 0 μ28 155 [(0, .ref (q 0)), (3, .int x3_)] [.int v29, .int v30] := by
        intro v29 v30 μ28 hf
        rw [eJcount155] at hf
        refine wr_iadd 155 C dX6_count_155 ?_
        obtain ⟨x31, ex31, hf⟩ := o_let hf
        refine wr_istore_n 156 [(2, .int x31), (0, .ref (q 0)), (3, .int x3_)] C dX6_count_156 ex31 rfl (Nat.le_of_ble_eq_true rfl) rfl ?_
        obtain ⟨x32, ex32, hf⟩ := o_let hf
        refine wr_iinc 157 [(3, .int x32), (2, .int x31), (0, .ref (q 0))] C dX6_count_157 2 rfl (ex32.trans rfl) (Nat.le_of_ble_eq_true rfl) rfl ?_
        refine wr_goto 160 C dX6_count_160 (tgt := 134) (by decide) ?_
        refine wr_sub [(0, .ref (q 0)), (2, .int x31), (3, .int x32)] [2, 1, 0] rfl ?_
        exact ih x31 x32 μ28 hf
      refine wr_icmp_ne 147 154 C dX6_count_147 (by decide) (fun c33 => ?_) (fun c33 => ?_)
      · replace hf := o_neg c33 hf
        refine wr_iconst 154 C dX6_count_154 (v := 1) rfl ?_
        refine wr_sub [(0, .ref (q 0)), (3, .int x3_)] [0, 2] rfl ?_
        exact hJcount155 1 x2_ μ hf
      · replace hf := o_pos c33 hf
        refine wr_iconst 150 C dX6_count_150 (v := 0) rfl ?_
        refine wr_goto 151 C dX6_count_151 (tgt := 155) (by decide) ?_
        refine wr_sub [(0, .ref (q 0)), (3, .int x3_)] [0, 2] rfl ?_
        exact hJcount155 0 x2_ μ hf
def fX6_count (N : Nat)  (a1 : Int32) (μ : wMem) : Option (Int32 × wMem) :=
  wLet (wSI μ 0 0 (0 : Int32)) fun μ1 => if a1 = 0 then wG (ok_in (2 : Int32) 35) (some (μ1.1 7 (Int32.toNatClampNeg (2 : Int32)), μ1)) else if a1 = 1 then wG (ok_in (3 : Int32) 35) (some (μ1.1 7 (Int32.toNatClampNeg (3 : Int32)), μ1)) else if a1 = 2 then wG (ok_in (0 : Int32) 35) (some (μ1.1 7 (Int32.toNatClampNeg (0 : Int32)), μ1)) else if a1 = 3 then wG (ok_in (4 : Int32) 35) (wBind (fX6_sizeOf N  (μ1.1 7 (Int32.toNatClampNeg (4 : Int32))) μ1) fun v12 μ11 => some (v12, μ11)) else if a1 = 4 then wG (ok_in (5 : Int32) 35) (wBind (fX6_sizeOf N  (μ1.1 7 (Int32.toNatClampNeg (5 : Int32))) μ1) fun v17 μ16 => some (v17, μ16)) else if a1 = 5 then wG (ok_in (1 : Int32) 35) (some (μ1.1 7 (Int32.toNatClampNeg (1 : Int32)), μ1)) else if a1 = 6 then wG (ok_in (6 : Int32) 35) (some (μ1.1 7 (Int32.toNatClampNeg (6 : Int32)), μ1)) else if a1 = 7 then wG (ok_in (0 : Int32) 5) (some (μ1.1 6 (Int32.toNatClampNeg (0 : Int32)), μ1)) else if a1 = 8 then some (μ1.1 0 6, μ1) else if a1 = 9 then gX6_count_134 N   (fun (x35 : Int32) (μ34 : wMem) => some (x35, μ34)) N 0 0 μ1 else some ((-1), μ1)
set_option maxHeartbeats 4000000 in
set_option maxRecDepth 100000 in
theorem tX6_count (l : Launch) {D : va_G} {E : List wCell} {q : Nat → Nat} {ca : wCA} (N : Nat)   (a1 : Int32) (μ : wMem) (r0 : (Int32 × wMem)) (hf : fX6_count N  a1 μ = some r0) : wMi l yX6_count cX6_count 4 (some .int) ({ frames := 1, cells := 0, slots := 0, locals := 22 } : Room) D vwCl (spM ++ E) q ca [.ref (q 0), .int a1] μ r0 := by
  refine wMi_intro (by decide) (Nat.le_of_ble_eq_true rfl) ?_
  intro p e s m args below meth c A C
  unfold fX6_count at hf
  refine wr_sub [(0, .ref (q 0)), (1, .int a1)] [0, 1] rfl ?_
  refine wr_aload_n 0 C dX6_count_0 0 rfl rfl ?_
  refine wr_iconst 1 C dX6_count_1 (v := 0) rfl ?_
  obtain ⟨μ1, eμ1, hf⟩ := o_let hf
  refine puspM_0_0_X6 2 C dX6_count_2 eμ1 ?_
  refine wr_iconst 5 C dX6_count_5 (v := 0) rfl ?_
  refine wr_istore_n 6 [(2, .int 0), (0, .ref (q 0)), (1, .int a1)] C dX6_count_6 rfl rfl (Nat.le_of_ble_eq_true rfl) rfl ?_
  refine wr_iload_n 7 C dX6_count_7 2 rfl rfl ?_
  by_cases c2 : a1 = 0
  · replace hf := o_pos c2 hf
    refine wr_tableIn 8 C dX6_count_8 (off := 56) (tgt := 64) (by rw [c2]; decide) (by rw [c2]; decide) (by rw [c2]; rfl) (by decide) ?_
    refine wr_aload_n 64 C dX6_count_64 1 rfl rfl ?_
    refine gespM_0_17_X6 65 C dX6_count_65 ?_
    refine wr_iconst 68 C dX6_count_68 (v := 2) rfl ?_
    obtain ⟨g3, hf⟩ := o_g hf
    refine wr_iald 69 C dX6_count_69 spM_7 g3 ?_
    exact wr_iret 70 C dX6_count_70 ⟨Nat.zero_le _, Nat.zero_le _⟩ (Option.some.inj hf)
  replace hf := o_neg c2 hf
  by_cases c4 : a1 = 1
  · replace hf := o_pos c4 hf
    refine wr_tableIn 8 C dX6_count_8 (off := 63) (tgt := 71) (by rw [c4]; decide) (by rw [c4]; decide) (by rw [c4]; rfl) (by decide) ?_
    refine wr_aload_n 71 C dX6_count_71 1 rfl rfl ?_
    refine gespM_0_17_X6 72 C dX6_count_72 ?_
    refine wr_iconst 75 C dX6_count_75 (v := 3) rfl ?_
    obtain ⟨g5, hf⟩ := o_g hf
    refine wr_iald 76 C dX6_count_76 spM_7 g5 ?_
    exact wr_iret 77 C dX6_count_77 ⟨Nat.zero_le _, Nat.zero_le _⟩ (Option.some.inj hf)
  replace hf := o_neg c4 hf
  by_cases c6 : a1 = 2
  · replace hf := o_pos c6 hf
    refine wr_tableIn 8 C dX6_count_8 (off := 70) (tgt := 78) (by rw [c6]; decide) (by rw [c6]; decide) (by rw [c6]; rfl) (by decide) ?_
    refine wr_aload_n 78 C dX6_count_78 1 rfl rfl ?_
    refine gespM_0_17_X6 79 C dX6_count_79 ?_
    refine wr_iconst 82 C dX6_count_82 (v := 0) rfl ?_
    obtain ⟨g7, hf⟩ := o_g hf
    refine wr_iald 83 C dX6_count_83 spM_7 g7 ?_
    exact wr_iret 84 C dX6_count_84 ⟨Nat.zero_le _, Nat.zero_le _⟩ (Option.some.inj hf)
  replace hf := o_neg c6 hf
  by_cases c8 : a1 = 3
  · replace hf := o_pos c8 hf
    refine wr_tableIn 8 C dX6_count_8 (off := 77) (tgt := 85) (by rw [c8]; decide) (by rw [c8]; decide) (by rw [c8]; rfl) (by decide) ?_
    refine wr_aload_n 85 C dX6_count_85 1 rfl rfl ?_
    refine gespM_0_17_X6 86 C dX6_count_86 ?_
    refine wr_iconst 89 C dX6_count_89 (v := 4) rfl ?_
    obtain ⟨g9, hf⟩ := o_g hf
    refine wr_iald 90 C dX6_count_90 spM_7 g9 ?_
    obtain ⟨v12, μ11, h10, hf⟩ := o_bind hf
    refine wr_Si (kc1 := 0) (ks1 := 0) 91 [] C dX6_count_91 (tX6_sizeOf l N   (μ1.1 7 (Int32.toNatClampNeg (4 : Int32))) μ1 (v12, μ11) h10) okX6_sizeOf q1946 ⟨rfl, rfl, Nat.le_of_ble_eq_true rfl, Nat.le_of_ble_eq_true rfl, Nat.zero_le _, Nat.zero_le _⟩ (Nat.le_of_ble_eq_true rfl) rfl ?_
    exact wr_iret 94 C dX6_count_94 ⟨Nat.zero_le _, Nat.zero_le _⟩ (Option.some.inj hf)
  replace hf := o_neg c8 hf
  by_cases c13 : a1 = 4
  · replace hf := o_pos c13 hf
    refine wr_tableIn 8 C dX6_count_8 (off := 87) (tgt := 95) (by rw [c13]; decide) (by rw [c13]; decide) (by rw [c13]; rfl) (by decide) ?_
    refine wr_aload_n 95 C dX6_count_95 1 rfl rfl ?_
    refine gespM_0_17_X6 96 C dX6_count_96 ?_
    refine wr_iconst 99 C dX6_count_99 (v := 5) rfl ?_
    obtain ⟨g14, hf⟩ := o_g hf
    refine wr_iald 100 C dX6_count_100 spM_7 g14 ?_
    obtain ⟨v17, μ16, h15, hf⟩ := o_bind hf
    refine wr_Si (kc1 := 0) (ks1 := 0) 101 [] C dX6_count_101 (tX6_sizeOf l N   (μ1.1 7 (Int32.toNatClampNeg (5 : Int32))) μ1 (v17, μ16) h15) okX6_sizeOf q1946 ⟨rfl, rfl, Nat.le_of_ble_eq_true rfl, Nat.le_of_ble_eq_true rfl, Nat.zero_le _, Nat.zero_le _⟩ (Nat.le_of_ble_eq_true rfl) rfl ?_
    exact wr_iret 104 C dX6_count_104 ⟨Nat.zero_le _, Nat.zero_le _⟩ (Option.some.inj hf)
  replace hf := o_neg c13 hf
  by_cases c18 : a1 = 5
  · replace hf := o_pos c18 hf
    refine wr_tableIn 8 C dX6_count_8 (off := 97) (tgt := 105) (by rw [c18]; decide) (by rw [c18]; decide) (by rw [c18]; rfl) (by decide) ?_
    refine wr_aload_n 105 C dX6_count_105 1 rfl rfl ?_
    refine gespM_0_17_X6 106 C dX6_count_106 ?_
    refine wr_iconst 109 C dX6_count_109 (v := 1) rfl ?_
    obtain ⟨g19, hf⟩ := o_g hf
    refine wr_iald 110 C dX6_count_110 spM_7 g19 ?_
    exact wr_iret 111 C dX6_count_111 ⟨Nat.zero_le _, Nat.zero_le _⟩ (Option.some.inj hf)
  replace hf := o_neg c18 hf
  by_cases c20 : a1 = 6
  · replace hf := o_pos c20 hf
    refine wr_tableIn 8 C dX6_count_8 (off := 104) (tgt := 112) (by rw [c20]; decide) (by rw [c20]; decide) (by rw [c20]; rfl) (by decide) ?_
    refine wr_aload_n 112 C dX6_count_112 1 rfl rfl ?_
    refine gespM_0_17_X6 113 C dX6_count_113 ?_
    refine wr_bipush 116 C dX6_count_116 (v := 6) rfl ?_
    obtain ⟨g21, hf⟩ := o_g hf
    refine wr_iald 118 C dX6_count_118 spM_7 g21 ?_
    exact wr_iret 119 C dX6_count_119 ⟨Nat.zero_le _, Nat.zero_le _⟩ (Option.some.inj hf)
  replace hf := o_neg c20 hf
  by_cases c22 : a1 = 7
  · replace hf := o_pos c22 hf
    refine wr_tableIn 8 C dX6_count_8 (off := 112) (tgt := 120) (by rw [c22]; decide) (by rw [c22]; decide) (by rw [c22]; rfl) (by decide) ?_
    refine wr_aload_n 120 C dX6_count_120 1 rfl rfl ?_
    refine gespM_0_16_X6 121 C dX6_count_121 ?_
    refine wr_iconst 124 C dX6_count_124 (v := 0) rfl ?_
    obtain ⟨g23, hf⟩ := o_g hf
    refine wr_iald 125 C dX6_count_125 spM_6 g23 ?_
    exact wr_iret 126 C dX6_count_126 ⟨Nat.zero_le _, Nat.zero_le _⟩ (Option.some.inj hf)
  replace hf := o_neg c22 hf
  by_cases c24 : a1 = 8
  · replace hf := o_pos c24 hf
    refine wr_tableIn 8 C dX6_count_8 (off := 119) (tgt := 127) (by rw [c24]; decide) (by rw [c24]; decide) (by rw [c24]; rfl) (by decide) ?_
    refine wr_aload_n 127 C dX6_count_127 1 rfl rfl ?_
    refine gespM_0_6_X6 128 C dX6_count_128 ?_
    exact wr_iret 131 C dX6_count_131 ⟨Nat.zero_le _, Nat.zero_le _⟩ (Option.some.inj hf)
  replace hf := o_neg c24 hf
  by_cases c25 : a1 = 9
  · replace hf := o_pos c25 hf
    refine wr_tableIn 8 C dX6_count_8 (off := 124) (tgt := 132) (by rw [c25]; decide) (by rw [c25]; decide) (by rw [c25]; rfl) (by decide) ?_
    refine wr_iconst 132 C dX6_count_132 (v := 0) rfl ?_
    refine wr_istore_n 133 [(3, .int 0), (2, .int 0), (0, .ref (q 0)), (1, .int a1)] C dX6_count_133 rfl rfl (Nat.le_of_ble_eq_true rfl) rfl ?_
    refine wr_sub [(0, .ref (q 0)), (2, .int 0), (3, .int 0)] [2, 1, 0] rfl ?_
    refine tX6_count_134 C N    _ r0 (fun x35 μ34 hf => ?_) N 0 0 μ1 hf
    · replace hf := hf
      refine wr_iload_n 163 C dX6_count_163 0 rfl rfl ?_
      exact wr_iret 164 C dX6_count_164 ⟨Nat.zero_le _, Nat.zero_le _⟩ (Option.some.inj hf)
  replace hf := o_neg c25 hf
  refine wr_tableOut 8 C dX6_count_8 (tgt := 165) (wSw9 0 a1 c2 c4 c6 c8 c13 c18 c20 c22 c24 c25) (by decide) ?_
  refine wr_iconst 165 C dX6_count_165 (v := (-1)) rfl ?_
  exact wr_iret 166 C dX6_count_166 ⟨Nat.zero_le _, Nat.zero_le _⟩ (Option.some.inj hf)
abbrev cX6_image : ByteArray := prog_11_method_134_code
def yX6_image : MethodName := ⟨RX6, "image", "(I)I"⟩
def dkwX6_image_1 : List UInt8 := [96, 182, 0, 231, 42, 180, 0, 49, 27, 4, 84, 3, 172]
abbrev dktX6_image_1 : List UInt8 := dkwX6_image_1 ++ []
def dkwX6_image_0 : List UInt8 := [42, 3, 181, 0, 88, 27, 133, 9, 20, 1, 208, 184, 0, 93, 154, 0, 6, 16, 254, 172, 42, 3, 4, 27]
abbrev dktX6_image_0 : List UInt8 := dkwX6_image_0 ++ dktX6_image_1
theorem dksX6_image_0 : cX6_image.data.toList.drop 0 = dktX6_image_0 := by decide +kernel
theorem dksX6_image_1 : cX6_image.data.toList.drop 24 = dktX6_image_1 := dk_seg dksX6_image_0 24 rfl rfl
theorem dX6_image_0 : decode cX6_image 0 = .ok (.aload_n 0, 1) := dk_42 (dk_at dksX6_image_0 0 rfl rfl)
theorem dX6_image_1 : decode cX6_image 1 = .ok (.iconst 0, 1) := dk_3 (dk_at dksX6_image_0 1 rfl rfl)
theorem dX6_image_2 : decode cX6_image 2 = .ok (.putfield 88, 3) := dk_181 0 88 (dk_at dksX6_image_0 2 rfl rfl)
theorem dX6_image_5 : decode cX6_image 5 = .ok (.iload_n 1, 1) := dk_27 (dk_at dksX6_image_0 5 rfl rfl)
theorem dX6_image_6 : decode cX6_image 6 = .ok (.i2l, 1) := dk_133 (dk_at dksX6_image_0 6 rfl rfl)
theorem dX6_image_7 : decode cX6_image 7 = .ok (.lconst 0, 1) := dk_9 (dk_at dksX6_image_0 7 rfl rfl)
theorem dX6_image_8 : decode cX6_image 8 = .ok (.ldc2_w 464, 3) := dk_20 1 208 (dk_at dksX6_image_0 8 rfl rfl)
theorem dX6_image_11 : decode cX6_image 11 = .ok (.invokestatic 93, 3) := dk_184 0 93 (dk_at dksX6_image_0 11 rfl rfl)
theorem dX6_image_14 : decode cX6_image 14 = .ok (.ifCond .ne 6, 3) := dk_154 0 6 (dk_at dksX6_image_0 14 rfl rfl)
theorem dX6_image_17 : decode cX6_image 17 = .ok (.bipush (-2), 2) := dk_16 254 (dk_at dksX6_image_0 17 rfl rfl)
theorem dX6_image_19 : decode cX6_image 19 = .ok (.ireturn, 1) := dk_172 (dk_at dksX6_image_0 19 rfl rfl)
theorem dX6_image_20 : decode cX6_image 20 = .ok (.aload_n 0, 1) := dk_42 (dk_at dksX6_image_0 20 rfl rfl)
theorem dX6_image_21 : decode cX6_image 21 = .ok (.iconst 0, 1) := dk_3 (dk_at dksX6_image_0 21 rfl rfl)
theorem dX6_image_22 : decode cX6_image 22 = .ok (.iconst 1, 1) := dk_4 (dk_at dksX6_image_0 22 rfl rfl)
theorem dX6_image_23 : decode cX6_image 23 = .ok (.iload_n 1, 1) := dk_27 (dk_at dksX6_image_0 23 rfl rfl)
theorem dX6_image_24 : decode cX6_image 24 = .ok (.iadd, 1) := dk_96 (dk_at dksX6_image_1 0 rfl rfl)
theorem dX6_image_25 : decode cX6_image 25 = .ok (.invokevirtual 231, 3) := dk_182 0 231 (dk_at dksX6_image_1 1 rfl rfl)
theorem dX6_image_28 : decode cX6_image 28 = .ok (.aload_n 0, 1) := dk_42 (dk_at dksX6_image_1 4 rfl rfl)
theorem dX6_image_29 : decode cX6_image 29 = .ok (.getfield 49, 3) := dk_180 0 49 (dk_at dksX6_image_1 5 rfl rfl)
theorem dX6_image_32 : decode cX6_image 32 = .ok (.iload_n 1, 1) := dk_27 (dk_at dksX6_image_1 8 rfl rfl)
theorem dX6_image_33 : decode cX6_image 33 = .ok (.iconst 1, 1) := dk_4 (dk_at dksX6_image_1 9 rfl rfl)
theorem dX6_image_34 : decode cX6_image 34 = .ok (.bastore, 1) := dk_84 (dk_at dksX6_image_1 10 rfl rfl)
theorem dX6_image_35 : decode cX6_image 35 = .ok (.iconst 0, 1) := dk_3 (dk_at dksX6_image_1 11 rfl rfl)
theorem dX6_image_36 : decode cX6_image 36 = .ok (.ireturn, 1) := dk_172 (dk_at dksX6_image_1 12 rfl rfl)
theorem gespM_0_22_X6 {p : Program} {l : Launch} {e : Env} {R : Room} {s : State} {m : MethodId} {args : Array Value} {below : List Frame} {meth : Method} {c : Code} {cc : ByteArray} {nL : Nat} {ret : Option FieldType} {D : va_G} {E : List wCell} {q : Nat → Nat} {ca : wCA} {A : Nat → Prop} {Q : State → Prop} {kc ks : Nat} {μ : wMem} {lv : List (Nat × Value)} {st : List Value} (pc : Nat) (C : wC p R s m args meth c cc "OnePassportModel" nL ret D vwCl (spM ++ E) q ca A) (hd : decode cc pc = .ok (.getfield 49, 3)) (k : wJ p l e R s m args below meth c nL D vwCl (spM ++ E) q ca A Q kc ks μ (pc + 3) lv (.ref (q 12) :: st)) : wJ p l e R s m args below meth c nL D vwCl (spM ++ E) q ca A Q kc ks μ pc lv (.ref (q 0) :: st) := wr_getR pc 22 C hd spM_0 rfl in_X6 (by decide) rfl q1421 k
theorem okX6_image : wOkV yX6_image cX6_image 2 (some .int) 1 := ⟨q2094, q2095, q145, q2096, by decide, by decide, by decide +kernel⟩
def fX6_image (N : Nat)  (a1 : Int32) (μ : wMem) : Option (Int32 × wMem) :=
  wLet (wSI μ 0 0 (0 : Int32)) fun μ1 => wBind (fX6_in N  (Int32.toInt64 a1) 0 2 μ1) fun v4 μ3 => if v4 = 0 then some ((-2), μ3) else wBindV (fX6_copyFamily N  0 ((1 : Int32) + a1) μ3) fun μ7 => wG (ok_in a1 3) (wLet (wSI μ7 12 (Int32.toNatClampNeg a1) (1 : Int32)) fun μ9 => some (0, μ9))
set_option maxHeartbeats 4000000 in
set_option maxRecDepth 100000 in
theorem tX6_image (l : Launch) {D : va_G} {E : List wCell} {q : Nat → Nat} {ca : wCA} (N : Nat)   (a1 : Int32) (μ : wMem) (r0 : (Int32 × wMem)) (hf : fX6_image N  a1 μ = some r0) : wMi l yX6_image cX6_image 2 (some .int) ({ frames := 2, cells := 0, slots := 0, locals := 46 } : Room) D vwCl (spM ++ E) q ca [.ref (q 0), .int a1] μ r0 := by
  refine wMi_intro (by decide) (Nat.le_of_ble_eq_true rfl) ?_
  intro p e s m args below meth c A C
  unfold fX6_image at hf
  refine wr_sub [(0, .ref (q 0)), (1, .int a1)] [0, 1] rfl ?_
  refine wr_aload_n 0 C dX6_image_0 0 rfl rfl ?_
  refine wr_iconst 1 C dX6_image_1 (v := 0) rfl ?_
  obtain ⟨μ1, eμ1, hf⟩ := o_let hf
  refine puspM_0_0_X6 2 C dX6_image_2 eμ1 ?_
  refine wr_iload_n 5 C dX6_image_5 1 rfl rfl ?_
  refine wr_i2l 6 C dX6_image_6 ?_
  refine wr_lconst 7 C dX6_image_7 (v := 0) rfl ?_
  refine wr_ldc2 8 C dX6_image_8 q2097 ?_
  obtain ⟨v4, μ3, h2, hf⟩ := o_bind hf
  refine wr_Si (kc1 := 0) (ks1 := 0) 11 [] C dX6_image_11 (tX6_in l N   (Int32.toInt64 a1) 0 2 μ1 (v4, μ3) h2) okX6_in q1552 ⟨rfl, rfl, Nat.le_of_ble_eq_true rfl, Nat.le_of_ble_eq_true rfl, Nat.zero_le _, Nat.zero_le _⟩ (Nat.le_of_ble_eq_true rfl) rfl ?_
  refine wr_if_ne 14 20 C dX6_image_14 (by decide) (fun c5 => ?_) (fun c5 => ?_)
  · replace hf := o_neg c5 hf
    refine wr_aload_n 20 C dX6_image_20 0 rfl rfl ?_
    refine wr_iconst 21 C dX6_image_21 (v := 0) rfl ?_
    refine wr_iconst 22 C dX6_image_22 (v := 1) rfl ?_
    refine wr_iload_n 23 C dX6_image_23 1 rfl rfl ?_
    refine wr_iadd 24 C dX6_image_24 ?_
    obtain ⟨μ7, h6, hf⟩ := o_bindV hf
    refine wr_Vv (kc1 := 0) (ks1 := 0) 25 [] C dX6_image_25 (tX6_copyFamily l N   0 ((1 : Int32) + a1) μ3 μ7 h6) okX6_copyFamily q1674 (b := 0) spM_0 rfl ⟨rfl, rfl, Nat.le_of_ble_eq_true rfl, Nat.le_of_ble_eq_true rfl, Nat.zero_le _, Nat.zero_le _⟩ (Nat.le_of_ble_eq_true rfl) rfl ?_
    refine wr_aload_n 28 C dX6_image_28 0 rfl rfl ?_
    refine gespM_0_22_X6 29 C dX6_image_29 ?_
    refine wr_iload_n 32 C dX6_image_32 1 rfl rfl ?_
    refine wr_iconst 33 C dX6_image_33 (v := 1) rfl ?_
    obtain ⟨g8, hf⟩ := o_g hf
    obtain ⟨μ9, eμ9, hf⟩ := o_let hf
    refine wr_zast 34 C dX6_image_34 spM_12 g8 rfl eμ9 ?_
    refine wr_iconst 35 C dX6_image_35 (v := 0) rfl ?_
    exact wr_iret 36 C dX6_image_36 ⟨Nat.zero_le _, Nat.zero_le _⟩ (Option.some.inj hf)
  · replace hf := o_pos c5 hf
    refine wr_bipush 17 C dX6_image_17 (v := (-2)) rfl ?_
    exact wr_iret 19 C dX6_image_19 ⟨Nat.zero_le _, Nat.zero_le _⟩ (Option.some.inj hf)
abbrev cX6_back : ByteArray := prog_11_method_135_code
def yX6_back : MethodName := ⟨RX6, "back", "(I)I"⟩
def dkwX6_back_1 : List UInt8 := [27, 51, 154, 0, 6, 16, 250, 172, 42, 4, 27, 96, 3, 182, 0, 231, 3, 172]
abbrev dktX6_back_1 : List UInt8 := dkwX6_back_1 ++ []
def dkwX6_back_0 : List UInt8 := [42, 3, 181, 0, 88, 27, 133, 9, 20, 1, 208, 184, 0, 93, 154, 0, 6, 16, 254, 172, 42, 180, 0, 49]
abbrev dktX6_back_0 : List UInt8 := dkwX6_back_0 ++ dktX6_back_1
theorem dksX6_back_0 : cX6_back.data.toList.drop 0 = dktX6_back_0 := by decide +kernel
theorem dksX6_back_1 : cX6_back.data.toList.drop 24 = dktX6_back_1 := dk_seg dksX6_back_0 24 rfl rfl
theorem dX6_back_0 : decode cX6_back 0 = .ok (.aload_n 0, 1) := dk_42 (dk_at dksX6_back_0 0 rfl rfl)
theorem dX6_back_1 : decode cX6_back 1 = .ok (.iconst 0, 1) := dk_3 (dk_at dksX6_back_0 1 rfl rfl)
theorem dX6_back_2 : decode cX6_back 2 = .ok (.putfield 88, 3) := dk_181 0 88 (dk_at dksX6_back_0 2 rfl rfl)
theorem dX6_back_5 : decode cX6_back 5 = .ok (.iload_n 1, 1) := dk_27 (dk_at dksX6_back_0 5 rfl rfl)
theorem dX6_back_6 : decode cX6_back 6 = .ok (.i2l, 1) := dk_133 (dk_at dksX6_back_0 6 rfl rfl)
theorem dX6_back_7 : decode cX6_back 7 = .ok (.lconst 0, 1) := dk_9 (dk_at dksX6_back_0 7 rfl rfl)
theorem dX6_back_8 : decode cX6_back 8 = .ok (.ldc2_w 464, 3) := dk_20 1 208 (dk_at dksX6_back_0 8 rfl rfl)
theorem dX6_back_11 : decode cX6_back 11 = .ok (.invokestatic 93, 3) := dk_184 0 93 (dk_at dksX6_back_0 11 rfl rfl)
theorem dX6_back_14 : decode cX6_back 14 = .ok (.ifCond .ne 6, 3) := dk_154 0 6 (dk_at dksX6_back_0 14 rfl rfl)
theorem dX6_back_17 : decode cX6_back 17 = .ok (.bipush (-2), 2) := dk_16 254 (dk_at dksX6_back_0 17 rfl rfl)
theorem dX6_back_19 : decode cX6_back 19 = .ok (.ireturn, 1) := dk_172 (dk_at dksX6_back_0 19 rfl rfl)
theorem dX6_back_20 : decode cX6_back 20 = .ok (.aload_n 0, 1) := dk_42 (dk_at dksX6_back_0 20 rfl rfl)
theorem dX6_back_21 : decode cX6_back 21 = .ok (.getfield 49, 3) := dk_180 0 49 (dk_at dksX6_back_0 21 rfl rfl)
theorem dX6_back_24 : decode cX6_back 24 = .ok (.iload_n 1, 1) := dk_27 (dk_at dksX6_back_1 0 rfl rfl)
theorem dX6_back_25 : decode cX6_back 25 = .ok (.baload, 1) := dk_51 (dk_at dksX6_back_1 1 rfl rfl)
theorem dX6_back_26 : decode cX6_back 26 = .ok (.ifCond .ne 6, 3) := dk_154 0 6 (dk_at dksX6_back_1 2 rfl rfl)
theorem dX6_back_29 : decode cX6_back 29 = .ok (.bipush (-6), 2) := dk_16 250 (dk_at dksX6_back_1 5 rfl rfl)
theorem dX6_back_31 : decode cX6_back 31 = .ok (.ireturn, 1) := dk_172 (dk_at dksX6_back_1 7 rfl rfl)
theorem dX6_back_32 : decode cX6_back 32 = .ok (.aload_n 0, 1) := dk_42 (dk_at dksX6_back_1 8 rfl rfl)
theorem dX6_back_33 : decode cX6_back 33 = .ok (.iconst 1, 1) := dk_4 (dk_at dksX6_back_1 9 rfl rfl)
theorem dX6_back_34 : decode cX6_back 34 = .ok (.iload_n 1, 1) := dk_27 (dk_at dksX6_back_1 10 rfl rfl)
theorem dX6_back_35 : decode cX6_back 35 = .ok (.iadd, 1) := dk_96 (dk_at dksX6_back_1 11 rfl rfl)
theorem dX6_back_36 : decode cX6_back 36 = .ok (.iconst 0, 1) := dk_3 (dk_at dksX6_back_1 12 rfl rfl)
theorem dX6_back_37 : decode cX6_back 37 = .ok (.invokevirtual 231, 3) := dk_182 0 231 (dk_at dksX6_back_1 13 rfl rfl)
theorem dX6_back_40 : decode cX6_back 40 = .ok (.iconst 0, 1) := dk_3 (dk_at dksX6_back_1 16 rfl rfl)
theorem dX6_back_41 : decode cX6_back 41 = .ok (.ireturn, 1) := dk_172 (dk_at dksX6_back_1 17 rfl rfl)

theorem okX6_back : wOkV yX6_back cX6_back 2 (some .int) 1 := ⟨q2099, q2100, q145, q2101, by decide, by decide, by decide +kernel⟩
def fX6_back (N : Nat)  (a1 : Int32) (μ : wMem) : Option (Int32 × wMem) :=
  wLet (wSI μ 0 0 (0 : Int32)) fun μ1 => wBind (fX6_in N  (Int32.toInt64 a1) 0 2 μ1) fun v4 μ3 => if v4 = 0 then some ((-2), μ3) else wG (ok_in a1 3) (if (μ3.1 12 (Int32.toNatClampNeg a1)) = 0 then some ((-6), μ3) else wBindV (fX6_copyFamily N  ((1 : Int32) + a1) 0 μ3) fun μ9 => some (0, μ9))
set_option maxHeartbeats 4000000 in
set_option maxRecDepth 100000 in
theorem tX6_back (l : Launch) {D : va_G} {E : List wCell} {q : Nat → Nat} {ca : wCA} (N : Nat)   (a1 : Int32) (μ : wMem) (r0 : (Int32 × wMem)) (hf : fX6_back N  a1 μ = some r0) : wMi l yX6_back cX6_back 2 (some .int) ({ frames := 2, cells := 0, slots := 0, locals := 46 } : Room) D vwCl (spM ++ E) q ca [.ref (q 0), .int a1] μ r0 := by
  refine wMi_intro (by decide) (Nat.le_of_ble_eq_true rfl) ?_
  intro p e s m args below meth c A C
  unfold fX6_back at hf
  refine wr_sub [(0, .ref (q 0)), (1, .int a1)] [0, 1] rfl ?_
  refine wr_aload_n 0 C dX6_back_0 0 rfl rfl ?_
  refine wr_iconst 1 C dX6_back_1 (v := 0) rfl ?_
  obtain ⟨μ1, eμ1, hf⟩ := o_let hf
  refine puspM_0_0_X6 2 C dX6_back_2 eμ1 ?_
  refine wr_iload_n 5 C dX6_back_5 1 rfl rfl ?_
  refine wr_i2l 6 C dX6_back_6 ?_
  refine wr_lconst 7 C dX6_back_7 (v := 0) rfl ?_
  refine wr_ldc2 8 C dX6_back_8 q2097 ?_
  obtain ⟨v4, μ3, h2, hf⟩ := o_bind hf
  refine wr_Si (kc1 := 0) (ks1 := 0) 11 [] C dX6_back_11 (tX6_in l N   (Int32.toInt64 a1) 0 2 μ1 (v4, μ3) h2) okX6_in q1552 ⟨rfl, rfl, Nat.le_of_ble_eq_true rfl, Nat.le_of_ble_eq_true rfl, Nat.zero_le _, Nat.zero_le _⟩ (Nat.le_of_ble_eq_true rfl) rfl ?_
  refine wr_if_ne 14 20 C dX6_back_14 (by decide) (fun c5 => ?_) (fun c5 => ?_)
  · replace hf := o_neg c5 hf
    refine wr_aload_n 20 C dX6_back_20 0 rfl rfl ?_
    refine gespM_0_22_X6 21 C dX6_back_21 ?_
    refine wr_iload_n 24 C dX6_back_24 1 rfl rfl ?_
    obtain ⟨g6, hf⟩ := o_g hf
    refine wr_zald 25 C dX6_back_25 spM_12 g6 ?_
    refine wr_if_ne 26 32 C dX6_back_26 (by decide) (fun c7 => ?_) (fun c7 => ?_)
    · replace hf := o_neg c7 hf
      refine wr_aload_n 32 C dX6_back_32 0 rfl rfl ?_
      refine wr_iconst 33 C dX6_back_33 (v := 1) rfl ?_
      refine wr_iload_n 34 C dX6_back_34 1 rfl rfl ?_
      refine wr_iadd 35 C dX6_back_35 ?_
      refine wr_iconst 36 C dX6_back_36 (v := 0) rfl ?_
      obtain ⟨μ9, h8, hf⟩ := o_bindV hf
      refine wr_Vv (kc1 := 0) (ks1 := 0) 37 [] C dX6_back_37 (tX6_copyFamily l N   ((1 : Int32) + a1) 0 μ3 μ9 h8) okX6_copyFamily q1674 (b := 0) spM_0 rfl ⟨rfl, rfl, Nat.le_of_ble_eq_true rfl, Nat.le_of_ble_eq_true rfl, Nat.zero_le _, Nat.zero_le _⟩ (Nat.le_of_ble_eq_true rfl) rfl ?_
      refine wr_iconst 40 C dX6_back_40 (v := 0) rfl ?_
      exact wr_iret 41 C dX6_back_41 ⟨Nat.zero_le _, Nat.zero_le _⟩ (Option.some.inj hf)
    · replace hf := o_pos c7 hf
      refine wr_bipush 29 C dX6_back_29 (v := (-6)) rfl ?_
      exact wr_iret 31 C dX6_back_31 ⟨Nat.zero_le _, Nat.zero_le _⟩ (Option.some.inj hf)
  · replace hf := o_pos c5 hf
    refine wr_bipush 17 C dX6_back_17 (v := (-2)) rfl ?_
    exact wr_iret 19 C dX6_back_19 ⟨Nat.zero_le _, Nat.zero_le _⟩ (Option.some.inj hf)
