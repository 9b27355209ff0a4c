set_option maxRecDepth 100000
abbrev cX0_chance : ByteArray := prog_1_method_73_code
def yX0_chance : MethodName := ⟨RX0, "chance", "(I)J"⟩
def dkwX0_chance_6 : List UInt8 := [184, 1, 99, 109, 173]
abbrev dktX0_chance_6 : List UInt8 := dkwX0_chance_6 ++ []
def dkwX0_chance_5 : List UInt8 := [180, 0, 40, 182, 1, 80, 54, 7, 167, 255, 183, 27, 154, 0, 7, 32, 167, 0, 5, 22, 4, 32, 22, 4]
abbrev dktX0_chance_5 : List UInt8 := dkwX0_chance_5 ++ dktX0_chance_6
def dkwX0_chance_4 : List UInt8 := [182, 0, 149, 100, 133, 105, 65, 22, 4, 20, 1, 97, 105, 55, 4, 42, 21, 7, 182, 0, 243, 42, 42]
abbrev dktX0_chance_4 : List UInt8 := dkwX0_chance_4 ++ dktX0_chance_5
def dkwX0_chance_3 : List UInt8 := [160, 0, 7, 20, 1, 95, 173, 132, 6, 1, 32, 16, 100, 42, 21, 7, 184, 0, 204, 21, 7, 184, 0, 198]
abbrev dktX0_chance_3 : List UInt8 := dkwX0_chance_3 ++ dktX0_chance_4
def dkwX0_chance_2 : List UInt8 := [182, 1, 80, 54, 7, 21, 7, 2, 159, 0, 73, 21, 7, 17, 0, 200, 159, 0, 46, 21, 6, 16, 9]
abbrev dktX0_chance_2 : List UInt8 := dkwX0_chance_2 ++ dktX0_chance_3
def dkwX0_chance_1 : List UInt8 := [182, 1, 77, 154, 0, 7, 20, 1, 95, 173, 10, 65, 10, 55, 4, 3, 54, 6, 42, 42, 180, 0, 40]
abbrev dktX0_chance_1 : List UInt8 := dkwX0_chance_1 ++ dktX0_chance_2
def dkwX0_chance_0 : List UInt8 := [42, 182, 0, 252, 153, 0, 11, 27, 5, 184, 0, 246, 154, 0, 7, 20, 1, 93, 173, 42, 42, 180, 0, 40]
abbrev dktX0_chance_0 : List UInt8 := dkwX0_chance_0 ++ dktX0_chance_1
theorem dksX0_chance_0 : cX0_chance.data.toList.drop 0 = dktX0_chance_0 := by decide +kernel
theorem dksX0_chance_1 : cX0_chance.data.toList.drop 24 = dktX0_chance_1 := dk_seg dksX0_chance_0 24 rfl rfl
theorem dksX0_chance_2 : cX0_chance.data.toList.drop 47 = dktX0_chance_2 := dk_seg dksX0_chance_1 23 rfl rfl
theorem dksX0_chance_3 : cX0_chance.data.toList.drop 70 = dktX0_chance_3 := dk_seg dksX0_chance_2 23 rfl rfl
theorem dksX0_chance_4 : cX0_chance.data.toList.drop 94 = dktX0_chance_4 := dk_seg dksX0_chance_3 24 rfl rfl
theorem dksX0_chance_5 : cX0_chance.data.toList.drop 117 = dktX0_chance_5 := dk_seg dksX0_chance_4 23 rfl rfl
theorem dksX0_chance_6 : cX0_chance.data.toList.drop 141 = dktX0_chance_6 := dk_seg dksX0_chance_5 24 rfl rfl
theorem dX0_chance_0 : decode cX0_chance 0 = .ok (.aload_n 0, 1) := dk_42 (dk_at dksX0_chance_0 0 rfl rfl)
theorem dX0_chance_1 : decode cX0_chance 1 = .ok (.invokevirtual 252, 3) := dk_182 0 252 (dk_at dksX0_chance_0 1 rfl rfl)
theorem dX0_chance_4 : decode cX0_chance 4 = .ok (.ifCond .eq 11, 3) := dk_153 0 11 (dk_at dksX0_chance_0 4 rfl rfl)
theorem dX0_chance_7 : decode cX0_chance 7 = .ok (.iload_n 1, 1) := dk_27 (dk_at dksX0_chance_0 7 rfl rfl)
theorem dX0_chance_8 : decode cX0_chance 8 = .ok (.iconst 2, 1) := dk_5 (dk_at dksX0_chance_0 8 rfl rfl)
theorem dX0_chance_9 : decode cX0_chance 9 = .ok (.invokestatic 246, 3) := dk_184 0 246 (dk_at dksX0_chance_0 9 rfl rfl)
theorem dX0_chance_12 : decode cX0_chance 12 = .ok (.ifCond .ne 7, 3) := dk_154 0 7 (dk_at dksX0_chance_0 12 rfl rfl)
theorem dX0_chance_15 : decode cX0_chance 15 = .ok (.ldc2_w 349, 3) := dk_20 1 93 (dk_at dksX0_chance_0 15 rfl rfl)
theorem dX0_chance_18 : decode cX0_chance 18 = .ok (.lreturn, 1) := dk_173 (dk_at dksX0_chance_0 18 rfl rfl)
theorem dX0_chance_19 : decode cX0_chance 19 = .ok (.aload_n 0, 1) := dk_42 (dk_at dksX0_chance_0 19 rfl rfl)
theorem dX0_chance_20 : decode cX0_chance 20 = .ok (.aload_n 0, 1) := dk_42 (dk_at dksX0_chance_0 20 rfl rfl)
theorem dX0_chance_21 : decode cX0_chance 21 = .ok (.getfield 40, 3) := dk_180 0 40 (dk_at dksX0_chance_0 21 rfl rfl)
theorem dX0_chance_24 : decode cX0_chance 24 = .ok (.invokevirtual 333, 3) := dk_182 1 77 (dk_at dksX0_chance_1 0 rfl rfl)
theorem dX0_chance_27 : decode cX0_chance 27 = .ok (.ifCond .ne 7, 3) := dk_154 0 7 (dk_at dksX0_chance_1 3 rfl rfl)
theorem dX0_chance_30 : decode cX0_chance 30 = .ok (.ldc2_w 351, 3) := dk_20 1 95 (dk_at dksX0_chance_1 6 rfl rfl)
theorem dX0_chance_33 : decode cX0_chance 33 = .ok (.lreturn, 1) := dk_173 (dk_at dksX0_chance_1 9 rfl rfl)
theorem dX0_chance_34 : decode cX0_chance 34 = .ok (.lconst 1, 1) := dk_10 (dk_at dksX0_chance_1 10 rfl rfl)
theorem dX0_chance_35 : decode cX0_chance 35 = .ok (.lstore_n 2, 1) := dk_65 (dk_at dksX0_chance_1 11 rfl rfl)
theorem dX0_chance_36 : decode cX0_chance 36 = .ok (.lconst 1, 1) := dk_10 (dk_at dksX0_chance_1 12 rfl rfl)
theorem dX0_chance_37 : decode cX0_chance 37 = .ok (.lstore 4, 2) := dk_55 4 (dk_at dksX0_chance_1 13 rfl rfl)
theorem dX0_chance_39 : decode cX0_chance 39 = .ok (.iconst 0, 1) := dk_3 (dk_at dksX0_chance_1 15 rfl rfl)
theorem dX0_chance_40 : decode cX0_chance 40 = .ok (.istore 6, 2) := dk_54 6 (dk_at dksX0_chance_1 16 rfl rfl)
theorem dX0_chance_42 : decode cX0_chance 42 = .ok (.aload_n 0, 1) := dk_42 (dk_at dksX0_chance_1 18 rfl rfl)
theorem dX0_chance_43 : decode cX0_chance 43 = .ok (.aload_n 0, 1) := dk_42 (dk_at dksX0_chance_1 19 rfl rfl)
theorem dX0_chance_44 : decode cX0_chance 44 = .ok (.getfield 40, 3) := dk_180 0 40 (dk_at dksX0_chance_1 20 rfl rfl)
theorem dX0_chance_47 : decode cX0_chance 47 = .ok (.invokevirtual 336, 3) := dk_182 1 80 (dk_at dksX0_chance_2 0 rfl rfl)
theorem dX0_chance_50 : decode cX0_chance 50 = .ok (.istore 7, 2) := dk_54 7 (dk_at dksX0_chance_2 3 rfl rfl)
theorem dX0_chance_52 : decode cX0_chance 52 = .ok (.iload 7, 2) := dk_21 7 (dk_at dksX0_chance_2 5 rfl rfl)
theorem dX0_chance_54 : decode cX0_chance 54 = .ok (.iconst (-1), 1) := dk_2 (dk_at dksX0_chance_2 7 rfl rfl)
theorem dX0_chance_55 : decode cX0_chance 55 = .ok (.if_icmp .eq 73, 3) := dk_159 0 73 (dk_at dksX0_chance_2 8 rfl rfl)
theorem dX0_chance_58 : decode cX0_chance 58 = .ok (.iload 7, 2) := dk_21 7 (dk_at dksX0_chance_2 11 rfl rfl)
theorem dX0_chance_60 : decode cX0_chance 60 = .ok (.sipush 200, 3) := dk_17 0 200 (dk_at dksX0_chance_2 13 rfl rfl)
theorem dX0_chance_63 : decode cX0_chance 63 = .ok (.if_icmp .eq 46, 3) := dk_159 0 46 (dk_at dksX0_chance_2 16 rfl rfl)
theorem dX0_chance_66 : decode cX0_chance 66 = .ok (.iload 6, 2) := dk_21 6 (dk_at dksX0_chance_2 19 rfl rfl)
theorem dX0_chance_68 : decode cX0_chance 68 = .ok (.bipush 9, 2) := dk_16 9 (dk_at dksX0_chance_2 21 rfl rfl)
theorem dX0_chance_70 : decode cX0_chance 70 = .ok (.if_icmp .ne 7, 3) := dk_160 0 7 (dk_at dksX0_chance_3 0 rfl rfl)
theorem dX0_chance_73 : decode cX0_chance 73 = .ok (.ldc2_w 351, 3) := dk_20 1 95 (dk_at dksX0_chance_3 3 rfl rfl)
theorem dX0_chance_76 : decode cX0_chance 76 = .ok (.lreturn, 1) := dk_173 (dk_at dksX0_chance_3 6 rfl rfl)
theorem dX0_chance_77 : decode cX0_chance 77 = .ok (.iinc 6 1, 3) := dk_132 6 1 (dk_at dksX0_chance_3 7 rfl rfl)
theorem dX0_chance_80 : decode cX0_chance 80 = .ok (.lload_n 2, 1) := dk_32 (dk_at dksX0_chance_3 10 rfl rfl)
theorem dX0_chance_81 : decode cX0_chance 81 = .ok (.bipush 100, 2) := dk_16 100 (dk_at dksX0_chance_3 11 rfl rfl)
theorem dX0_chance_83 : decode cX0_chance 83 = .ok (.aload_n 0, 1) := dk_42 (dk_at dksX0_chance_3 13 rfl rfl)
theorem dX0_chance_84 : decode cX0_chance 84 = .ok (.iload 7, 2) := dk_21 7 (dk_at dksX0_chance_3 14 rfl rfl)
theorem dX0_chance_86 : decode cX0_chance 86 = .ok (.invokestatic 204, 3) := dk_184 0 204 (dk_at dksX0_chance_3 16 rfl rfl)
theorem dX0_chance_89 : decode cX0_chance 89 = .ok (.iload 7, 2) := dk_21 7 (dk_at dksX0_chance_3 19 rfl rfl)
theorem dX0_chance_91 : decode cX0_chance 91 = .ok (.invokestatic 198, 3) := dk_184 0 198 (dk_at dksX0_chance_3 21 rfl rfl)
theorem dX0_chance_94 : decode cX0_chance 94 = .ok (.invokevirtual 149, 3) := dk_182 0 149 (dk_at dksX0_chance_4 0 rfl rfl)
theorem dX0_chance_97 : decode cX0_chance 97 = .ok (.isub, 1) := dk_100 (dk_at dksX0_chance_4 3 rfl rfl)
theorem dX0_chance_98 : decode cX0_chance 98 = .ok (.i2l, 1) := dk_133 (dk_at dksX0_chance_4 4 rfl rfl)
theorem dX0_chance_99 : decode cX0_chance 99 = .ok (.lmul, 1) := dk_105 (dk_at dksX0_chance_4 5 rfl rfl)
theorem dX0_chance_100 : decode cX0_chance 100 = .ok (.lstore_n 2, 1) := dk_65 (dk_at dksX0_chance_4 6 rfl rfl)
theorem dX0_chance_101 : decode cX0_chance 101 = .ok (.lload 4, 2) := dk_22 4 (dk_at dksX0_chance_4 7 rfl rfl)
theorem dX0_chance_103 : decode cX0_chance 103 = .ok (.ldc2_w 353, 3) := dk_20 1 97 (dk_at dksX0_chance_4 9 rfl rfl)
theorem dX0_chance_106 : decode cX0_chance 106 = .ok (.lmul, 1) := dk_105 (dk_at dksX0_chance_4 12 rfl rfl)
theorem dX0_chance_107 : decode cX0_chance 107 = .ok (.lstore 4, 2) := dk_55 4 (dk_at dksX0_chance_4 13 rfl rfl)
theorem dX0_chance_109 : decode cX0_chance 109 = .ok (.aload_n 0, 1) := dk_42 (dk_at dksX0_chance_4 15 rfl rfl)
theorem dX0_chance_110 : decode cX0_chance 110 = .ok (.iload 7, 2) := dk_21 7 (dk_at dksX0_chance_4 16 rfl rfl)
theorem dX0_chance_112 : decode cX0_chance 112 = .ok (.invokevirtual 243, 3) := dk_182 0 243 (dk_at dksX0_chance_4 18 rfl rfl)
theorem dX0_chance_115 : decode cX0_chance 115 = .ok (.aload_n 0, 1) := dk_42 (dk_at dksX0_chance_4 21 rfl rfl)
theorem dX0_chance_116 : decode cX0_chance 116 = .ok (.aload_n 0, 1) := dk_42 (dk_at dksX0_chance_4 22 rfl rfl)
theorem dX0_chance_117 : decode cX0_chance 117 = .ok (.getfield 40, 3) := dk_180 0 40 (dk_at dksX0_chance_5 0 rfl rfl)
theorem dX0_chance_120 : decode cX0_chance 120 = .ok (.invokevirtual 336, 3) := dk_182 1 80 (dk_at dksX0_chance_5 3 rfl rfl)
theorem dX0_chance_123 : decode cX0_chance 123 = .ok (.istore 7, 2) := dk_54 7 (dk_at dksX0_chance_5 6 rfl rfl)
theorem dX0_chance_125 : decode cX0_chance 125 = .ok (.goto (-73), 3) := dk_167 255 183 (dk_at dksX0_chance_5 8 rfl rfl)
theorem dX0_chance_128 : decode cX0_chance 128 = .ok (.iload_n 1, 1) := dk_27 (dk_at dksX0_chance_5 11 rfl rfl)
theorem dX0_chance_129 : decode cX0_chance 129 = .ok (.ifCond .ne 7, 3) := dk_154 0 7 (dk_at dksX0_chance_5 12 rfl rfl)
theorem dX0_chance_132 : decode cX0_chance 132 = .ok (.lload_n 2, 1) := dk_32 (dk_at dksX0_chance_5 15 rfl rfl)
theorem dX0_chance_133 : decode cX0_chance 133 = .ok (.goto 5, 3) := dk_167 0 5 (dk_at dksX0_chance_5 16 rfl rfl)
theorem dX0_chance_136 : decode cX0_chance 136 = .ok (.lload 4, 2) := dk_22 4 (dk_at dksX0_chance_5 19 rfl rfl)
theorem dX0_chance_138 : decode cX0_chance 138 = .ok (.lload_n 2, 1) := dk_32 (dk_at dksX0_chance_5 21 rfl rfl)
theorem dX0_chance_139 : decode cX0_chance 139 = .ok (.lload 4, 2) := dk_22 4 (dk_at dksX0_chance_5 22 rfl rfl)
theorem dX0_chance_141 : decode cX0_chance 141 = .ok (.invokestatic 355, 3) := dk_184 1 99 (dk_at dksX0_chance_6 0 rfl rfl)
theorem dX0_chance_144 : decode cX0_chance 144 = .ok (.ldiv, 1) := dk_109 (dk_at dksX0_chance_6 3 rfl rfl)
theorem dX0_chance_145 : decode cX0_chance 145 = .ok (.lreturn, 1) := dk_173 (dk_at dksX0_chance_6 4 rfl rfl)

theorem okX0_chance : wOkV yX0_chance cX0_chance 8 (some .long) 1 := ⟨q964, q965, q136, q966, by decide, by decide, by decide +kernel⟩
def gbX0_chance_52 (N : Nat)  (x1_ : Int32) (K : (Int64 → Int64 → wMem → Option (Int64 × wMem))) (rec : (Int64 → Int64 → Int32 → Int32 → wMem → Option (Int64 × wMem))) (x2_ : Int64) (x4_ : Int64) (x6_ : Int32) (x7_ : Int32) (μ : wMem) : Option (Int64 × wMem) :=
  if x7_ = (-1 : Int32) then K x2_ x4_ μ else wLet (fun (x19 : Int64) (x20 : Int64) (x21 : Int32) (μ18 : wMem) => wBindV (fX0_does N  x7_ μ18) fun μ23 => wBind (fX0_step N 20  μ23) fun v26 μ25 => rec x19 x20 x21 v26 μ25) fun Jchance109 => if x7_ = (200 : Int32) then Jchance109 x2_ x4_ x6_ μ else if x6_ = (9 : Int32) then some ((-1), μ) else wLet (x6_ + 1 : Int32) fun x29 => wBind (fX0_personIn N  x7_ μ) fun v32 μ31 => wBind (fX0_postIn N  x7_ μ31) fun v35 μ34 => wBind (fX0_riskOf N  v32 v35 μ34) fun v38 μ37 => wLet (x2_ * (Int32.toInt64 ((100 : Int32) - v38)) : Int64) fun x39 => wLet (x4_ * (100 : Int64) : Int64) fun x40 => Jchance109 x39 x40 x29 μ37
def gX0_chance_52 (N : Nat)  (x1_ : Int32) (K : (Int64 → Int64 → wMem → Option (Int64 × wMem))) : Nat → (Int64 → Int64 → Int32 → Int32 → wMem → Option (Int64 × wMem))
  | 0 => fun _ _ _ _ _ => none
  | k + 1 => gbX0_chance_52 N  x1_ K (gX0_chance_52 N  x1_ K k)
set_option maxHeartbeats 4000000 in
set_option maxRecDepth 100000 in
theorem tX0_chance_52 {p : Program} {l : Launch} {e : Env} {s : State} {m : MethodId} {args : Array Value} {below : List Frame} {meth : Method} {c : Code} {D : va_G} {E : List wCell} {q : Nat → Nat} {ca : wCA} {A : Nat → Prop} (C : wC p ({ frames := 8, cells := 0, slots := 0, locals := 181 } : Room) s m args meth c cX0_chance yX0_chance.cls 8 (some .long) D vwCl (spX ++ E) q ca A) (N : Nat)   (x1_ : Int32) (K : (Int64 → Int64 → wMem → Option (Int64 × wMem))) (r0 : (Int64 × wMem)) (hK : ∀ (y2_ : Int64) (y4_ : Int64) (μ : wMem), K y2_ y4_ μ = some r0 → wJ p l e ({ frames := 8, cells := 0, slots := 0, locals := 181 } : Room) s m args below meth c 8 D vwCl (spX ++ E) q ca A (wQl ({ frames := 8, cells := 0, slots := 0, locals := 181 } : Room) D vwCl (spX ++ E) q ca below args s A r0) 0 0 μ 128 [(1, .int x1_), (2, .long y2_), (4, .long y4_)] []) : ∀ (k : Nat) (x2_ : Int64) (x4_ : Int64) (x6_ : Int32) (x7_ : Int32) (μ : wMem), gX0_chance_52 N  x1_ K k x2_ x4_ x6_ x7_ μ = some r0 → wJ p l e ({ frames := 8, cells := 0, slots := 0, locals := 181 } : Room) s m args below meth c 8 D vwCl (spX ++ E) q ca A (wQl ({ frames := 8, cells := 0, slots := 0, locals := 181 } : Room) D vwCl (spX ++ E) q ca below args s A r0) 0 0 μ 52 [(0, .ref (q 0)), (1, .int x1_), (2, .long x2_), (4, .long x4_), (6, .int x6_), (7, .int x7_)] [] := by
  intro k
  induction k with
  | zero =>
    intro x2_ x4_ x6_ x7_ μ hf
    cases hf
  | succ k ih =>
    intro x2_ x4_ x6_ x7_ μ hf
    replace hf : gbX0_chance_52 N  x1_ K (gX0_chance_52 N  x1_ K k) x2_ x4_ x6_ x7_ μ = some r0 := hf
    unfold gbX0_chance_52 at hf
    refine wr_iload 52 C dX0_chance_52 5 rfl ?_
    refine wr_iconst 54 C dX0_chance_54 (v := (-1)) rfl ?_
    refine wr_icmp_eq 55 128 C dX0_chance_55 (by decide) (fun c17 => ?_) (fun c17 => ?_)
    · replace hf := o_pos c17 hf
      refine wr_sub [(1, .int x1_), (2, .long x2_), (4, .long x4_)] [1, 2, 3] rfl ?_
      exact hK x2_ x4_ μ hf
    · replace hf := o_neg c17 hf
      refine wr_iload 58 C dX0_chance_58 5 rfl ?_
      refine wr_sipush 60 C dX0_chance_60 (v := 200) rfl ?_
      obtain ⟨Jchance109, eJchance109, hf⟩ := o_let hf
      have hJchance109 : ∀ (x19 : Int64) (x20 : Int64) (x21 : Int32) (μ18 : wMem), Jchance109 x19 x20 x21 μ18 = some r0 → wJ p l e ({ frames := 8, cells := 0, slots := 0, locals := 181 } : Room) s m args below meth c 8 D vwCl (spX ++ E) q ca A (wQl ({ frames := 8, cells := 0, slots := 0, locals := 181 } : Room) D vwCl (spX ++ E) q ca below args s A r0) 0 0 μ18 109 [(0, .ref (q 0)), (1, .int x1_), (2, .long x19), (4, .long x20), (6, .int x21), (7, .int x7_)] [] := by
        intro x19 x20 x21 μ18 hf
        rw [eJchance109] at hf
        refine wr_aload_n 109 C dX0_chance_109 0 rfl rfl ?_
        refine wr_iload 110 C dX0_chance_110 5 rfl ?_
        obtain ⟨μ23, h22, hf⟩ := o_bindV hf
        refine wr_Vv (kc1 := 0) (ks1 := 0) 112 [] C dX0_chance_112 (tX0_does l N   x7_ μ18 μ23 h22) okX0_does q755 (b := 0) spX_0 rfl ⟨rfl, rfl, Nat.le_of_ble_eq_true rfl, Nat.le_of_ble_eq_true rfl, Nat.zero_le _, Nat.zero_le _⟩ (Nat.le_of_ble_eq_true rfl) rfl ?_
        refine wr_aload_n 115 C dX0_chance_115 0 rfl rfl ?_
        refine wr_aload_n 116 C dX0_chance_116 0 rfl rfl ?_
        refine gespX_0_14_X0 117 C dX0_chance_117 ?_
        obtain ⟨v26, μ25, h24, hf⟩ := o_bind hf
        refine wr_Vi (kc1 := 0) (ks1 := 0) 120 [] C dX0_chance_120 (tX0_step l N 20   μ23 (v26, μ25) h24) okX0_step q935 (b := 0) spX_0 rfl ⟨rfl, rfl, Nat.le_of_ble_eq_true rfl, Nat.le_of_ble_eq_true rfl, Nat.zero_le _, Nat.zero_le _⟩ (Nat.le_of_ble_eq_true rfl) rfl ?_
        refine wr_istore 123 [(7, .int v26), (0, .ref (q 0)), (1, .int x1_), (2, .long x19), (4, .long x20), (6, .int x21)] C dX0_chance_123 rfl (Nat.le_of_ble_eq_true rfl) rfl ?_
        refine wr_goto 125 C dX0_chance_125 (tgt := 52) (by decide) ?_
        refine wr_sub [(0, .ref (q 0)), (1, .int x1_), (2, .long x19), (4, .long x20), (6, .int x21), (7, .int v26)] [1, 2, 3, 4, 5, 0] rfl ?_
        exact ih x19 x20 x21 v26 μ25 hf
      refine wr_icmp_eq 63 109 C dX0_chance_63 (by decide) (fun c27 => ?_) (fun c27 => ?_)
      · replace hf := o_pos c27 hf
        exact hJchance109 x2_ x4_ x6_ μ hf
      · replace hf := o_neg c27 hf
        refine wr_iload 66 C dX0_chance_66 4 rfl ?_
        refine wr_bipush 68 C dX0_chance_68 (v := 9) rfl ?_
        refine wr_icmp_ne 70 77 C dX0_chance_70 (by decide) (fun c28 => ?_) (fun c28 => ?_)
        · replace hf := o_neg c28 hf
          obtain ⟨x29, ex29, hf⟩ := o_let hf
          refine wr_iinc 77 [(6, .int x29), (0, .ref (q 0)), (1, .int x1_), (2, .long x2_), (4, .long x4_), (7, .int x7_)] C dX0_chance_77 4 rfl (ex29.trans rfl) (Nat.le_of_ble_eq_true rfl) rfl ?_
          refine wr_lload_n 80 C dX0_chance_80 3 rfl rfl ?_
          refine wr_bipush 81 C dX0_chance_81 (v := 100) rfl ?_
          refine wr_aload_n 83 C dX0_chance_83 1 rfl rfl ?_
          refine wr_iload 84 C dX0_chance_84 5 rfl ?_
          obtain ⟨v32, μ31, h30, hf⟩ := o_bind hf
          refine wr_Si (kc1 := 0) (ks1 := 0) 86 [.ref (q 0), .int 100, .long x2_] C dX0_chance_86 (tX0_personIn l N   x7_ μ (v32, μ31) h30) okX0_personIn q749 ⟨rfl, rfl, Nat.le_of_ble_eq_true rfl, Nat.le_of_ble_eq_true rfl, Nat.zero_le _, Nat.zero_le _⟩ (Nat.le_of_ble_eq_true rfl) rfl ?_
          refine wr_iload 89 C dX0_chance_89 5 rfl ?_
          obtain ⟨v35, μ34, h33, hf⟩ := o_bind hf
          refine wr_Si (kc1 := 0) (ks1 := 0) 91 [.int v32, .ref (q 0), .int 100, .long x2_] C dX0_chance_91 (tX0_postIn l N   x7_ μ31 (v35, μ34) h33) okX0_postIn q752 ⟨rfl, rfl, Nat.le_of_ble_eq_true rfl, Nat.le_of_ble_eq_true rfl, Nat.zero_le _, Nat.zero_le _⟩ (Nat.le_of_ble_eq_true rfl) rfl ?_
          obtain ⟨v38, μ37, h36, hf⟩ := o_bind hf
          refine wr_Vi (kc1 := 0) (ks1 := 0) 94 [.int 100, .long x2_] C dX0_chance_94 (tX0_riskOf l N   v32 v35 μ34 (v38, μ37) h36) okX0_riskOf q710 (b := 0) spX_0 rfl ⟨rfl, rfl, Nat.le_of_ble_eq_true rfl, Nat.le_of_ble_eq_true rfl, Nat.zero_le _, Nat.zero_le _⟩ (Nat.le_of_ble_eq_true rfl) rfl ?_
          refine wr_isub 97 C dX0_chance_97 ?_
          refine wr_i2l 98 C dX0_chance_98 ?_
          refine wr_lmul 99 C dX0_chance_99 ?_
          obtain ⟨x39, ex39, hf⟩ := o_let hf
          refine wr_lstore_n 100 [(2, .long x39), (6, .int x29), (0, .ref (q 0)), (1, .int x1_), (4, .long x4_), (7, .int x7_)] C dX0_chance_100 ex39 rfl (Nat.le_of_ble_eq_true rfl) rfl ?_
          refine wr_lload 101 C dX0_chance_101 4 rfl ?_
          refine wr_ldc2 103 C dX0_chance_103 q969 ?_
          refine wr_lmul 106 C dX0_chance_106 ?_
          obtain ⟨x40, ex40, hf⟩ := o_let hf
          refine wr_lstore 107 [(4, .long x40), (2, .long x39), (6, .int x29), (0, .ref (q 0)), (1, .int x1_), (7, .int x7_)] C dX0_chance_107 ex40 (Nat.le_of_ble_eq_true rfl) rfl ?_
          refine wr_sub [(0, .ref (q 0)), (1, .int x1_), (2, .long x39), (4, .long x40), (6, .int x29), (7, .int x7_)] [3, 4, 1, 0, 2, 5] rfl ?_
          exact hJchance109 x39 x40 x29 μ37 hf
        · replace hf := o_pos c28 hf
          refine wr_ldc2 73 C dX0_chance_73 q968 ?_
          exact wr_lret 76 C dX0_chance_76 ⟨Nat.zero_le _, Nat.zero_le _⟩ (Option.some.inj hf)
def fX0_chance (N : Nat)  (a1 : Int32) (μ : wMem) : Option (Int64 × wMem) :=
  wBind (fX0_isFamily N   μ) fun v3 μ2 => wLet (fun  (μ4 : wMem) => some ((-2), μ4)) fun Jchance15 => if v3 = 0 then Jchance15  μ2 else wBind (fX0_isOneOf N  a1 2 μ2) fun v8 μ7 => if v8 = 0 then Jchance15  μ7 else wBind (fX0_marks N 20  μ7) fun v12 μ11 => if v12 = 0 then some ((-1), μ11) else wBind (fX0_step N 20  μ11) fun v16 μ15 => gX0_chance_52 N  a1 (fun (x42 : Int64) (x43 : Int64) (μ41 : wMem) => wLet (fun (v45 : Int64) (μ44 : wMem) => wBind (fX0_divisor N  x42 x43 μ44) fun v48 μ47 => wG (ok_nzL v48) (some (v45 / v48, μ47))) fun Jchance138 => if a1 = 0 then Jchance138 x42 μ41 else Jchance138 x43 μ41) N 1 1 0 v16 μ15
set_option maxHeartbeats 4000000 in
set_option maxRecDepth 100000 in
theorem tX0_chance (l : Launch) {D : va_G} {E : List wCell} {q : Nat → Nat} {ca : wCA} (N : Nat)   (a1 : Int32) (μ : wMem) (r0 : (Int64 × wMem)) (hf : fX0_chance N  a1 μ = some r0) : wMl l yX0_chance cX0_chance 8 (some .long) ({ frames := 8, cells := 0, slots := 0, locals := 181 } : Room) D vwCl (spX ++ E) q ca [.ref (q 0), .int a1] μ r0 := by
  refine wMl_intro (by decide) (Nat.le_of_ble_eq_true rfl) ?_
  intro p e s m args below meth c A C
  unfold fX0_chance at hf
  refine wr_sub [(0, .ref (q 0)), (1, .int a1)] [0, 1] rfl ?_
  refine wr_aload_n 0 C dX0_chance_0 0 rfl rfl ?_
  obtain ⟨v3, μ2, h1, hf⟩ := o_bind hf
  refine wr_Vi (kc1 := 0) (ks1 := 0) 1 [] C dX0_chance_1 (tX0_isFamily l N    μ (v3, μ2) h1) okX0_isFamily q770 (b := 0) spX_0 rfl ⟨rfl, rfl, Nat.le_of_ble_eq_true rfl, Nat.le_of_ble_eq_true rfl, Nat.zero_le _, Nat.zero_le _⟩ (Nat.le_of_ble_eq_true rfl) rfl ?_
  obtain ⟨Jchance15, eJchance15, hf⟩ := o_let hf
  have hJchance15 : ∀  (μ4 : wMem), Jchance15  μ4 = some r0 → wJ p l e ({ frames := 8, cells := 0, slots := 0, locals := 181 } : Room) s m args below meth c 8 D vwCl (spX ++ E) q ca A (wQl ({ frames := 8, cells := 0, slots := 0, locals := 181 } : Room) D vwCl (spX ++ E) q ca below args s A r0) 0 0 μ4 15 [] [] := by
    intro  μ4 hf
    rw [eJchance15] at hf
    refine wr_ldc2 15 C dX0_chance_15 q967 ?_
    exact wr_lret 18 C dX0_chance_18 ⟨Nat.zero_le _, Nat.zero_le _⟩ (Option.some.inj hf)
  refine wr_if_eq 4 15 C dX0_chance_4 (by decide) (fun c5 => ?_) (fun c5 => ?_)
  · replace hf := o_pos c5 hf
    refine wr_sub [] [] rfl ?_
    exact hJchance15  μ2 hf
  · replace hf := o_neg c5 hf
    refine wr_iload_n 7 C dX0_chance_7 1 rfl rfl ?_
    refine wr_iconst 8 C dX0_chance_8 (v := 2) rfl ?_
    obtain ⟨v8, μ7, h6, hf⟩ := o_bind hf
    refine wr_Si (kc1 := 0) (ks1 := 0) 9 [] C dX0_chance_9 (tX0_isOneOf l N   a1 2 μ2 (v8, μ7) h6) okX0_isOneOf q734 ⟨rfl, rfl, Nat.le_of_ble_eq_true rfl, Nat.le_of_ble_eq_true rfl, Nat.zero_le _, Nat.zero_le _⟩ (Nat.le_of_ble_eq_true rfl) rfl ?_
    refine wr_if_ne 12 19 C dX0_chance_12 (by decide) (fun c9 => ?_) (fun c9 => ?_)
    · replace hf := o_neg c9 hf
      refine wr_aload_n 19 C dX0_chance_19 0 rfl rfl ?_
      refine wr_aload_n 20 C dX0_chance_20 0 rfl rfl ?_
      refine gespX_0_14_X0 21 C dX0_chance_21 ?_
      obtain ⟨v12, μ11, h10, hf⟩ := o_bind hf
      refine wr_Vi (kc1 := 0) (ks1 := 0) 24 [] C dX0_chance_24 (tX0_marks l N 20   μ7 (v12, μ11) h10) okX0_marks q927 (b := 0) spX_0 rfl ⟨rfl, rfl, Nat.le_of_ble_eq_true rfl, Nat.le_of_ble_eq_true rfl, Nat.zero_le _, Nat.zero_le _⟩ (Nat.le_of_ble_eq_true rfl) rfl ?_
      refine wr_if_ne 27 34 C dX0_chance_27 (by decide) (fun c13 => ?_) (fun c13 => ?_)
      · replace hf := o_neg c13 hf
        refine wr_lconst 34 C dX0_chance_34 (v := 1) rfl ?_
        refine wr_lstore_n 35 [(2, .long 1), (0, .ref (q 0)), (1, .int a1)] C dX0_chance_35 rfl rfl (Nat.le_of_ble_eq_true rfl) rfl ?_
        refine wr_lconst 36 C dX0_chance_36 (v := 1) rfl ?_
        refine wr_lstore 37 [(4, .long 1), (2, .long 1), (0, .ref (q 0)), (1, .int a1)] C dX0_chance_37 rfl (Nat.le_of_ble_eq_true rfl) rfl ?_
        refine wr_iconst 39 C dX0_chance_39 (v := 0) rfl ?_
        refine wr_istore 40 [(6, .int 0), (4, .long 1), (2, .long 1), (0, .ref (q 0)), (1, .int a1)] C dX0_chance_40 rfl (Nat.le_of_ble_eq_true rfl) rfl ?_
        refine wr_aload_n 42 C dX0_chance_42 3 rfl rfl ?_
        refine wr_aload_n 43 C dX0_chance_43 3 rfl rfl ?_
        refine gespX_0_14_X0 44 C dX0_chance_44 ?_
        obtain ⟨v16, μ15, h14, hf⟩ := o_bind hf
        refine wr_Vi (kc1 := 0) (ks1 := 0) 47 [] C dX0_chance_47 (tX0_step l N 20   μ11 (v16, μ15) h14) okX0_step q935 (b := 0) spX_0 rfl ⟨rfl, rfl, Nat.le_of_ble_eq_true rfl, Nat.le_of_ble_eq_true rfl, Nat.zero_le _, Nat.zero_le _⟩ (Nat.le_of_ble_eq_true rfl) rfl ?_
        refine wr_istore 50 [(7, .int v16), (6, .int 0), (4, .long 1), (2, .long 1), (0, .ref (q 0)), (1, .int a1)] C dX0_chance_50 rfl (Nat.le_of_ble_eq_true rfl) rfl ?_
        refine wr_sub [(0, .ref (q 0)), (1, .int a1), (2, .long 1), (4, .long 1), (6, .int 0), (7, .int v16)] [4, 5, 3, 2, 1, 0] rfl ?_
        refine tX0_chance_52 C N   a1 _ r0 (fun x42 x43 μ41 hf => ?_) N 1 1 0 v16 μ15 hf
        · replace hf := hf
          refine wr_iload_n 128 C dX0_chance_128 0 rfl rfl ?_
          obtain ⟨Jchance138, eJchance138, hf⟩ := o_let hf
          have hJchance138 : ∀ (v45 : Int64) (μ44 : wMem), Jchance138 v45 μ44 = some r0 → wJ p l e ({ frames := 8, cells := 0, slots := 0, locals := 181 } : Room) s m args below meth c 8 D vwCl (spX ++ E) q ca A (wQl ({ frames := 8, cells := 0, slots := 0, locals := 181 } : Room) D vwCl (spX ++ E) q ca below args s A r0) 0 0 μ44 138 [(2, .long x42), (4, .long x43)] [.long v45] := by
            intro v45 μ44 hf
            rw [eJchance138] at hf
            refine wr_lload_n 138 C dX0_chance_138 0 rfl rfl ?_
            refine wr_lload 139 C dX0_chance_139 1 rfl ?_
            obtain ⟨v48, μ47, h46, hf⟩ := o_bind hf
            refine wr_Sl (kc1 := 0) (ks1 := 0) 141 [.long v45] C dX0_chance_141 (tX0_divisor l N   x42 x43 μ44 (v48, μ47) h46) okX0_divisor q970 ⟨rfl, rfl, Nat.le_of_ble_eq_true rfl, Nat.le_of_ble_eq_true rfl, Nat.zero_le _, Nat.zero_le _⟩ (Nat.le_of_ble_eq_true rfl) rfl ?_
            obtain ⟨g49, hf⟩ := o_g hf
            refine wr_ldiv 144 C dX0_chance_144 (ok_nzL_ne g49) ?_
            exact wr_lret 145 C dX0_chance_145 ⟨Nat.zero_le _, Nat.zero_le _⟩ (Option.some.inj hf)
          refine wr_if_ne 129 136 C dX0_chance_129 (by decide) (fun c50 => ?_) (fun c50 => ?_)
          · replace hf := o_neg c50 hf
            refine wr_lload 136 C dX0_chance_136 2 rfl ?_
            refine wr_sub [(2, .long x42), (4, .long x43)] [1, 2] rfl ?_
            exact hJchance138 x43 μ41 hf
          · replace hf := o_pos c50 hf
            refine wr_lload_n 132 C dX0_chance_132 1 rfl rfl ?_
            refine wr_goto 133 C dX0_chance_133 (tgt := 138) (by decide) ?_
            refine wr_sub [(2, .long x42), (4, .long x43)] [1, 2] rfl ?_
            exact hJchance138 x42 μ41 hf
      · replace hf := o_pos c13 hf
        refine wr_ldc2 30 C dX0_chance_30 q968 ?_
        exact wr_lret 33 C dX0_chance_33 ⟨Nat.zero_le _, Nat.zero_le _⟩ (Option.some.inj hf)
    · replace hf := o_pos c9 hf
      refine wr_sub [] [] rfl ?_
      exact hJchance15  μ7 hf
abbrev cX0_settlesAll : ByteArray := prog_1_method_74_code
def yX0_settlesAll : MethodName := ⟨RX0, "settlesAll", "()V"⟩
def dkwX0_settlesAll_0 : List UInt8 := [42, 182, 0, 222, 42, 42, 180, 0, 33, 182, 1, 60, 177]
abbrev dktX0_settlesAll_0 : List UInt8 := dkwX0_settlesAll_0 ++ []
theorem dksX0_settlesAll_0 : cX0_settlesAll.data.toList.drop 0 = dktX0_settlesAll_0 := by decide +kernel
theorem dX0_settlesAll_0 : decode cX0_settlesAll 0 = .ok (.aload_n 0, 1) := dk_42 (dk_at dksX0_settlesAll_0 0 rfl rfl)
theorem dX0_settlesAll_1 : decode cX0_settlesAll 1 = .ok (.invokevirtual 222, 3) := dk_182 0 222 (dk_at dksX0_settlesAll_0 1 rfl rfl)
theorem dX0_settlesAll_4 : decode cX0_settlesAll 4 = .ok (.aload_n 0, 1) := dk_42 (dk_at dksX0_settlesAll_0 4 rfl rfl)
theorem dX0_settlesAll_5 : decode cX0_settlesAll 5 = .ok (.aload_n 0, 1) := dk_42 (dk_at dksX0_settlesAll_0 5 rfl rfl)
theorem dX0_settlesAll_6 : decode cX0_settlesAll 6 = .ok (.getfield 33, 3) := dk_180 0 33 (dk_at dksX0_settlesAll_0 6 rfl rfl)
theorem dX0_settlesAll_9 : decode cX0_settlesAll 9 = .ok (.invokevirtual 316, 3) := dk_182 1 60 (dk_at dksX0_settlesAll_0 9 rfl rfl)
theorem dX0_settlesAll_12 : decode cX0_settlesAll 12 = .ok (.return_, 1) := dk_177 (dk_at dksX0_settlesAll_0 12 rfl rfl)

theorem okX0_settlesAll : wOkV yX0_settlesAll cX0_settlesAll 1 none 0 := ⟨q979, qs49, q136, q980, by decide, by decide, by decide +kernel⟩
def fX0_settlesAll (N : Nat)   (μ : wMem) : Option wMem :=
  wBindV (fX0_asAtFirst N   μ) fun μ2 => wBindV (fX0_settles N 19  μ2) fun μ4 => some μ4
set_option maxHeartbeats 4000000 in
set_option maxRecDepth 100000 in
theorem tX0_settlesAll (l : Launch) {D : va_G} {E : List wCell} {q : Nat → Nat} {ca : wCA} (N : Nat)    (μ : wMem) (r0 : wMem) (hf : fX0_settlesAll N   μ = some r0) : wMv l yX0_settlesAll cX0_settlesAll 1 none ({ frames := 6, cells := 0, slots := 0, locals := 134 } : Room) D vwCl (spX ++ E) q ca [.ref (q 0)] μ r0 := by
  refine wMv_intro (by decide) (Nat.le_of_ble_eq_true rfl) ?_
  intro p e s m args below meth c A C
  unfold fX0_settlesAll at hf
  refine wr_sub [(0, .ref (q 0))] [0] rfl ?_
  refine wr_aload_n 0 C dX0_settlesAll_0 0 rfl rfl ?_
  obtain ⟨μ2, h1, hf⟩ := o_bindV hf
  refine wr_Vv (kc1 := 0) (ks1 := 0) 1 [] C dX0_settlesAll_1 (tX0_asAtFirst l N    μ μ2 h1) okX0_asAtFirst q741 (b := 0) spX_0 rfl ⟨rfl, rfl, Nat.le_of_ble_eq_true rfl, Nat.le_of_ble_eq_true rfl, Nat.zero_le _, Nat.zero_le _⟩ (Nat.le_of_ble_eq_true rfl) rfl ?_
  refine wr_aload_n 4 C dX0_settlesAll_4 0 rfl rfl ?_
  refine wr_aload_n 5 C dX0_settlesAll_5 0 rfl rfl ?_
  refine gespX_0_13_X0 6 C dX0_settlesAll_6 ?_
  obtain ⟨μ4, h3, hf⟩ := o_bindV hf
  refine wr_Vv (kc1 := 0) (ks1 := 0) 9 [] C dX0_settlesAll_9 (tX0_settles l N 19   μ2 μ4 h3) okX0_settles q860 (b := 0) spX_0 rfl ⟨rfl, rfl, Nat.le_of_ble_eq_true rfl, Nat.le_of_ble_eq_true rfl, Nat.zero_le _, Nat.zero_le _⟩ (Nat.le_of_ble_eq_true rfl) rfl ?_
  exact wr_vret 12 C dX0_settlesAll_12 ⟨Nat.zero_le _, Nat.zero_le _⟩ (Option.some.inj hf)
abbrev cX0_states : ByteArray := prog_1_method_75_code
def yX0_states : MethodName := ⟨RX0, "states", "()I"⟩
def dkwX0_states_0 : List UInt8 := [42, 182, 0, 252, 154, 0, 6, 16, 254, 172, 42, 182, 1, 103, 42, 180, 1, 39, 172]
abbrev dktX0_states_0 : List UInt8 := dkwX0_states_0 ++ []
theorem dksX0_states_0 : cX0_states.data.toList.drop 0 = dktX0_states_0 := by decide +kernel
theorem dX0_states_0 : decode cX0_states 0 = .ok (.aload_n 0, 1) := dk_42 (dk_at dksX0_states_0 0 rfl rfl)
theorem dX0_states_1 : decode cX0_states 1 = .ok (.invokevirtual 252, 3) := dk_182 0 252 (dk_at dksX0_states_0 1 rfl rfl)
theorem dX0_states_4 : decode cX0_states 4 = .ok (.ifCond .ne 6, 3) := dk_154 0 6 (dk_at dksX0_states_0 4 rfl rfl)
theorem dX0_states_7 : decode cX0_states 7 = .ok (.bipush (-2), 2) := dk_16 254 (dk_at dksX0_states_0 7 rfl rfl)
theorem dX0_states_9 : decode cX0_states 9 = .ok (.ireturn, 1) := dk_172 (dk_at dksX0_states_0 9 rfl rfl)
theorem dX0_states_10 : decode cX0_states 10 = .ok (.aload_n 0, 1) := dk_42 (dk_at dksX0_states_0 10 rfl rfl)
theorem dX0_states_11 : decode cX0_states 11 = .ok (.invokevirtual 359, 3) := dk_182 1 103 (dk_at dksX0_states_0 11 rfl rfl)
theorem dX0_states_14 : decode cX0_states 14 = .ok (.aload_n 0, 1) := dk_42 (dk_at dksX0_states_0 14 rfl rfl)
theorem dX0_states_15 : decode cX0_states 15 = .ok (.getfield 295, 3) := dk_180 1 39 (dk_at dksX0_states_0 15 rfl rfl)
theorem dX0_states_18 : decode cX0_states 18 = .ok (.ireturn, 1) := dk_172 (dk_at dksX0_states_0 18 rfl rfl)

theorem okX0_states : wOkV yX0_states cX0_states 1 (some .int) 0 := ⟨q974, q975, q136, q976, by decide, by decide, by decide +kernel⟩
def fX0_states (N : Nat)   (μ : wMem) : Option (Int32 × wMem) :=
  wBind (fX0_isFamily N   μ) fun v3 μ2 => if v3 = 0 then some ((-2), μ2) else wBindV (fX0_settlesAll N   μ2) fun μ6 => some (μ6.1 0 21, μ6)
set_option maxHeartbeats 4000000 in
set_option maxRecDepth 100000 in
theorem tX0_states (l : Launch) {D : va_G} {E : List wCell} {q : Nat → Nat} {ca : wCA} (N : Nat)    (μ : wMem) (r0 : (Int32 × wMem)) (hf : fX0_states N   μ = some r0) : wMi l yX0_states cX0_states 1 (some .int) ({ frames := 7, cells := 0, slots := 0, locals := 154 } : Room) D vwCl (spX ++ E) q ca [.ref (q 0)] μ r0 := by
  refine wMi_intro (by decide) (Nat.le_of_ble_eq_true rfl) ?_
  intro p e s m args below meth c A C
  unfold fX0_states at hf
  refine wr_sub [(0, .ref (q 0))] [0] rfl ?_
  refine wr_aload_n 0 C dX0_states_0 0 rfl rfl ?_
  obtain ⟨v3, μ2, h1, hf⟩ := o_bind hf
  refine wr_Vi (kc1 := 0) (ks1 := 0) 1 [] C dX0_states_1 (tX0_isFamily l N    μ (v3, μ2) h1) okX0_isFamily q770 (b := 0) spX_0 rfl ⟨rfl, rfl, Nat.le_of_ble_eq_true rfl, Nat.le_of_ble_eq_true rfl, Nat.zero_le _, Nat.zero_le _⟩ (Nat.le_of_ble_eq_true rfl) rfl ?_
  refine wr_if_ne 4 10 C dX0_states_4 (by decide) (fun c4 => ?_) (fun c4 => ?_)
  · replace hf := o_neg c4 hf
    refine wr_aload_n 10 C dX0_states_10 0 rfl rfl ?_
    obtain ⟨μ6, h5, hf⟩ := o_bindV hf
    refine wr_Vv (kc1 := 0) (ks1 := 0) 11 [] C dX0_states_11 (tX0_settlesAll l N    μ2 μ6 h5) okX0_settlesAll q977 (b := 0) spX_0 rfl ⟨rfl, rfl, Nat.le_of_ble_eq_true rfl, Nat.le_of_ble_eq_true rfl, Nat.zero_le _, Nat.zero_le _⟩ (Nat.le_of_ble_eq_true rfl) rfl ?_
    refine wr_aload_n 14 C dX0_states_14 0 rfl rfl ?_
    refine gespX_0_21_X0 15 C dX0_states_15 ?_
    exact wr_iret 18 C dX0_states_18 ⟨Nat.zero_le _, Nat.zero_le _⟩ (Option.some.inj hf)
  · replace hf := o_pos c4 hf
    refine wr_bipush 7 C dX0_states_7 (v := (-2)) rfl ?_
    exact wr_iret 9 C dX0_states_9 ⟨Nat.zero_le _, Nat.zero_le _⟩ (Option.some.inj hf)
abbrev cX0_leadsOn : ByteArray := prog_1_method_77_code
def yX0_leadsOn : MethodName := ⟨RX0, "leadsOn", "(I)Z"⟩
def dkwX0_leadsOn_2 : List UInt8 := [167, 255, 221, 42, 180, 0, 64, 27, 28, 84, 28, 172]
abbrev dktX0_leadsOn_2 : List UInt8 := dkwX0_leadsOn_2 ++ []
def dkwX0_leadsOn_1 : List UInt8 := [42, 180, 0, 64, 42, 29, 182, 1, 74, 51, 61, 42, 27, 182, 1, 51, 42, 29, 4, 96, 182, 1, 25, 62]
abbrev dktX0_leadsOn_1 : List UInt8 := dkwX0_leadsOn_1 ++ dktX0_leadsOn_2
def dkwX0_leadsOn_0 : List UInt8 := [42, 27, 182, 1, 51, 3, 61, 42, 3, 182, 1, 25, 62, 29, 17, 0, 200, 163, 0, 34, 28, 154, 0, 30]
abbrev dktX0_leadsOn_0 : List UInt8 := dkwX0_leadsOn_0 ++ dktX0_leadsOn_1
theorem dksX0_leadsOn_0 : cX0_leadsOn.data.toList.drop 0 = dktX0_leadsOn_0 := by decide +kernel
theorem dksX0_leadsOn_1 : cX0_leadsOn.data.toList.drop 24 = dktX0_leadsOn_1 := dk_seg dksX0_leadsOn_0 24 rfl rfl
theorem dksX0_leadsOn_2 : cX0_leadsOn.data.toList.drop 48 = dktX0_leadsOn_2 := dk_seg dksX0_leadsOn_1 24 rfl rfl
theorem dX0_leadsOn_0 : decode cX0_leadsOn 0 = .ok (.aload_n 0, 1) := dk_42 (dk_at dksX0_leadsOn_0 0 rfl rfl)
theorem dX0_leadsOn_1 : decode cX0_leadsOn 1 = .ok (.iload_n 1, 1) := dk_27 (dk_at dksX0_leadsOn_0 1 rfl rfl)
theorem dX0_leadsOn_2 : decode cX0_leadsOn 2 = .ok (.invokevirtual 307, 3) := dk_182 1 51 (dk_at dksX0_leadsOn_0 2 rfl rfl)
theorem dX0_leadsOn_5 : decode cX0_leadsOn 5 = .ok (.iconst 0, 1) := dk_3 (dk_at dksX0_leadsOn_0 5 rfl rfl)
theorem dX0_leadsOn_6 : decode cX0_leadsOn 6 = .ok (.istore_n 2, 1) := dk_61 (dk_at dksX0_leadsOn_0 6 rfl rfl)
theorem dX0_leadsOn_7 : decode cX0_leadsOn 7 = .ok (.aload_n 0, 1) := dk_42 (dk_at dksX0_leadsOn_0 7 rfl rfl)
theorem dX0_leadsOn_8 : decode cX0_leadsOn 8 = .ok (.iconst 0, 1) := dk_3 (dk_at dksX0_leadsOn_0 8 rfl rfl)
theorem dX0_leadsOn_9 : decode cX0_leadsOn 9 = .ok (.invokevirtual 281, 3) := dk_182 1 25 (dk_at dksX0_leadsOn_0 9 rfl rfl)
theorem dX0_leadsOn_12 : decode cX0_leadsOn 12 = .ok (.istore_n 3, 1) := dk_62 (dk_at dksX0_leadsOn_0 12 rfl rfl)
theorem dX0_leadsOn_13 : decode cX0_leadsOn 13 = .ok (.iload_n 3, 1) := dk_29 (dk_at dksX0_leadsOn_0 13 rfl rfl)
theorem dX0_leadsOn_14 : decode cX0_leadsOn 14 = .ok (.sipush 200, 3) := dk_17 0 200 (dk_at dksX0_leadsOn_0 14 rfl rfl)
theorem dX0_leadsOn_17 : decode cX0_leadsOn 17 = .ok (.if_icmp .gt 34, 3) := dk_163 0 34 (dk_at dksX0_leadsOn_0 17 rfl rfl)
theorem dX0_leadsOn_20 : decode cX0_leadsOn 20 = .ok (.iload_n 2, 1) := dk_28 (dk_at dksX0_leadsOn_0 20 rfl rfl)
theorem dX0_leadsOn_21 : decode cX0_leadsOn 21 = .ok (.ifCond .ne 30, 3) := dk_154 0 30 (dk_at dksX0_leadsOn_0 21 rfl rfl)
theorem dX0_leadsOn_24 : decode cX0_leadsOn 24 = .ok (.aload_n 0, 1) := dk_42 (dk_at dksX0_leadsOn_1 0 rfl rfl)
theorem dX0_leadsOn_25 : decode cX0_leadsOn 25 = .ok (.getfield 64, 3) := dk_180 0 64 (dk_at dksX0_leadsOn_1 1 rfl rfl)
theorem dX0_leadsOn_28 : decode cX0_leadsOn 28 = .ok (.aload_n 0, 1) := dk_42 (dk_at dksX0_leadsOn_1 4 rfl rfl)
theorem dX0_leadsOn_29 : decode cX0_leadsOn 29 = .ok (.iload_n 3, 1) := dk_29 (dk_at dksX0_leadsOn_1 5 rfl rfl)
theorem dX0_leadsOn_30 : decode cX0_leadsOn 30 = .ok (.invokevirtual 330, 3) := dk_182 1 74 (dk_at dksX0_leadsOn_1 6 rfl rfl)
theorem dX0_leadsOn_33 : decode cX0_leadsOn 33 = .ok (.baload, 1) := dk_51 (dk_at dksX0_leadsOn_1 9 rfl rfl)
theorem dX0_leadsOn_34 : decode cX0_leadsOn 34 = .ok (.istore_n 2, 1) := dk_61 (dk_at dksX0_leadsOn_1 10 rfl rfl)
theorem dX0_leadsOn_35 : decode cX0_leadsOn 35 = .ok (.aload_n 0, 1) := dk_42 (dk_at dksX0_leadsOn_1 11 rfl rfl)
theorem dX0_leadsOn_36 : decode cX0_leadsOn 36 = .ok (.iload_n 1, 1) := dk_27 (dk_at dksX0_leadsOn_1 12 rfl rfl)
theorem dX0_leadsOn_37 : decode cX0_leadsOn 37 = .ok (.invokevirtual 307, 3) := dk_182 1 51 (dk_at dksX0_leadsOn_1 13 rfl rfl)
theorem dX0_leadsOn_40 : decode cX0_leadsOn 40 = .ok (.aload_n 0, 1) := dk_42 (dk_at dksX0_leadsOn_1 16 rfl rfl)
theorem dX0_leadsOn_41 : decode cX0_leadsOn 41 = .ok (.iload_n 3, 1) := dk_29 (dk_at dksX0_leadsOn_1 17 rfl rfl)
theorem dX0_leadsOn_42 : decode cX0_leadsOn 42 = .ok (.iconst 1, 1) := dk_4 (dk_at dksX0_leadsOn_1 18 rfl rfl)
theorem dX0_leadsOn_43 : decode cX0_leadsOn 43 = .ok (.iadd, 1) := dk_96 (dk_at dksX0_leadsOn_1 19 rfl rfl)
theorem dX0_leadsOn_44 : decode cX0_leadsOn 44 = .ok (.invokevirtual 281, 3) := dk_182 1 25 (dk_at dksX0_leadsOn_1 20 rfl rfl)
theorem dX0_leadsOn_47 : decode cX0_leadsOn 47 = .ok (.istore_n 3, 1) := dk_62 (dk_at dksX0_leadsOn_1 23 rfl rfl)
theorem dX0_leadsOn_48 : decode cX0_leadsOn 48 = .ok (.goto (-35), 3) := dk_167 255 221 (dk_at dksX0_leadsOn_2 0 rfl rfl)
theorem dX0_leadsOn_51 : decode cX0_leadsOn 51 = .ok (.aload_n 0, 1) := dk_42 (dk_at dksX0_leadsOn_2 3 rfl rfl)
theorem dX0_leadsOn_52 : decode cX0_leadsOn 52 = .ok (.getfield 64, 3) := dk_180 0 64 (dk_at dksX0_leadsOn_2 4 rfl rfl)
theorem dX0_leadsOn_55 : decode cX0_leadsOn 55 = .ok (.iload_n 1, 1) := dk_27 (dk_at dksX0_leadsOn_2 7 rfl rfl)
theorem dX0_leadsOn_56 : decode cX0_leadsOn 56 = .ok (.iload_n 2, 1) := dk_28 (dk_at dksX0_leadsOn_2 8 rfl rfl)
theorem dX0_leadsOn_57 : decode cX0_leadsOn 57 = .ok (.bastore, 1) := dk_84 (dk_at dksX0_leadsOn_2 9 rfl rfl)
theorem dX0_leadsOn_58 : decode cX0_leadsOn 58 = .ok (.iload_n 2, 1) := dk_28 (dk_at dksX0_leadsOn_2 10 rfl rfl)
theorem dX0_leadsOn_59 : decode cX0_leadsOn 59 = .ok (.ireturn, 1) := dk_172 (dk_at dksX0_leadsOn_2 11 rfl rfl)

theorem okX0_leadsOn : wOkV yX0_leadsOn cX0_leadsOn 4 (some .boolean) 1 := ⟨q987, qs50, q136, q988, by decide, by decide, by decide +kernel⟩
def gbX0_leadsOn_13 (N : Nat)  (x1_ : Int32) (K : (Int32 → wMem → Option (Int32 × wMem))) (rec : (Int32 → Int32 → wMem → Option (Int32 × wMem))) (x2_ : Int32) (x3_ : Int32) (μ : wMem) : Option (Int32 × wMem) :=
  if (200 : Int32) < x3_ then K x2_ μ else if x2_ = 0 then wBind (fX0_nextBy N  x3_ μ) fun v10 μ9 => wG (ok_in v10 100352) (wLet (μ9.1 14 (Int32.toNatClampNeg v10) : Int32) fun x12 => wBindV (fX0_be N  x1_ μ9) fun μ14 => wBind (fX0_nextAct N  (x3_ + (1 : Int32)) μ14) fun v17 μ16 => rec x12 v17 μ16) else K x2_ μ
def gX0_leadsOn_13 (N : Nat)  (x1_ : Int32) (K : (Int32 → wMem → Option (Int32 × wMem))) : Nat → (Int32 → Int32 → wMem → Option (Int32 × wMem))
  | 0 => fun _ _ _ => none
  | k + 1 => gbX0_leadsOn_13 N  x1_ K (gX0_leadsOn_13 N  x1_ K k)
set_option maxHeartbeats 4000000 in
set_option maxRecDepth 100000 in
theorem tX0_leadsOn_13 {p : Program} {l : Launch} {e : Env} {s : State} {m : MethodId} {args : Array Value} {below : List Frame} {meth : Method} {c : Code} {D : va_G} {E : List wCell} {q : Nat → Nat} {ca : wCA} {A : Nat → Prop} (C : wC p ({ frames := 5, cells := 0, slots := 0, locals := 111 } : Room) s m args meth c cX0_leadsOn yX0_leadsOn.cls 4 (some .boolean) D vwCl (spX ++ E) q ca A) (N : Nat)   (x1_ : Int32) (K : (Int32 → wMem → Option (Int32 × wMem))) (r0 : (Int32 × wMem)) (hK : ∀ (y2_ : Int32) (μ : wMem), K y2_ μ = some r0 → wJ p l e ({ frames := 5, cells := 0, slots := 0, locals := 111 } : Room) s m args below meth c 4 D vwCl (spX ++ E) q ca A (wQi ({ frames := 5, cells := 0, slots := 0, locals := 111 } : Room) D vwCl (spX ++ E) q ca below args s A r0) 0 0 μ 51 [(0, .ref (q 0)), (1, .int x1_), (2, .int y2_)] []) : ∀ (k : Nat) (x2_ : Int32) (x3_ : Int32) (μ : wMem), gX0_leadsOn_13 N  x1_ K k x2_ x3_ μ = some r0 → wJ p l e ({ frames := 5, cells := 0, slots := 0, locals := 111 } : Room) s m args below meth c 4 D vwCl (spX ++ E) q ca A (wQi ({ frames := 5, cells := 0, slots := 0, locals := 111 } : Room) D vwCl (spX ++ E) q ca below args s A r0) 0 0 μ 13 [(0, .ref (q 0)), (1, .int x1_), (2, .int x2_), (3, .int x3_)] [] := by
  intro k
  induction k with
  | zero =>
    intro x2_ x3_ μ hf
    cases hf
  | succ k ih =>
    intro x2_ x3_ μ hf
    replace hf : gbX0_leadsOn_13 N  x1_ K (gX0_leadsOn_13 N  x1_ K k) x2_ x3_ μ = some r0 := hf
    unfold gbX0_leadsOn_13 at hf
    refine wr_iload_n 13 C dX0_leadsOn_13 3 rfl rfl ?_
    refine wr_sipush 14 C dX0_leadsOn_14 (v := 200) rfl ?_
    refine wr_icmp_gt 17 51 C dX0_leadsOn_17 (by decide) (fun c6 => ?_) (fun c6 => ?_)
    · replace hf := o_pos c6 hf
      refine wr_sub [(0, .ref (q 0)), (1, .int x1_), (2, .int x2_)] [0, 1, 2] rfl ?_
      exact hK x2_ μ hf
    · replace hf := o_neg c6 hf
      refine wr_iload_n 20 C dX0_leadsOn_20 2 rfl rfl ?_
      refine wr_if_ne 21 51 C dX0_leadsOn_21 (by decide) (fun c7 => ?_) (fun c7 => ?_)
      · replace hf := o_neg c7 hf
        refine wr_sub [(0, .ref (q 0)), (1, .int x1_), (2, .int x2_)] [0, 1, 2] rfl ?_
        exact hK x2_ μ hf
      · replace hf := o_pos c7 hf
        refine wr_aload_n 24 C dX0_leadsOn_24 0 rfl rfl ?_
        refine gespX_0_22_X0 25 C dX0_leadsOn_25 ?_
        refine wr_aload_n 28 C dX0_leadsOn_28 0 rfl rfl ?_
        refine wr_iload_n 29 C dX0_leadsOn_29 3 rfl rfl ?_
        obtain ⟨v10, μ9, h8, hf⟩ := o_bind hf
        refine wr_Vi (kc1 := 0) (ks1 := 0) 30 [.ref (q 14)] C dX0_leadsOn_30 (tX0_nextBy l N   x3_ μ (v10, μ9) h8) okX0_nextBy q931 (b := 0) spX_0 rfl ⟨rfl, rfl, Nat.le_of_ble_eq_true rfl, Nat.le_of_ble_eq_true rfl, Nat.zero_le _, Nat.zero_le _⟩ (Nat.le_of_ble_eq_true rfl) rfl ?_
        obtain ⟨g11, hf⟩ := o_g hf
        refine wr_zald 33 C dX0_leadsOn_33 spX_14 g11 ?_
        obtain ⟨x12, ex12, hf⟩ := o_let hf
        refine wr_istore_n 34 [(2, .int x12), (0, .ref (q 0)), (1, .int x1_), (3, .int x3_)] C dX0_leadsOn_34 ex12 rfl (Nat.le_of_ble_eq_true rfl) rfl ?_
        refine wr_aload_n 35 C dX0_leadsOn_35 1 rfl rfl ?_
        refine wr_iload_n 36 C dX0_leadsOn_36 2 rfl rfl ?_
        obtain ⟨μ14, h13, hf⟩ := o_bindV hf
        refine wr_Vv (kc1 := 0) (ks1 := 0) 37 [] C dX0_leadsOn_37 (tX0_be l N   x1_ μ9 μ14 h13) okX0_be q885 (b := 0) spX_0 rfl ⟨rfl, rfl, Nat.le_of_ble_eq_true rfl, Nat.le_of_ble_eq_true rfl, Nat.zero_le _, Nat.zero_le _⟩ (Nat.le_of_ble_eq_true rfl) rfl ?_
        refine wr_aload_n 40 C dX0_leadsOn_40 1 rfl rfl ?_
        refine wr_iload_n 41 C dX0_leadsOn_41 3 rfl rfl ?_
        refine wr_iconst 42 C dX0_leadsOn_42 (v := 1) rfl ?_
        refine wr_iadd 43 C dX0_leadsOn_43 ?_
        obtain ⟨v17, μ16, h15, hf⟩ := o_bind hf
        refine wr_Vi (kc1 := 0) (ks1 := 0) 44 [] C dX0_leadsOn_44 (tX0_nextAct l N   (x3_ + (1 : Int32)) μ14 (v17, μ16) h15) okX0_nextAct q834 (b := 0) spX_0 rfl ⟨rfl, rfl, Nat.le_of_ble_eq_true rfl, Nat.le_of_ble_eq_true rfl, Nat.zero_le _, Nat.zero_le _⟩ (Nat.le_of_ble_eq_true rfl) rfl ?_
        refine wr_istore_n 47 [(3, .int v17), (2, .int x12), (0, .ref (q 0)), (1, .int x1_)] C dX0_leadsOn_47 rfl rfl (Nat.le_of_ble_eq_true rfl) rfl ?_
        refine wr_goto 48 C dX0_leadsOn_48 (tgt := 13) (by decide) ?_
        refine wr_sub [(0, .ref (q 0)), (1, .int x1_), (2, .int x12), (3, .int v17)] [2, 3, 1, 0] rfl ?_
        exact ih x12 v17 μ16 hf
def fX0_leadsOn (N : Nat)  (a1 : Int32) (μ : wMem) : Option (Int32 × wMem) :=
  wBindV (fX0_be N  a1 μ) fun μ2 => wBind (fX0_nextAct N  0 μ2) fun v5 μ4 => gX0_leadsOn_13 N  a1 (fun (x19 : Int32) (μ18 : wMem) => wG (ok_in a1 100352) (wG (ok_b x19) (wLet (wSI μ18 14 (Int32.toNatClampNeg a1) x19) fun μ22 => wG (ok_b x19) (some (x19, μ22))))) N 0 v5 μ4
set_option maxHeartbeats 4000000 in
set_option maxRecDepth 100000 in
theorem tX0_leadsOn (l : Launch) {D : va_G} {E : List wCell} {q : Nat → Nat} {ca : wCA} (N : Nat)   (a1 : Int32) (μ : wMem) (r0 : (Int32 × wMem)) (hf : fX0_leadsOn N  a1 μ = some r0) : wMi l yX0_leadsOn cX0_leadsOn 4 (some .boolean) ({ frames := 5, cells := 0, slots := 0, locals := 111 } : Room) D vwCl (spX ++ E) q ca [.ref (q 0), .int a1] μ r0 := by
  refine wMi_intro (by decide) (Nat.le_of_ble_eq_true rfl) ?_
  intro p e s m args below meth c A C
  unfold fX0_leadsOn at hf
  refine wr_sub [(0, .ref (q 0)), (1, .int a1)] [0, 1] rfl ?_
  refine wr_aload_n 0 C dX0_leadsOn_0 0 rfl rfl ?_
  refine wr_iload_n 1 C dX0_leadsOn_1 1 rfl rfl ?_
  obtain ⟨μ2, h1, hf⟩ := o_bindV hf
  refine wr_Vv (kc1 := 0) (ks1 := 0) 2 [] C dX0_leadsOn_2 (tX0_be l N   a1 μ μ2 h1) okX0_be q885 (b := 0) spX_0 rfl ⟨rfl, rfl, Nat.le_of_ble_eq_true rfl, Nat.le_of_ble_eq_true rfl, Nat.zero_le _, Nat.zero_le _⟩ (Nat.le_of_ble_eq_true rfl) rfl ?_
  refine wr_iconst 5 C dX0_leadsOn_5 (v := 0) rfl ?_
  refine wr_istore_n 6 [(2, .int 0), (0, .ref (q 0)), (1, .int a1)] C dX0_leadsOn_6 rfl rfl (Nat.le_of_ble_eq_true rfl) rfl ?_
  refine wr_aload_n 7 C dX0_leadsOn_7 1 rfl rfl ?_
  refine wr_iconst 8 C dX0_leadsOn_8 (v := 0) rfl ?_
  obtain ⟨v5, μ4, h3, hf⟩ := o_bind hf
  refine wr_Vi (kc1 := 0) (ks1 := 0) 9 [] C dX0_leadsOn_9 (tX0_nextAct l N   0 μ2 (v5, μ4) h3) okX0_nextAct q834 (b := 0) spX_0 rfl ⟨rfl, rfl, Nat.le_of_ble_eq_true rfl, Nat.le_of_ble_eq_true rfl, Nat.zero_le _, Nat.zero_le _⟩ (Nat.le_of_ble_eq_true rfl) rfl ?_
  refine wr_istore_n 12 [(3, .int v5), (2, .int 0), (0, .ref (q 0)), (1, .int a1)] C dX0_leadsOn_12 rfl rfl (Nat.le_of_ble_eq_true rfl) rfl ?_
  refine wr_sub [(0, .ref (q 0)), (1, .int a1), (2, .int 0), (3, .int v5)] [2, 3, 1, 0] rfl ?_
  refine tX0_leadsOn_13 C N   a1 _ r0 (fun x19 μ18 hf => ?_) N 0 v5 μ4 hf
  · replace hf := hf
    refine wr_aload_n 51 C dX0_leadsOn_51 0 rfl rfl ?_
    refine gespX_0_22_X0 52 C dX0_leadsOn_52 ?_
    refine wr_iload_n 55 C dX0_leadsOn_55 1 rfl rfl ?_
    refine wr_iload_n 56 C dX0_leadsOn_56 2 rfl rfl ?_
    obtain ⟨g20, hf⟩ := o_g hf
    obtain ⟨g21, hf⟩ := o_g hf
    obtain ⟨μ22, eμ22, hf⟩ := o_let hf
    refine wr_zast 57 C dX0_leadsOn_57 spX_14 g20 (ok_b_vp g21) eμ22 ?_
    refine wr_iload_n 58 C dX0_leadsOn_58 2 rfl rfl ?_
    obtain ⟨g23, hf⟩ := o_g hf
    exact wr_zret 59 C dX0_leadsOn_59 g23 ⟨Nat.zero_le _, Nat.zero_le _⟩ (Option.some.inj hf)
abbrev cX0_hopeful : ByteArray := prog_1_method_76_code
def yX0_hopeful : MethodName := ⟨RX0, "hopeful", "()I"⟩
def dkwX0_hopeful_6 : List UInt8 := [4, 167, 0, 4, 3, 61, 167, 255, 183, 27, 172]
abbrev dktX0_hopeful_6 : List UInt8 := dkwX0_hopeful_6 ++ []
def dkwX0_hopeful_5 : List UInt8 := [182, 1, 106, 153, 0, 7, 4, 167, 0, 4, 3, 96, 60, 132, 4, 255, 167, 255, 211, 27, 29, 164, 0, 7]
abbrev dktX0_hopeful_5 : List UInt8 := dkwX0_hopeful_5 ++ dktX0_hopeful_6
def dkwX0_hopeful_4 : List UInt8 := [27, 42, 180, 0, 64, 42, 180, 0, 61, 21, 4, 46, 51, 154, 0, 21, 42, 42, 180, 0, 61, 21, 4, 46]
abbrev dktX0_hopeful_4 : List UInt8 := dkwX0_hopeful_4 ++ dktX0_hopeful_5
def dkwX0_hopeful_3 : List UInt8 := [167, 255, 205, 4, 61, 28, 153, 0, 75, 27, 62, 42, 180, 1, 39, 4, 100, 54, 4, 21, 4, 155, 0, 46]
abbrev dktX0_hopeful_3 : List UInt8 := dkwX0_hopeful_3 ++ dktX0_hopeful_4
def dkwX0_hopeful_2 : List UInt8 := [182, 1, 57, 84, 27, 42, 182, 1, 57, 153, 0, 7, 4, 167, 0, 4, 3, 96, 60, 132, 2, 1]
abbrev dktX0_hopeful_2 : List UInt8 := dkwX0_hopeful_2 ++ dktX0_hopeful_3
def dkwX0_hopeful_1 : List UInt8 := [162, 0, 49, 42, 42, 180, 0, 61, 28, 46, 182, 1, 51, 42, 180, 0, 64, 42, 180, 0, 61, 28, 46, 42]
abbrev dktX0_hopeful_1 : List UInt8 := dkwX0_hopeful_1 ++ dktX0_hopeful_2
def dkwX0_hopeful_0 : List UInt8 := [42, 182, 0, 252, 154, 0, 6, 16, 254, 172, 42, 182, 1, 103, 3, 60, 3, 61, 28, 42, 180, 1, 39]
abbrev dktX0_hopeful_0 : List UInt8 := dkwX0_hopeful_0 ++ dktX0_hopeful_1
theorem dksX0_hopeful_0 : cX0_hopeful.data.toList.drop 0 = dktX0_hopeful_0 := by decide +kernel
theorem dksX0_hopeful_1 : cX0_hopeful.data.toList.drop 23 = dktX0_hopeful_1 := dk_seg dksX0_hopeful_0 23 rfl rfl
theorem dksX0_hopeful_2 : cX0_hopeful.data.toList.drop 47 = dktX0_hopeful_2 := dk_seg dksX0_hopeful_1 24 rfl rfl
theorem dksX0_hopeful_3 : cX0_hopeful.data.toList.drop 69 = dktX0_hopeful_3 := dk_seg dksX0_hopeful_2 22 rfl rfl
theorem dksX0_hopeful_4 : cX0_hopeful.data.toList.drop 93 = dktX0_hopeful_4 := dk_seg dksX0_hopeful_3 24 rfl rfl
theorem dksX0_hopeful_5 : cX0_hopeful.data.toList.drop 117 = dktX0_hopeful_5 := dk_seg dksX0_hopeful_4 24 rfl rfl
theorem dksX0_hopeful_6 : cX0_hopeful.data.toList.drop 141 = dktX0_hopeful_6 := dk_seg dksX0_hopeful_5 24 rfl rfl
theorem dX0_hopeful_0 : decode cX0_hopeful 0 = .ok (.aload_n 0, 1) := dk_42 (dk_at dksX0_hopeful_0 0 rfl rfl)
theorem dX0_hopeful_1 : decode cX0_hopeful 1 = .ok (.invokevirtual 252, 3) := dk_182 0 252 (dk_at dksX0_hopeful_0 1 rfl rfl)
theorem dX0_hopeful_4 : decode cX0_hopeful 4 = .ok (.ifCond .ne 6, 3) := dk_154 0 6 (dk_at dksX0_hopeful_0 4 rfl rfl)
theorem dX0_hopeful_7 : decode cX0_hopeful 7 = .ok (.bipush (-2), 2) := dk_16 254 (dk_at dksX0_hopeful_0 7 rfl rfl)
theorem dX0_hopeful_9 : decode cX0_hopeful 9 = .ok (.ireturn, 1) := dk_172 (dk_at dksX0_hopeful_0 9 rfl rfl)
theorem dX0_hopeful_10 : decode cX0_hopeful 10 = .ok (.aload_n 0, 1) := dk_42 (dk_at dksX0_hopeful_0 10 rfl rfl)
theorem dX0_hopeful_11 : decode cX0_hopeful 11 = .ok (.invokevirtual 359, 3) := dk_182 1 103 (dk_at dksX0_hopeful_0 11 rfl rfl)
theorem dX0_hopeful_14 : decode cX0_hopeful 14 = .ok (.iconst 0, 1) := dk_3 (dk_at dksX0_hopeful_0 14 rfl rfl)
theorem dX0_hopeful_15 : decode cX0_hopeful 15 = .ok (.istore_n 1, 1) := dk_60 (dk_at dksX0_hopeful_0 15 rfl rfl)
theorem dX0_hopeful_16 : decode cX0_hopeful 16 = .ok (.iconst 0, 1) := dk_3 (dk_at dksX0_hopeful_0 16 rfl rfl)
theorem dX0_hopeful_17 : decode cX0_hopeful 17 = .ok (.istore_n 2, 1) := dk_61 (dk_at dksX0_hopeful_0 17 rfl rfl)
theorem dX0_hopeful_18 : decode cX0_hopeful 18 = .ok (.iload_n 2, 1) := dk_28 (dk_at dksX0_hopeful_0 18 rfl rfl)
theorem dX0_hopeful_19 : decode cX0_hopeful 19 = .ok (.aload_n 0, 1) := dk_42 (dk_at dksX0_hopeful_0 19 rfl rfl)
theorem dX0_hopeful_20 : decode cX0_hopeful 20 = .ok (.getfield 295, 3) := dk_180 1 39 (dk_at dksX0_hopeful_0 20 rfl rfl)
theorem dX0_hopeful_23 : decode cX0_hopeful 23 = .ok (.if_icmp .ge 49, 3) := dk_162 0 49 (dk_at dksX0_hopeful_1 0 rfl rfl)
theorem dX0_hopeful_26 : decode cX0_hopeful 26 = .ok (.aload_n 0, 1) := dk_42 (dk_at dksX0_hopeful_1 3 rfl rfl)
theorem dX0_hopeful_27 : decode cX0_hopeful 27 = .ok (.aload_n 0, 1) := dk_42 (dk_at dksX0_hopeful_1 4 rfl rfl)
theorem dX0_hopeful_28 : decode cX0_hopeful 28 = .ok (.getfield 61, 3) := dk_180 0 61 (dk_at dksX0_hopeful_1 5 rfl rfl)
theorem dX0_hopeful_31 : decode cX0_hopeful 31 = .ok (.iload_n 2, 1) := dk_28 (dk_at dksX0_hopeful_1 8 rfl rfl)
theorem dX0_hopeful_32 : decode cX0_hopeful 32 = .ok (.iaload, 1) := dk_46 (dk_at dksX0_hopeful_1 9 rfl rfl)
theorem dX0_hopeful_33 : decode cX0_hopeful 33 = .ok (.invokevirtual 307, 3) := dk_182 1 51 (dk_at dksX0_hopeful_1 10 rfl rfl)
theorem dX0_hopeful_36 : decode cX0_hopeful 36 = .ok (.aload_n 0, 1) := dk_42 (dk_at dksX0_hopeful_1 13 rfl rfl)
theorem dX0_hopeful_37 : decode cX0_hopeful 37 = .ok (.getfield 64, 3) := dk_180 0 64 (dk_at dksX0_hopeful_1 14 rfl rfl)
theorem dX0_hopeful_40 : decode cX0_hopeful 40 = .ok (.aload_n 0, 1) := dk_42 (dk_at dksX0_hopeful_1 17 rfl rfl)
theorem dX0_hopeful_41 : decode cX0_hopeful 41 = .ok (.getfield 61, 3) := dk_180 0 61 (dk_at dksX0_hopeful_1 18 rfl rfl)
theorem dX0_hopeful_44 : decode cX0_hopeful 44 = .ok (.iload_n 2, 1) := dk_28 (dk_at dksX0_hopeful_1 21 rfl rfl)
theorem dX0_hopeful_45 : decode cX0_hopeful 45 = .ok (.iaload, 1) := dk_46 (dk_at dksX0_hopeful_1 22 rfl rfl)
theorem dX0_hopeful_46 : decode cX0_hopeful 46 = .ok (.aload_n 0, 1) := dk_42 (dk_at dksX0_hopeful_1 23 rfl rfl)
theorem dX0_hopeful_47 : decode cX0_hopeful 47 = .ok (.invokevirtual 313, 3) := dk_182 1 57 (dk_at dksX0_hopeful_2 0 rfl rfl)
theorem dX0_hopeful_50 : decode cX0_hopeful 50 = .ok (.bastore, 1) := dk_84 (dk_at dksX0_hopeful_2 3 rfl rfl)
theorem dX0_hopeful_51 : decode cX0_hopeful 51 = .ok (.iload_n 1, 1) := dk_27 (dk_at dksX0_hopeful_2 4 rfl rfl)
theorem dX0_hopeful_52 : decode cX0_hopeful 52 = .ok (.aload_n 0, 1) := dk_42 (dk_at dksX0_hopeful_2 5 rfl rfl)
theorem dX0_hopeful_53 : decode cX0_hopeful 53 = .ok (.invokevirtual 313, 3) := dk_182 1 57 (dk_at dksX0_hopeful_2 6 rfl rfl)
theorem dX0_hopeful_56 : decode cX0_hopeful 56 = .ok (.ifCond .eq 7, 3) := dk_153 0 7 (dk_at dksX0_hopeful_2 9 rfl rfl)
theorem dX0_hopeful_59 : decode cX0_hopeful 59 = .ok (.iconst 1, 1) := dk_4 (dk_at dksX0_hopeful_2 12 rfl rfl)
theorem dX0_hopeful_60 : decode cX0_hopeful 60 = .ok (.goto 4, 3) := dk_167 0 4 (dk_at dksX0_hopeful_2 13 rfl rfl)
theorem dX0_hopeful_63 : decode cX0_hopeful 63 = .ok (.iconst 0, 1) := dk_3 (dk_at dksX0_hopeful_2 16 rfl rfl)
theorem dX0_hopeful_64 : decode cX0_hopeful 64 = .ok (.iadd, 1) := dk_96 (dk_at dksX0_hopeful_2 17 rfl rfl)
theorem dX0_hopeful_65 : decode cX0_hopeful 65 = .ok (.istore_n 1, 1) := dk_60 (dk_at dksX0_hopeful_2 18 rfl rfl)
theorem dX0_hopeful_66 : decode cX0_hopeful 66 = .ok (.iinc 2 1, 3) := dk_132 2 1 (dk_at dksX0_hopeful_2 19 rfl rfl)
theorem dX0_hopeful_69 : decode cX0_hopeful 69 = .ok (.goto (-51), 3) := dk_167 255 205 (dk_at dksX0_hopeful_3 0 rfl rfl)
theorem dX0_hopeful_72 : decode cX0_hopeful 72 = .ok (.iconst 1, 1) := dk_4 (dk_at dksX0_hopeful_3 3 rfl rfl)
theorem dX0_hopeful_73 : decode cX0_hopeful 73 = .ok (.istore_n 2, 1) := dk_61 (dk_at dksX0_hopeful_3 4 rfl rfl)
theorem dX0_hopeful_74 : decode cX0_hopeful 74 = .ok (.iload_n 2, 1) := dk_28 (dk_at dksX0_hopeful_3 5 rfl rfl)
theorem dX0_hopeful_75 : decode cX0_hopeful 75 = .ok (.ifCond .eq 75, 3) := dk_153 0 75 (dk_at dksX0_hopeful_3 6 rfl rfl)
theorem dX0_hopeful_78 : decode cX0_hopeful 78 = .ok (.iload_n 1, 1) := dk_27 (dk_at dksX0_hopeful_3 9 rfl rfl)
theorem dX0_hopeful_79 : decode cX0_hopeful 79 = .ok (.istore_n 3, 1) := dk_62 (dk_at dksX0_hopeful_3 10 rfl rfl)
theorem dX0_hopeful_80 : decode cX0_hopeful 80 = .ok (.aload_n 0, 1) := dk_42 (dk_at dksX0_hopeful_3 11 rfl rfl)
theorem dX0_hopeful_81 : decode cX0_hopeful 81 = .ok (.getfield 295, 3) := dk_180 1 39 (dk_at dksX0_hopeful_3 12 rfl rfl)
theorem dX0_hopeful_84 : decode cX0_hopeful 84 = .ok (.iconst 1, 1) := dk_4 (dk_at dksX0_hopeful_3 15 rfl rfl)
theorem dX0_hopeful_85 : decode cX0_hopeful 85 = .ok (.isub, 1) := dk_100 (dk_at dksX0_hopeful_3 16 rfl rfl)
theorem dX0_hopeful_86 : decode cX0_hopeful 86 = .ok (.istore 4, 2) := dk_54 4 (dk_at dksX0_hopeful_3 17 rfl rfl)
theorem dX0_hopeful_88 : decode cX0_hopeful 88 = .ok (.iload 4, 2) := dk_21 4 (dk_at dksX0_hopeful_3 19 rfl rfl)
theorem dX0_hopeful_90 : decode cX0_hopeful 90 = .ok (.ifCond .lt 46, 3) := dk_155 0 46 (dk_at dksX0_hopeful_3 21 rfl rfl)
theorem dX0_hopeful_93 : decode cX0_hopeful 93 = .ok (.iload_n 1, 1) := dk_27 (dk_at dksX0_hopeful_4 0 rfl rfl)
theorem dX0_hopeful_94 : decode cX0_hopeful 94 = .ok (.aload_n 0, 1) := dk_42 (dk_at dksX0_hopeful_4 1 rfl rfl)
theorem dX0_hopeful_95 : decode cX0_hopeful 95 = .ok (.getfield 64, 3) := dk_180 0 64 (dk_at dksX0_hopeful_4 2 rfl rfl)
theorem dX0_hopeful_98 : decode cX0_hopeful 98 = .ok (.aload_n 0, 1) := dk_42 (dk_at dksX0_hopeful_4 5 rfl rfl)
theorem dX0_hopeful_99 : decode cX0_hopeful 99 = .ok (.getfield 61, 3) := dk_180 0 61 (dk_at dksX0_hopeful_4 6 rfl rfl)
theorem dX0_hopeful_102 : decode cX0_hopeful 102 = .ok (.iload 4, 2) := dk_21 4 (dk_at dksX0_hopeful_4 9 rfl rfl)
theorem dX0_hopeful_104 : decode cX0_hopeful 104 = .ok (.iaload, 1) := dk_46 (dk_at dksX0_hopeful_4 11 rfl rfl)
theorem dX0_hopeful_105 : decode cX0_hopeful 105 = .ok (.baload, 1) := dk_51 (dk_at dksX0_hopeful_4 12 rfl rfl)
theorem dX0_hopeful_106 : decode cX0_hopeful 106 = .ok (.ifCond .ne 21, 3) := dk_154 0 21 (dk_at dksX0_hopeful_4 13 rfl rfl)
theorem dX0_hopeful_109 : decode cX0_hopeful 109 = .ok (.aload_n 0, 1) := dk_42 (dk_at dksX0_hopeful_4 16 rfl rfl)
theorem dX0_hopeful_110 : decode cX0_hopeful 110 = .ok (.aload_n 0, 1) := dk_42 (dk_at dksX0_hopeful_4 17 rfl rfl)
theorem dX0_hopeful_111 : decode cX0_hopeful 111 = .ok (.getfield 61, 3) := dk_180 0 61 (dk_at dksX0_hopeful_4 18 rfl rfl)
theorem dX0_hopeful_114 : decode cX0_hopeful 114 = .ok (.iload 4, 2) := dk_21 4 (dk_at dksX0_hopeful_4 21 rfl rfl)
theorem dX0_hopeful_116 : decode cX0_hopeful 116 = .ok (.iaload, 1) := dk_46 (dk_at dksX0_hopeful_4 23 rfl rfl)
theorem dX0_hopeful_117 : decode cX0_hopeful 117 = .ok (.invokevirtual 362, 3) := dk_182 1 106 (dk_at dksX0_hopeful_5 0 rfl rfl)
theorem dX0_hopeful_120 : decode cX0_hopeful 120 = .ok (.ifCond .eq 7, 3) := dk_153 0 7 (dk_at dksX0_hopeful_5 3 rfl rfl)
theorem dX0_hopeful_123 : decode cX0_hopeful 123 = .ok (.iconst 1, 1) := dk_4 (dk_at dksX0_hopeful_5 6 rfl rfl)
theorem dX0_hopeful_124 : decode cX0_hopeful 124 = .ok (.goto 4, 3) := dk_167 0 4 (dk_at dksX0_hopeful_5 7 rfl rfl)
theorem dX0_hopeful_127 : decode cX0_hopeful 127 = .ok (.iconst 0, 1) := dk_3 (dk_at dksX0_hopeful_5 10 rfl rfl)
theorem dX0_hopeful_128 : decode cX0_hopeful 128 = .ok (.iadd, 1) := dk_96 (dk_at dksX0_hopeful_5 11 rfl rfl)
theorem dX0_hopeful_129 : decode cX0_hopeful 129 = .ok (.istore_n 1, 1) := dk_60 (dk_at dksX0_hopeful_5 12 rfl rfl)
theorem dX0_hopeful_130 : decode cX0_hopeful 130 = .ok (.iinc 4 (-1), 3) := dk_132 4 255 (dk_at dksX0_hopeful_5 13 rfl rfl)
theorem dX0_hopeful_133 : decode cX0_hopeful 133 = .ok (.goto (-45), 3) := dk_167 255 211 (dk_at dksX0_hopeful_5 16 rfl rfl)
theorem dX0_hopeful_136 : decode cX0_hopeful 136 = .ok (.iload_n 1, 1) := dk_27 (dk_at dksX0_hopeful_5 19 rfl rfl)
theorem dX0_hopeful_137 : decode cX0_hopeful 137 = .ok (.iload_n 3, 1) := dk_29 (dk_at dksX0_hopeful_5 20 rfl rfl)
theorem dX0_hopeful_138 : decode cX0_hopeful 138 = .ok (.if_icmp .le 7, 3) := dk_164 0 7 (dk_at dksX0_hopeful_5 21 rfl rfl)
theorem dX0_hopeful_141 : decode cX0_hopeful 141 = .ok (.iconst 1, 1) := dk_4 (dk_at dksX0_hopeful_6 0 rfl rfl)
theorem dX0_hopeful_142 : decode cX0_hopeful 142 = .ok (.goto 4, 3) := dk_167 0 4 (dk_at dksX0_hopeful_6 1 rfl rfl)
theorem dX0_hopeful_145 : decode cX0_hopeful 145 = .ok (.iconst 0, 1) := dk_3 (dk_at dksX0_hopeful_6 4 rfl rfl)
theorem dX0_hopeful_146 : decode cX0_hopeful 146 = .ok (.istore_n 2, 1) := dk_61 (dk_at dksX0_hopeful_6 5 rfl rfl)
theorem dX0_hopeful_147 : decode cX0_hopeful 147 = .ok (.goto (-73), 3) := dk_167 255 183 (dk_at dksX0_hopeful_6 6 rfl rfl)
theorem dX0_hopeful_150 : decode cX0_hopeful 150 = .ok (.iload_n 1, 1) := dk_27 (dk_at dksX0_hopeful_6 9 rfl rfl)
theorem dX0_hopeful_151 : decode cX0_hopeful 151 = .ok (.ireturn, 1) := dk_172 (dk_at dksX0_hopeful_6 10 rfl rfl)

theorem okX0_hopeful : wOkV yX0_hopeful cX0_hopeful 5 (some .int) 0 := ⟨q982, q983, q136, q984, by decide, by decide, by decide +kernel⟩
def gbX0_hopeful_18 (N : Nat)   (K : (Int32 → wMem → Option (Int32 × wMem))) (rec : (Int32 → Int32 → wMem → Option (Int32 × wMem))) (x1_ : Int32) (x2_ : Int32) (μ : wMem) : Option (Int32 × wMem) :=
  if (μ.1 0 21) ≤ x2_ then K x1_ μ else wG (ok_in x2_ 100352) (wBindV (fX0_be N  (μ.1 13 (Int32.toNatClampNeg x2_)) μ) fun μ10 => wG (ok_in x2_ 100352) (wBind (fX0_isEnd N   μ10) fun v14 μ13 => wG (ok_in (μ10.1 13 (Int32.toNatClampNeg x2_)) 100352) (wG (ok_b v14) (wLet (wSI μ13 14 (Int32.toNatClampNeg (μ10.1 13 (Int32.toNatClampNeg x2_))) v14) fun μ17 => wBind (fX0_isEnd N   μ17) fun v20 μ19 => wLet (fun (v22 : Int32) (v23 : Int32) (μ21 : wMem) => wLet (v23 + v22 : Int32) fun x24 => wLet (x2_ + 1 : Int32) fun x25 => rec x24 x25 μ21) fun Jhopeful64 => if v20 = 0 then Jhopeful64 0 x1_ μ19 else Jhopeful64 1 x1_ μ19))))
def gX0_hopeful_18 (N : Nat)   (K : (Int32 → wMem → Option (Int32 × wMem))) : Nat → (Int32 → Int32 → wMem → Option (Int32 × wMem))
  | 0 => fun _ _ _ => none
  | k + 1 => gbX0_hopeful_18 N   K (gX0_hopeful_18 N   K k)
set_option maxHeartbeats 4000000 in
set_option maxRecDepth 100000 in
theorem tX0_hopeful_18 {p : Program} {l : Launch} {e : Env} {s : State} {m : MethodId} {args : Array Value} {below : List Frame} {meth : Method} {c : Code} {D : va_G} {E : List wCell} {q : Nat → Nat} {ca : wCA} {A : Nat → Prop} (C : wC p ({ frames := 7, cells := 0, slots := 0, locals := 154 } : Room) s m args meth c cX0_hopeful yX0_hopeful.cls 5 (some .int) D vwCl (spX ++ E) q ca A) (N : Nat)    (K : (Int32 → wMem → Option (Int32 × wMem))) (r0 : (Int32 × wMem)) (hK : ∀ (y1_ : Int32) (μ : wMem), K y1_ μ = some r0 → wJ p l e ({ frames := 7, cells := 0, slots := 0, locals := 154 } : Room) s m args below meth c 5 D vwCl (spX ++ E) q ca A (wQi ({ frames := 7, cells := 0, slots := 0, locals := 154 } : Room) D vwCl (spX ++ E) q ca below args s A r0) 0 0 μ 72 [(0, .ref (q 0)), (1, .int y1_)] []) : ∀ (k : Nat) (x1_ : Int32) (x2_ : Int32) (μ : wMem), gX0_hopeful_18 N   K k x1_ x2_ μ = some r0 → wJ p l e ({ frames := 7, cells := 0, slots := 0, locals := 154 } : Room) s m args below meth c 5 D vwCl (spX ++ E) q ca A (wQi ({ frames := 7, cells := 0, slots := 0, locals := 154 } : Room) D vwCl (spX ++ E) q ca below args s A r0) 0 0 μ 18 [(0, .ref (q 0)), (1, .int x1_), (2, .int x2_)] [] := by
  intro k
  induction k with
  | zero =>
    intro x1_ x2_ μ hf
    cases hf
  | succ k ih =>
    intro x1_ x2_ μ hf
    replace hf : gbX0_hopeful_18 N   K (gX0_hopeful_18 N   K k) x1_ x2_ μ = some r0 := hf
    unfold gbX0_hopeful_18 at hf
    refine wr_iload_n 18 C dX0_hopeful_18 2 rfl rfl ?_
    refine wr_aload_n 19 C dX0_hopeful_19 0 rfl rfl ?_
    refine gespX_0_21_X0 20 C dX0_hopeful_20 ?_
    refine wr_icmp_ge 23 72 C dX0_hopeful_23 (by decide) (fun c7 => ?_) (fun c7 => ?_)
    · replace hf := o_pos c7 hf
      refine wr_sub [(0, .ref (q 0)), (1, .int x1_)] [0, 1] rfl ?_
      exact hK x1_ μ hf
    · replace hf := o_neg c7 hf
      refine wr_aload_n 26 C dX0_hopeful_26 0 rfl rfl ?_
      refine wr_aload_n 27 C dX0_hopeful_27 0 rfl rfl ?_
      refine gespX_0_19_X0 28 C dX0_hopeful_28 ?_
      refine wr_iload_n 31 C dX0_hopeful_31 2 rfl rfl ?_
      obtain ⟨g8, hf⟩ := o_g hf
      refine wr_iald 32 C dX0_hopeful_32 spX_13 g8 ?_
      obtain ⟨μ10, h9, hf⟩ := o_bindV hf
      refine wr_Vv (kc1 := 0) (ks1 := 0) 33 [] C dX0_hopeful_33 (tX0_be l N   (μ.1 13 (Int32.toNatClampNeg x2_)) μ μ10 h9) okX0_be q885 (b := 0) spX_0 rfl ⟨rfl, rfl, Nat.le_of_ble_eq_true rfl, Nat.le_of_ble_eq_true rfl, Nat.zero_le _, Nat.zero_le _⟩ (Nat.le_of_ble_eq_true rfl) rfl ?_
      refine wr_aload_n 36 C dX0_hopeful_36 0 rfl rfl ?_
      refine gespX_0_22_X0 37 C dX0_hopeful_37 ?_
      refine wr_aload_n 40 C dX0_hopeful_40 0 rfl rfl ?_
      refine gespX_0_19_X0 41 C dX0_hopeful_41 ?_
      refine wr_iload_n 44 C dX0_hopeful_44 2 rfl rfl ?_
      obtain ⟨g11, hf⟩ := o_g hf
      refine wr_iald 45 C dX0_hopeful_45 spX_13 g11 ?_
      refine wr_aload_n 46 C dX0_hopeful_46 0 rfl rfl ?_
      obtain ⟨v14, μ13, h12, hf⟩ := o_bind hf
      refine wr_Vi (kc1 := 0) (ks1 := 0) 47 [.int (μ10.1 13 (Int32.toNatClampNeg x2_)), .ref (q 14)] C dX0_hopeful_47 (tX0_isEnd l N    μ10 (v14, μ13) h12) okX0_isEnd q908 (b := 0) spX_0 rfl ⟨rfl, rfl, Nat.le_of_ble_eq_true rfl, Nat.le_of_ble_eq_true rfl, Nat.zero_le _, Nat.zero_le _⟩ (Nat.le_of_ble_eq_true rfl) rfl ?_
      obtain ⟨g15, hf⟩ := o_g hf
      obtain ⟨g16, hf⟩ := o_g hf
      obtain ⟨μ17, eμ17, hf⟩ := o_let hf
      refine wr_zast 50 C dX0_hopeful_50 spX_14 g15 (ok_b_vp g16) eμ17 ?_
      refine wr_iload_n 51 C dX0_hopeful_51 1 rfl rfl ?_
      refine wr_aload_n 52 C dX0_hopeful_52 0 rfl rfl ?_
      obtain ⟨v20, μ19, h18, hf⟩ := o_bind hf
      refine wr_Vi (kc1 := 0) (ks1 := 0) 53 [.int x1_] C dX0_hopeful_53 (tX0_isEnd l N    μ17 (v20, μ19) h18) okX0_isEnd q908 (b := 0) spX_0 rfl ⟨rfl, rfl, Nat.le_of_ble_eq_true rfl, Nat.le_of_ble_eq_true rfl, Nat.zero_le _, Nat.zero_le _⟩ (Nat.le_of_ble_eq_true rfl) rfl ?_
      obtain ⟨Jhopeful64, eJhopeful64, hf⟩ := o_let hf
      have hJhopeful64 : ∀ (v22 : Int32) (v23 : Int32) (μ21 : wMem), Jhopeful64 v22 v23 μ21 = some r0 → wJ p l e ({ frames := 7, cells := 0, slots := 0, locals := 154 } : Room) s m args below meth c 5 D vwCl (spX ++ E) q ca A (wQi ({ frames := 7, cells := 0, slots := 0, locals := 154 } : Room) D vwCl (spX ++ E) q ca below args s A r0) 0 0 μ21 64 [(0, .ref (q 0)), (2, .int x2_)] [.int v22, .int v23] := by
        intro v22 v23 μ21 hf
        rw [eJhopeful64] at hf
        refine wr_iadd 64 C dX0_hopeful_64 ?_
        obtain ⟨x24, ex24, hf⟩ := o_let hf
        refine wr_istore_n 65 [(1, .int x24), (0, .ref (q 0)), (2, .int x2_)] C dX0_hopeful_65 ex24 rfl (Nat.le_of_ble_eq_true rfl) rfl ?_
        obtain ⟨x25, ex25, hf⟩ := o_let hf
        refine wr_iinc 66 [(2, .int x25), (1, .int x24), (0, .ref (q 0))] C dX0_hopeful_66 2 rfl (ex25.trans rfl) (Nat.le_of_ble_eq_true rfl) rfl ?_
        refine wr_goto 69 C dX0_hopeful_69 (tgt := 18) (by decide) ?_
        refine wr_sub [(0, .ref (q 0)), (1, .int x24), (2, .int x25)] [2, 1, 0] rfl ?_
        exact ih x24 x25 μ21 hf
      refine wr_if_eq 56 63 C dX0_hopeful_56 (by decide) (fun c26 => ?_) (fun c26 => ?_)
      · replace hf := o_pos c26 hf
        refine wr_iconst 63 C dX0_hopeful_63 (v := 0) rfl ?_
        refine wr_sub [(0, .ref (q 0)), (2, .int x2_)] [0, 2] rfl ?_
        exact hJhopeful64 0 x1_ μ19 hf
      · replace hf := o_neg c26 hf
        refine wr_iconst 59 C dX0_hopeful_59 (v := 1) rfl ?_
        refine wr_goto 60 C dX0_hopeful_60 (tgt := 64) (by decide) ?_
        refine wr_sub [(0, .ref (q 0)), (2, .int x2_)] [0, 2] rfl ?_
        exact hJhopeful64 1 x1_ μ19 hf
def gbX0_hopeful_88 (N : Nat)  (x3_ : Int32) (K : (Int32 → wMem → Option (Int32 × wMem))) (rec : (Int32 → Int32 → wMem → Option (Int32 × wMem))) (x1_ : Int32) (x4_ : Int32) (μ : wMem) : Option (Int32 × wMem) :=
  if x4_ < 0 then K x1_ μ else wG (ok_in x4_ 100352) (wG (ok_in (μ.1 13 (Int32.toNatClampNeg x4_)) 100352) (wLet (fun (v35 : Int32) (v36 : Int32) (μ34 : wMem) => wLet (v36 + v35 : Int32) fun x37 => wLet (x4_ + (-1) : Int32) fun x38 => rec x37 x38 μ34) fun Jhopeful128 => wLet (fun (v40 : Int32) (μ39 : wMem) => Jhopeful128 0 v40 μ39) fun Jhopeful127 => if (μ.1 14 (Int32.toNatClampNeg (μ.1 13 (Int32.toNatClampNeg x4_)))) = 0 then wG (ok_in x4_ 100352) (wBind (fX0_leadsOn N  (μ.1 13 (Int32.toNatClampNeg x4_)) μ) fun v45 μ44 => if v45 = 0 then Jhopeful127 x1_ μ44 else Jhopeful128 1 x1_ μ44) else Jhopeful127 x1_ μ))
def gX0_hopeful_88 (N : Nat)  (x3_ : Int32) (K : (Int32 → wMem → Option (Int32 × wMem))) : Nat → (Int32 → Int32 → wMem → Option (Int32 × wMem))
  | 0 => fun _ _ _ => none
  | k + 1 => gbX0_hopeful_88 N  x3_ K (gX0_hopeful_88 N  x3_ K k)
set_option maxHeartbeats 4000000 in
set_option maxRecDepth 100000 in
theorem tX0_hopeful_88 {p : Program} {l : Launch} {e : Env} {s : State} {m : MethodId} {args : Array Value} {below : List Frame} {meth : Method} {c : Code} {D : va_G} {E : List wCell} {q : Nat → Nat} {ca : wCA} {A : Nat → Prop} (C : wC p ({ frames := 7, cells := 0, slots := 0, locals := 154 } : Room) s m args meth c cX0_hopeful yX0_hopeful.cls 5 (some .int) D vwCl (spX ++ E) q ca A) (N : Nat)   (x3_ : Int32) (K : (Int32 → wMem → Option (Int32 × wMem))) (r0 : (Int32 × wMem)) (hK : ∀ (y1_ : Int32) (μ : wMem), K y1_ μ = some r0 → wJ p l e ({ frames := 7, cells := 0, slots := 0, locals := 154 } : Room) s m args below meth c 5 D vwCl (spX ++ E) q ca A (wQi ({ frames := 7, cells := 0, slots := 0, locals := 154 } : Room) D vwCl (spX ++ E) q ca below args s A r0) 0 0 μ 136 [(0, .ref (q 0)), (1, .int y1_), (3, .int x3_)] []) : ∀ (k : Nat) (x1_ : Int32) (x4_ : Int32) (μ : wMem), gX0_hopeful_88 N  x3_ K k x1_ x4_ μ = some r0 → wJ p l e ({ frames := 7, cells := 0, slots := 0, locals := 154 } : Room) s m args below meth c 5 D vwCl (spX ++ E) q ca A (wQi ({ frames := 7, cells := 0, slots := 0, locals := 154 } : Room) D vwCl (spX ++ E) q ca below args s A r0) 0 0 μ 88 [(0, .ref (q 0)), (1, .int x1_), (3, .int x3_), (4, .int x4_)] [] := by
  intro k
  induction k with
  | zero =>
    intro x1_ x4_ μ hf
    cases hf
  | succ k ih =>
    intro x1_ x4_ μ hf
    replace hf : gbX0_hopeful_88 N  x3_ K (gX0_hopeful_88 N  x3_ K k) x1_ x4_ μ = some r0 := hf
    unfold gbX0_hopeful_88 at hf
    refine wr_iload 88 C dX0_hopeful_88 3 rfl ?_
    refine wr_if_lt 90 136 C dX0_hopeful_90 (by decide) (fun c31 => ?_) (fun c31 => ?_)
    · replace hf := o_pos c31 hf
      refine wr_sub [(0, .ref (q 0)), (1, .int x1_), (3, .int x3_)] [0, 1, 2] rfl ?_
      exact hK x1_ μ hf
    · replace hf := o_neg c31 hf
      refine wr_iload_n 93 C dX0_hopeful_93 1 rfl rfl ?_
      refine wr_aload_n 94 C dX0_hopeful_94 0 rfl rfl ?_
      refine gespX_0_22_X0 95 C dX0_hopeful_95 ?_
      refine wr_aload_n 98 C dX0_hopeful_98 0 rfl rfl ?_
      refine gespX_0_19_X0 99 C dX0_hopeful_99 ?_
      refine wr_iload 102 C dX0_hopeful_102 3 rfl ?_
      obtain ⟨g32, hf⟩ := o_g hf
      refine wr_iald 104 C dX0_hopeful_104 spX_13 g32 ?_
      obtain ⟨g33, hf⟩ := o_g hf
      refine wr_zald 105 C dX0_hopeful_105 spX_14 g33 ?_
      obtain ⟨Jhopeful128, eJhopeful128, hf⟩ := o_let hf
      have hJhopeful128 : ∀ (v35 : Int32) (v36 : Int32) (μ34 : wMem), Jhopeful128 v35 v36 μ34 = some r0 → wJ p l e ({ frames := 7, cells := 0, slots := 0, locals := 154 } : Room) s m args below meth c 5 D vwCl (spX ++ E) q ca A (wQi ({ frames := 7, cells := 0, slots := 0, locals := 154 } : Room) D vwCl (spX ++ E) q ca below args s A r0) 0 0 μ34 128 [(0, .ref (q 0)), (3, .int x3_), (4, .int x4_)] [.int v35, .int v36] := by
        intro v35 v36 μ34 hf
        rw [eJhopeful128] at hf
        refine wr_iadd 128 C dX0_hopeful_128 ?_
        obtain ⟨x37, ex37, hf⟩ := o_let hf
        refine wr_istore_n 129 [(1, .int x37), (0, .ref (q 0)), (3, .int x3_), (4, .int x4_)] C dX0_hopeful_129 ex37 rfl (Nat.le_of_ble_eq_true rfl) rfl ?_
        obtain ⟨x38, ex38, hf⟩ := o_let hf
        refine wr_iinc 130 [(4, .int x38), (1, .int x37), (0, .ref (q 0)), (3, .int x3_)] C dX0_hopeful_130 3 rfl (ex38.trans rfl) (Nat.le_of_ble_eq_true rfl) rfl ?_
        refine wr_goto 133 C dX0_hopeful_133 (tgt := 88) (by decide) ?_
        refine wr_sub [(0, .ref (q 0)), (1, .int x37), (3, .int x3_), (4, .int x38)] [2, 1, 3, 0] rfl ?_
        exact ih x37 x38 μ34 hf
      obtain ⟨Jhopeful127, eJhopeful127, hf⟩ := o_let hf
      have hJhopeful127 : ∀ (v40 : Int32) (μ39 : wMem), Jhopeful127 v40 μ39 = some r0 → wJ p l e ({ frames := 7, cells := 0, slots := 0, locals := 154 } : Room) s m args below meth c 5 D vwCl (spX ++ E) q ca A (wQi ({ frames := 7, cells := 0, slots := 0, locals := 154 } : Room) D vwCl (spX ++ E) q ca below args s A r0) 0 0 μ39 127 [(0, .ref (q 0)), (3, .int x3_), (4, .int x4_)] [.int v40] := by
        intro v40 μ39 hf
        rw [eJhopeful127] at hf
        refine wr_iconst 127 C dX0_hopeful_127 (v := 0) rfl ?_
        exact hJhopeful128 0 v40 μ39 hf
      refine wr_if_ne 106 127 C dX0_hopeful_106 (by decide) (fun c41 => ?_) (fun c41 => ?_)
      · replace hf := o_neg c41 hf
        refine wr_sub [(0, .ref (q 0)), (3, .int x3_), (4, .int x4_)] [0, 2, 3] rfl ?_
        exact hJhopeful127 x1_ μ hf
      · replace hf := o_pos c41 hf
        refine wr_aload_n 109 C dX0_hopeful_109 0 rfl rfl ?_
        refine wr_aload_n 110 C dX0_hopeful_110 0 rfl rfl ?_
        refine gespX_0_19_X0 111 C dX0_hopeful_111 ?_
        refine wr_iload 114 C dX0_hopeful_114 3 rfl ?_
        obtain ⟨g42, hf⟩ := o_g hf
        refine wr_iald 116 C dX0_hopeful_116 spX_13 g42 ?_
        obtain ⟨v45, μ44, h43, hf⟩ := o_bind hf
        refine wr_Vi (kc1 := 0) (ks1 := 0) 117 [.int x1_] C dX0_hopeful_117 (tX0_leadsOn l N   (μ.1 13 (Int32.toNatClampNeg x4_)) μ (v45, μ44) h43) okX0_leadsOn q985 (b := 0) spX_0 rfl ⟨rfl, rfl, Nat.le_of_ble_eq_true rfl, Nat.le_of_ble_eq_true rfl, Nat.zero_le _, Nat.zero_le _⟩ (Nat.le_of_ble_eq_true rfl) rfl ?_
        refine wr_if_eq 120 127 C dX0_hopeful_120 (by decide) (fun c46 => ?_) (fun c46 => ?_)
        · replace hf := o_pos c46 hf
          refine wr_sub [(0, .ref (q 0)), (3, .int x3_), (4, .int x4_)] [0, 2, 3] rfl ?_
          exact hJhopeful127 x1_ μ44 hf
        · replace hf := o_neg c46 hf
          refine wr_iconst 123 C dX0_hopeful_123 (v := 1) rfl ?_
          refine wr_goto 124 C dX0_hopeful_124 (tgt := 128) (by decide) ?_
          refine wr_sub [(0, .ref (q 0)), (3, .int x3_), (4, .int x4_)] [0, 2, 3] rfl ?_
          exact hJhopeful128 1 x1_ μ44 hf
def gbX0_hopeful_74 (N : Nat)   (K : (Int32 → wMem → Option (Int32 × wMem))) (rec : (Int32 → Int32 → wMem → Option (Int32 × wMem))) (x1_ : Int32) (x2_ : Int32) (μ : wMem) : Option (Int32 × wMem) :=
  if x2_ = 0 then K x1_ μ else wLet ((μ.1 0 21) - (1 : Int32) : Int32) fun x30 => gX0_hopeful_88 N  x1_ (fun (x48 : Int32) (μ47 : wMem) => wLet (fun (v50 : Int32) (μ49 : wMem) => rec x48 v50 μ49) fun Jhopeful146 => if x48 ≤ x1_ then Jhopeful146 0 μ47 else Jhopeful146 1 μ47) N x1_ x30 μ
def gX0_hopeful_74 (N : Nat)   (K : (Int32 → wMem → Option (Int32 × wMem))) : Nat → (Int32 → Int32 → wMem → Option (Int32 × wMem))
  | 0 => fun _ _ _ => none
  | k + 1 => gbX0_hopeful_74 N   K (gX0_hopeful_74 N   K k)
set_option maxHeartbeats 4000000 in
set_option maxRecDepth 100000 in
theorem tX0_hopeful_74 {p : Program} {l : Launch} {e : Env} {s : State} {m : MethodId} {args : Array Value} {below : List Frame} {meth : Method} {c : Code} {D : va_G} {E : List wCell} {q : Nat → Nat} {ca : wCA} {A : Nat → Prop} (C : wC p ({ frames := 7, cells := 0, slots := 0, locals := 154 } : Room) s m args meth c cX0_hopeful yX0_hopeful.cls 5 (some .int) D vwCl (spX ++ E) q ca A) (N : Nat)    (K : (Int32 → wMem → Option (Int32 × wMem))) (r0 : (Int32 × wMem)) (hK : ∀ (y1_ : Int32) (μ : wMem), K y1_ μ = some r0 → wJ p l e ({ frames := 7, cells := 0, slots := 0, locals := 154 } : Room) s m args below meth c 5 D vwCl (spX ++ E) q ca A (wQi ({ frames := 7, cells := 0, slots := 0, locals := 154 } : Room) D vwCl (spX ++ E) q ca below args s A r0) 0 0 μ 150 [(1, .int y1_)] []) : ∀ (k : Nat) (x1_ : Int32) (x2_ : Int32) (μ : wMem), gX0_hopeful_74 N   K k x1_ x2_ μ = some r0 → wJ p l e ({ frames := 7, cells := 0, slots := 0, locals := 154 } : Room) s m args below meth c 5 D vwCl (spX ++ E) q ca A (wQi ({ frames := 7, cells := 0, slots := 0, locals := 154 } : Room) D vwCl (spX ++ E) q ca below args s A r0) 0 0 μ 74 [(0, .ref (q 0)), (1, .int x1_), (2, .int x2_)] [] := by
  intro k
  induction k with
  | zero =>
    intro x1_ x2_ μ hf
    cases hf
  | succ k ih =>
    intro x1_ x2_ μ hf
    replace hf : gbX0_hopeful_74 N   K (gX0_hopeful_74 N   K k) x1_ x2_ μ = some r0 := hf
    unfold gbX0_hopeful_74 at hf
    refine wr_iload_n 74 C dX0_hopeful_74 2 rfl rfl ?_
    refine wr_if_eq 75 150 C dX0_hopeful_75 (by decide) (fun c29 => ?_) (fun c29 => ?_)
    · replace hf := o_pos c29 hf
      refine wr_sub [(1, .int x1_)] [1] rfl ?_
      exact hK x1_ μ hf
    · replace hf := o_neg c29 hf
      refine wr_iload_n 78 C dX0_hopeful_78 1 rfl rfl ?_
      refine wr_istore_n 79 [(3, .int x1_), (0, .ref (q 0)), (1, .int x1_), (2, .int x2_)] C dX0_hopeful_79 rfl rfl (Nat.le_of_ble_eq_true rfl) rfl ?_
      refine wr_aload_n 80 C dX0_hopeful_80 1 rfl rfl ?_
      refine gespX_0_21_X0 81 C dX0_hopeful_81 ?_
      refine wr_iconst 84 C dX0_hopeful_84 (v := 1) rfl ?_
      refine wr_isub 85 C dX0_hopeful_85 ?_
      obtain ⟨x30, ex30, hf⟩ := o_let hf
      refine wr_istore 86 [(4, .int x30), (3, .int x1_), (0, .ref (q 0)), (1, .int x1_), (2, .int x2_)] C dX0_hopeful_86 ex30 (Nat.le_of_ble_eq_true rfl) rfl ?_
      refine wr_sub [(0, .ref (q 0)), (1, .int x1_), (3, .int x1_), (4, .int x30)] [2, 3, 1, 0] rfl ?_
      refine tX0_hopeful_88 C N   x1_ _ r0 (fun x48 μ47 hf => ?_) N x1_ x30 μ hf
      · replace hf := hf
        refine wr_iload_n 136 C dX0_hopeful_136 1 rfl rfl ?_
        refine wr_iload_n 137 C dX0_hopeful_137 2 rfl rfl ?_
        obtain ⟨Jhopeful146, eJhopeful146, hf⟩ := o_let hf
        have hJhopeful146 : ∀ (v50 : Int32) (μ49 : wMem), Jhopeful146 v50 μ49 = some r0 → wJ p l e ({ frames := 7, cells := 0, slots := 0, locals := 154 } : Room) s m args below meth c 5 D vwCl (spX ++ E) q ca A (wQi ({ frames := 7, cells := 0, slots := 0, locals := 154 } : Room) D vwCl (spX ++ E) q ca below args s A r0) 0 0 μ49 146 [(0, .ref (q 0)), (1, .int x48)] [.int v50] := by
          intro v50 μ49 hf
          rw [eJhopeful146] at hf
          refine wr_istore_n 146 [(2, .int v50), (0, .ref (q 0)), (1, .int x48)] C dX0_hopeful_146 rfl rfl (Nat.le_of_ble_eq_true rfl) rfl ?_
          refine wr_goto 147 C dX0_hopeful_147 (tgt := 74) (by decide) ?_
          refine wr_sub [(0, .ref (q 0)), (1, .int x48), (2, .int v50)] [1, 2, 0] rfl ?_
          exact ih x48 v50 μ49 hf
        refine wr_icmp_le 138 145 C dX0_hopeful_138 (by decide) (fun c51 => ?_) (fun c51 => ?_)
        · replace hf := o_pos c51 hf
          refine wr_iconst 145 C dX0_hopeful_145 (v := 0) rfl ?_
          refine wr_sub [(0, .ref (q 0)), (1, .int x48)] [0, 1] rfl ?_
          exact hJhopeful146 0 μ47 hf
        · replace hf := o_neg c51 hf
          refine wr_iconst 141 C dX0_hopeful_141 (v := 1) rfl ?_
          refine wr_goto 142 C dX0_hopeful_142 (tgt := 146) (by decide) ?_
          refine wr_sub [(0, .ref (q 0)), (1, .int x48)] [0, 1] rfl ?_
          exact hJhopeful146 1 μ47 hf
def fX0_hopeful (N : Nat)   (μ : wMem) : Option (Int32 × wMem) :=
  wBind (fX0_isFamily N   μ) fun v3 μ2 => if v3 = 0 then some ((-2), μ2) else wBindV (fX0_settlesAll N   μ2) fun μ6 => gX0_hopeful_18 N   (fun (x28 : Int32) (μ27 : wMem) => gX0_hopeful_74 N   (fun (x53 : Int32) (μ52 : wMem) => some (x53, μ52)) N x28 1 μ27) N 0 0 μ6
set_option maxHeartbeats 4000000 in
set_option maxRecDepth 100000 in
theorem tX0_hopeful (l : Launch) {D : va_G} {E : List wCell} {q : Nat → Nat} {ca : wCA} (N : Nat)    (μ : wMem) (r0 : (Int32 × wMem)) (hf : fX0_hopeful N   μ = some r0) : wMi l yX0_hopeful cX0_hopeful 5 (some .int) ({ frames := 7, cells := 0, slots := 0, locals := 154 } : Room) D vwCl (spX ++ E) q ca [.ref (q 0)] μ r0 := by
  refine wMi_intro (by decide) (Nat.le_of_ble_eq_true rfl) ?_
  intro p e s m args below meth c A C
  unfold fX0_hopeful at hf
  refine wr_sub [(0, .ref (q 0))] [0] rfl ?_
  refine wr_aload_n 0 C dX0_hopeful_0 0 rfl rfl ?_
  obtain ⟨v3, μ2, h1, hf⟩ := o_bind hf
  refine wr_Vi (kc1 := 0) (ks1 := 0) 1 [] C dX0_hopeful_1 (tX0_isFamily l N    μ (v3, μ2) h1) okX0_isFamily q770 (b := 0) spX_0 rfl ⟨rfl, rfl, Nat.le_of_ble_eq_true rfl, Nat.le_of_ble_eq_true rfl, Nat.zero_le _, Nat.zero_le _⟩ (Nat.le_of_ble_eq_true rfl) rfl ?_
  refine wr_if_ne 4 10 C dX0_hopeful_4 (by decide) (fun c4 => ?_) (fun c4 => ?_)
  · replace hf := o_neg c4 hf
    refine wr_aload_n 10 C dX0_hopeful_10 0 rfl rfl ?_
    obtain ⟨μ6, h5, hf⟩ := o_bindV hf
    refine wr_Vv (kc1 := 0) (ks1 := 0) 11 [] C dX0_hopeful_11 (tX0_settlesAll l N    μ2 μ6 h5) okX0_settlesAll q977 (b := 0) spX_0 rfl ⟨rfl, rfl, Nat.le_of_ble_eq_true rfl, Nat.le_of_ble_eq_true rfl, Nat.zero_le _, Nat.zero_le _⟩ (Nat.le_of_ble_eq_true rfl) rfl ?_
    refine wr_iconst 14 C dX0_hopeful_14 (v := 0) rfl ?_
    refine wr_istore_n 15 [(1, .int 0), (0, .ref (q 0))] C dX0_hopeful_15 rfl rfl (Nat.le_of_ble_eq_true rfl) rfl ?_
    refine wr_iconst 16 C dX0_hopeful_16 (v := 0) rfl ?_
    refine wr_istore_n 17 [(2, .int 0), (1, .int 0), (0, .ref (q 0))] C dX0_hopeful_17 rfl rfl (Nat.le_of_ble_eq_true rfl) rfl ?_
    refine wr_sub [(0, .ref (q 0)), (1, .int 0), (2, .int 0)] [2, 1, 0] rfl ?_
    refine tX0_hopeful_18 C N    _ r0 (fun x28 μ27 hf => ?_) N 0 0 μ6 hf
    · replace hf := hf
      refine wr_iconst 72 C dX0_hopeful_72 (v := 1) rfl ?_
      refine wr_istore_n 73 [(2, .int 1), (0, .ref (q 0)), (1, .int x28)] C dX0_hopeful_73 rfl rfl (Nat.le_of_ble_eq_true rfl) rfl ?_
      refine wr_sub [(0, .ref (q 0)), (1, .int x28), (2, .int 1)] [1, 2, 0] rfl ?_
      refine tX0_hopeful_74 C N    _ r0 (fun x53 μ52 hf => ?_) N x28 1 μ27 hf
      · replace hf := hf
        refine wr_iload_n 150 C dX0_hopeful_150 0 rfl rfl ?_
        exact wr_iret 151 C dX0_hopeful_151 ⟨Nat.zero_le _, Nat.zero_le _⟩ (Option.some.inj hf)
  · replace hf := o_pos c4 hf
    refine wr_bipush 7 C dX0_hopeful_7 (v := (-2)) rfl ?_
    exact wr_iret 9 C dX0_hopeful_9 ⟨Nat.zero_le _, Nat.zero_le _⟩ (Option.some.inj hf)
abbrev cX0_isSet : ByteArray := prog_1_method_78_code
def yX0_isSet : MethodName := ⟨RX0, "isSet", "(I)Z"⟩
def dkwX0_isSet_1 : List UInt8 := [167, 0, 4, 3, 172]
abbrev dktX0_isSet_1 : List UInt8 := dkwX0_isSet_1 ++ []
def dkwX0_isSet_0 : List UInt8 := [42, 182, 0, 252, 153, 0, 21, 27, 133, 9, 42, 182, 0, 215, 133, 184, 0, 103, 153, 0, 7, 4]
abbrev dktX0_isSet_0 : List UInt8 := dkwX0_isSet_0 ++ dktX0_isSet_1
theorem dksX0_isSet_0 : cX0_isSet.data.toList.drop 0 = dktX0_isSet_0 := by decide +kernel
theorem dksX0_isSet_1 : cX0_isSet.data.toList.drop 22 = dktX0_isSet_1 := dk_seg dksX0_isSet_0 22 rfl rfl
theorem dX0_isSet_0 : decode cX0_isSet 0 = .ok (.aload_n 0, 1) := dk_42 (dk_at dksX0_isSet_0 0 rfl rfl)
theorem dX0_isSet_1 : decode cX0_isSet 1 = .ok (.invokevirtual 252, 3) := dk_182 0 252 (dk_at dksX0_isSet_0 1 rfl rfl)
theorem dX0_isSet_4 : decode cX0_isSet 4 = .ok (.ifCond .eq 21, 3) := dk_153 0 21 (dk_at dksX0_isSet_0 4 rfl rfl)
theorem dX0_isSet_7 : decode cX0_isSet 7 = .ok (.iload_n 1, 1) := dk_27 (dk_at dksX0_isSet_0 7 rfl rfl)
theorem dX0_isSet_8 : decode cX0_isSet 8 = .ok (.i2l, 1) := dk_133 (dk_at dksX0_isSet_0 8 rfl rfl)
theorem dX0_isSet_9 : decode cX0_isSet 9 = .ok (.lconst 0, 1) := dk_9 (dk_at dksX0_isSet_0 9 rfl rfl)
theorem dX0_isSet_10 : decode cX0_isSet 10 = .ok (.aload_n 0, 1) := dk_42 (dk_at dksX0_isSet_0 10 rfl rfl)
theorem dX0_isSet_11 : decode cX0_isSet 11 = .ok (.invokevirtual 215, 3) := dk_182 0 215 (dk_at dksX0_isSet_0 11 rfl rfl)
theorem dX0_isSet_14 : decode cX0_isSet 14 = .ok (.i2l, 1) := dk_133 (dk_at dksX0_isSet_0 14 rfl rfl)
theorem dX0_isSet_15 : decode cX0_isSet 15 = .ok (.invokestatic 103, 3) := dk_184 0 103 (dk_at dksX0_isSet_0 15 rfl rfl)
theorem dX0_isSet_18 : decode cX0_isSet 18 = .ok (.ifCond .eq 7, 3) := dk_153 0 7 (dk_at dksX0_isSet_0 18 rfl rfl)
theorem dX0_isSet_21 : decode cX0_isSet 21 = .ok (.iconst 1, 1) := dk_4 (dk_at dksX0_isSet_0 21 rfl rfl)
theorem dX0_isSet_22 : decode cX0_isSet 22 = .ok (.goto 4, 3) := dk_167 0 4 (dk_at dksX0_isSet_1 0 rfl rfl)
theorem dX0_isSet_25 : decode cX0_isSet 25 = .ok (.iconst 0, 1) := dk_3 (dk_at dksX0_isSet_1 3 rfl rfl)
theorem dX0_isSet_26 : decode cX0_isSet 26 = .ok (.ireturn, 1) := dk_172 (dk_at dksX0_isSet_1 4 rfl rfl)

theorem okX0_isSet : wOkV yX0_isSet cX0_isSet 2 (some .boolean) 1 := ⟨q995, qs51, q136, q996, by decide, by decide, by decide +kernel⟩
def fX0_isSet (N : Nat)  (a1 : Int32) (μ : wMem) : Option (Int32 × wMem) :=
  wBind (fX0_isFamily N   μ) fun v3 μ2 => if v3 = 0 then some (0, μ2) else wBind (fX0_all N   μ2) fun v7 μ6 => wBind (fX0_isIn N  (Int32.toInt64 a1) 0 (Int32.toInt64 v7) μ6) fun v10 μ9 => if v10 = 0 then some (0, μ9) else some (1, μ9)
set_option maxHeartbeats 4000000 in
set_option maxRecDepth 100000 in
theorem tX0_isSet (l : Launch) {D : va_G} {E : List wCell} {q : Nat → Nat} {ca : wCA} (N : Nat)   (a1 : Int32) (μ : wMem) (r0 : (Int32 × wMem)) (hf : fX0_isSet N  a1 μ = some r0) : wMi l yX0_isSet cX0_isSet 2 (some .boolean) ({ frames := 1, cells := 0, slots := 0, locals := 25 } : Room) D vwCl (spX ++ E) q ca [.ref (q 0), .int a1] μ r0 := by
  refine wMi_intro (by decide) (Nat.le_of_ble_eq_true rfl) ?_
  intro p e s m args below meth c A C
  unfold fX0_isSet at hf
  refine wr_sub [(0, .ref (q 0)), (1, .int a1)] [0, 1] rfl ?_
  refine wr_aload_n 0 C dX0_isSet_0 0 rfl rfl ?_
  obtain ⟨v3, μ2, h1, hf⟩ := o_bind hf
  refine wr_Vi (kc1 := 0) (ks1 := 0) 1 [] C dX0_isSet_1 (tX0_isFamily l N    μ (v3, μ2) h1) okX0_isFamily q770 (b := 0) spX_0 rfl ⟨rfl, rfl, Nat.le_of_ble_eq_true rfl, Nat.le_of_ble_eq_true rfl, Nat.zero_le _, Nat.zero_le _⟩ (Nat.le_of_ble_eq_true rfl) rfl ?_
  refine wr_if_eq 4 25 C dX0_isSet_4 (by decide) (fun c4 => ?_) (fun c4 => ?_)
  · replace hf := o_pos c4 hf
    refine wr_iconst 25 C dX0_isSet_25 (v := 0) rfl ?_
    exact wr_zret 26 C dX0_isSet_26 rfl ⟨Nat.zero_le _, Nat.zero_le _⟩ (Option.some.inj hf)
  · replace hf := o_neg c4 hf
    refine wr_iload_n 7 C dX0_isSet_7 1 rfl rfl ?_
    refine wr_i2l 8 C dX0_isSet_8 ?_
    refine wr_lconst 9 C dX0_isSet_9 (v := 0) rfl ?_
    refine wr_aload_n 10 C dX0_isSet_10 0 rfl rfl ?_
    obtain ⟨v7, μ6, h5, hf⟩ := o_bind hf
    refine wr_Vi (kc1 := 0) (ks1 := 0) 11 [.long 0, .long (Int32.toInt64 a1)] C dX0_isSet_11 (tX0_all l N    μ2 (v7, μ6) h5) okX0_all q912 (b := 0) spX_0 rfl ⟨rfl, rfl, Nat.le_of_ble_eq_true rfl, Nat.le_of_ble_eq_true rfl, Nat.zero_le _, Nat.zero_le _⟩ (Nat.le_of_ble_eq_true rfl) rfl ?_
    refine wr_i2l 14 C dX0_isSet_14 ?_
    obtain ⟨v10, μ9, h8, hf⟩ := o_bind hf
    refine wr_Si (kc1 := 0) (ks1 := 0) 15 [] C dX0_isSet_15 (tX0_isIn l N   (Int32.toInt64 a1) 0 (Int32.toInt64 v7) μ6 (v10, μ9) h8) okX0_isIn q446 ⟨rfl, rfl, Nat.le_of_ble_eq_true rfl, Nat.le_of_ble_eq_true rfl, Nat.zero_le _, Nat.zero_le _⟩ (Nat.le_of_ble_eq_true rfl) rfl ?_
    refine wr_if_eq 18 25 C dX0_isSet_18 (by decide) (fun c11 => ?_) (fun c11 => ?_)
    · replace hf := o_pos c11 hf
      refine wr_iconst 25 C dX0_isSet_25 (v := 0) rfl ?_
      exact wr_zret 26 C dX0_isSet_26 rfl ⟨Nat.zero_le _, Nat.zero_le _⟩ (Option.some.inj hf)
    · replace hf := o_neg c11 hf
      refine wr_iconst 21 C dX0_isSet_21 (v := 1) rfl ?_
      refine wr_goto 22 C dX0_isSet_22 (tgt := 26) (by decide) ?_
      exact wr_zret 26 C dX0_isSet_26 rfl ⟨Nat.zero_le _, Nat.zero_le _⟩ (Option.some.inj hf)
abbrev cX0_till : ByteArray := prog_1_method_79_code
def yX0_till : MethodName := ⟨RX0, "till", "(I)I"⟩
def dkwX0_till_2 : List UInt8 := [160, 0, 15, 42, 180, 0, 52, 42, 180, 0, 61, 28, 46, 46, 172, 132, 2, 1, 167, 255, 215, 2, 172]
abbrev dktX0_till_2 : List UInt8 := dkwX0_till_2 ++ []
def dkwX0_till_1 : List UInt8 := [61, 28, 42, 180, 1, 39, 162, 0, 39, 42, 42, 180, 0, 61, 28, 46, 182, 1, 51, 42, 180, 0, 179, 27]
abbrev dktX0_till_1 : List UInt8 := dkwX0_till_1 ++ dktX0_till_2
def dkwX0_till_0 : List UInt8 := [42, 27, 182, 1, 109, 154, 0, 6, 16, 254, 172, 42, 182, 0, 249, 42, 42, 180, 0, 33, 182, 1, 60, 3]
abbrev dktX0_till_0 : List UInt8 := dkwX0_till_0 ++ dktX0_till_1
theorem dksX0_till_0 : cX0_till.data.toList.drop 0 = dktX0_till_0 := by decide +kernel
theorem dksX0_till_1 : cX0_till.data.toList.drop 24 = dktX0_till_1 := dk_seg dksX0_till_0 24 rfl rfl
theorem dksX0_till_2 : cX0_till.data.toList.drop 48 = dktX0_till_2 := dk_seg dksX0_till_1 24 rfl rfl
theorem dX0_till_0 : decode cX0_till 0 = .ok (.aload_n 0, 1) := dk_42 (dk_at dksX0_till_0 0 rfl rfl)
theorem dX0_till_1 : decode cX0_till 1 = .ok (.iload_n 1, 1) := dk_27 (dk_at dksX0_till_0 1 rfl rfl)
theorem dX0_till_2 : decode cX0_till 2 = .ok (.invokevirtual 365, 3) := dk_182 1 109 (dk_at dksX0_till_0 2 rfl rfl)
theorem dX0_till_5 : decode cX0_till 5 = .ok (.ifCond .ne 6, 3) := dk_154 0 6 (dk_at dksX0_till_0 5 rfl rfl)
theorem dX0_till_8 : decode cX0_till 8 = .ok (.bipush (-2), 2) := dk_16 254 (dk_at dksX0_till_0 8 rfl rfl)
theorem dX0_till_10 : decode cX0_till 10 = .ok (.ireturn, 1) := dk_172 (dk_at dksX0_till_0 10 rfl rfl)
theorem dX0_till_11 : decode cX0_till 11 = .ok (.aload_n 0, 1) := dk_42 (dk_at dksX0_till_0 11 rfl rfl)
theorem dX0_till_12 : decode cX0_till 12 = .ok (.invokevirtual 249, 3) := dk_182 0 249 (dk_at dksX0_till_0 12 rfl rfl)
theorem dX0_till_15 : decode cX0_till 15 = .ok (.aload_n 0, 1) := dk_42 (dk_at dksX0_till_0 15 rfl rfl)
theorem dX0_till_16 : decode cX0_till 16 = .ok (.aload_n 0, 1) := dk_42 (dk_at dksX0_till_0 16 rfl rfl)
theorem dX0_till_17 : decode cX0_till 17 = .ok (.getfield 33, 3) := dk_180 0 33 (dk_at dksX0_till_0 17 rfl rfl)
theorem dX0_till_20 : decode cX0_till 20 = .ok (.invokevirtual 316, 3) := dk_182 1 60 (dk_at dksX0_till_0 20 rfl rfl)
theorem dX0_till_23 : decode cX0_till 23 = .ok (.iconst 0, 1) := dk_3 (dk_at dksX0_till_0 23 rfl rfl)
theorem dX0_till_24 : decode cX0_till 24 = .ok (.istore_n 2, 1) := dk_61 (dk_at dksX0_till_1 0 rfl rfl)
theorem dX0_till_25 : decode cX0_till 25 = .ok (.iload_n 2, 1) := dk_28 (dk_at dksX0_till_1 1 rfl rfl)
theorem dX0_till_26 : decode cX0_till 26 = .ok (.aload_n 0, 1) := dk_42 (dk_at dksX0_till_1 2 rfl rfl)
theorem dX0_till_27 : decode cX0_till 27 = .ok (.getfield 295, 3) := dk_180 1 39 (dk_at dksX0_till_1 3 rfl rfl)
theorem dX0_till_30 : decode cX0_till 30 = .ok (.if_icmp .ge 39, 3) := dk_162 0 39 (dk_at dksX0_till_1 6 rfl rfl)
theorem dX0_till_33 : decode cX0_till 33 = .ok (.aload_n 0, 1) := dk_42 (dk_at dksX0_till_1 9 rfl rfl)
theorem dX0_till_34 : decode cX0_till 34 = .ok (.aload_n 0, 1) := dk_42 (dk_at dksX0_till_1 10 rfl rfl)
theorem dX0_till_35 : decode cX0_till 35 = .ok (.getfield 61, 3) := dk_180 0 61 (dk_at dksX0_till_1 11 rfl rfl)
theorem dX0_till_38 : decode cX0_till 38 = .ok (.iload_n 2, 1) := dk_28 (dk_at dksX0_till_1 14 rfl rfl)
theorem dX0_till_39 : decode cX0_till 39 = .ok (.iaload, 1) := dk_46 (dk_at dksX0_till_1 15 rfl rfl)
theorem dX0_till_40 : decode cX0_till 40 = .ok (.invokevirtual 307, 3) := dk_182 1 51 (dk_at dksX0_till_1 16 rfl rfl)
theorem dX0_till_43 : decode cX0_till 43 = .ok (.aload_n 0, 1) := dk_42 (dk_at dksX0_till_1 19 rfl rfl)
theorem dX0_till_44 : decode cX0_till 44 = .ok (.getfield 179, 3) := dk_180 0 179 (dk_at dksX0_till_1 20 rfl rfl)
theorem dX0_till_47 : decode cX0_till 47 = .ok (.iload_n 1, 1) := dk_27 (dk_at dksX0_till_1 23 rfl rfl)
theorem dX0_till_48 : decode cX0_till 48 = .ok (.if_icmp .ne 15, 3) := dk_160 0 15 (dk_at dksX0_till_2 0 rfl rfl)
theorem dX0_till_51 : decode cX0_till 51 = .ok (.aload_n 0, 1) := dk_42 (dk_at dksX0_till_2 3 rfl rfl)
theorem dX0_till_52 : decode cX0_till 52 = .ok (.getfield 52, 3) := dk_180 0 52 (dk_at dksX0_till_2 4 rfl rfl)
theorem dX0_till_55 : decode cX0_till 55 = .ok (.aload_n 0, 1) := dk_42 (dk_at dksX0_till_2 7 rfl rfl)
theorem dX0_till_56 : decode cX0_till 56 = .ok (.getfield 61, 3) := dk_180 0 61 (dk_at dksX0_till_2 8 rfl rfl)
theorem dX0_till_59 : decode cX0_till 59 = .ok (.iload_n 2, 1) := dk_28 (dk_at dksX0_till_2 11 rfl rfl)
theorem dX0_till_60 : decode cX0_till 60 = .ok (.iaload, 1) := dk_46 (dk_at dksX0_till_2 12 rfl rfl)
theorem dX0_till_61 : decode cX0_till 61 = .ok (.iaload, 1) := dk_46 (dk_at dksX0_till_2 13 rfl rfl)
theorem dX0_till_62 : decode cX0_till 62 = .ok (.ireturn, 1) := dk_172 (dk_at dksX0_till_2 14 rfl rfl)
theorem dX0_till_63 : decode cX0_till 63 = .ok (.iinc 2 1, 3) := dk_132 2 1 (dk_at dksX0_till_2 15 rfl rfl)
theorem dX0_till_66 : decode cX0_till 66 = .ok (.goto (-41), 3) := dk_167 255 215 (dk_at dksX0_till_2 18 rfl rfl)
theorem dX0_till_69 : decode cX0_till 69 = .ok (.iconst (-1), 1) := dk_2 (dk_at dksX0_till_2 21 rfl rfl)
theorem dX0_till_70 : decode cX0_till 70 = .ok (.ireturn, 1) := dk_172 (dk_at dksX0_till_2 22 rfl rfl)

theorem okX0_till : wOkV yX0_till cX0_till 3 (some .int) 1 := ⟨q990, q991, q136, q992, by decide, by decide, by decide +kernel⟩
def gbX0_till_25 (N : Nat)  (x1_ : Int32) (K : (wMem → Option (Int32 × wMem))) (rec : (Int32 → wMem → Option (Int32 × wMem))) (x2_ : Int32) (μ : wMem) : Option (Int32 × wMem) :=
  if (μ.1 0 21) ≤ x2_ then K  μ else wG (ok_in x2_ 100352) (wBindV (fX0_be N  (μ.1 13 (Int32.toNatClampNeg x2_)) μ) fun μ12 => if (μ12.1 0 5) = x1_ then wG (ok_in x2_ 100352) (wG (ok_in (μ12.1 13 (Int32.toNatClampNeg x2_)) 100352) (some (μ12.1 10 (Int32.toNatClampNeg (μ12.1 13 (Int32.toNatClampNeg x2_))), μ12))) else wLet (x2_ + 1 : Int32) fun x14 => rec x14 μ12)
def gX0_till_25 (N : Nat)  (x1_ : Int32) (K : (wMem → Option (Int32 × wMem))) : Nat → (Int32 → wMem → Option (Int32 × wMem))
  | 0 => fun _ _ => none
  | k + 1 => gbX0_till_25 N  x1_ K (gX0_till_25 N  x1_ K k)
set_option maxHeartbeats 4000000 in
set_option maxRecDepth 100000 in
theorem tX0_till_25 {p : Program} {l : Launch} {e : Env} {s : State} {m : MethodId} {args : Array Value} {below : List Frame} {meth : Method} {c : Code} {D : va_G} {E : List wCell} {q : Nat → Nat} {ca : wCA} {A : Nat → Prop} (C : wC p ({ frames := 6, cells := 0, slots := 0, locals := 134 } : Room) s m args meth c cX0_till yX0_till.cls 3 (some .int) D vwCl (spX ++ E) q ca A) (N : Nat)   (x1_ : Int32) (K : (wMem → Option (Int32 × wMem))) (r0 : (Int32 × wMem)) (hK : ∀  (μ : wMem), K  μ = some r0 → wJ p l e ({ frames := 6, cells := 0, slots := 0, locals := 134 } : Room) s m args below meth c 3 D vwCl (spX ++ E) q ca A (wQi ({ frames := 6, cells := 0, slots := 0, locals := 134 } : Room) D vwCl (spX ++ E) q ca below args s A r0) 0 0 μ 69 [] []) : ∀ (k : Nat) (x2_ : Int32) (μ : wMem), gX0_till_25 N  x1_ K k x2_ μ = some r0 → wJ p l e ({ frames := 6, cells := 0, slots := 0, locals := 134 } : Room) s m args below meth c 3 D vwCl (spX ++ E) q ca A (wQi ({ frames := 6, cells := 0, slots := 0, locals := 134 } : Room) D vwCl (spX ++ E) q ca below args s A r0) 0 0 μ 25 [(0, .ref (q 0)), (1, .int x1_), (2, .int x2_)] [] := by
  intro k
  induction k with
  | zero =>
    intro x2_ μ hf
    cases hf
  | succ k ih =>
    intro x2_ μ hf
    replace hf : gbX0_till_25 N  x1_ K (gX0_till_25 N  x1_ K k) x2_ μ = some r0 := hf
    unfold gbX0_till_25 at hf
    refine wr_iload_n 25 C dX0_till_25 2 rfl rfl ?_
    refine wr_aload_n 26 C dX0_till_26 0 rfl rfl ?_
    refine gespX_0_21_X0 27 C dX0_till_27 ?_
    refine wr_icmp_ge 30 69 C dX0_till_30 (by decide) (fun c9 => ?_) (fun c9 => ?_)
    · replace hf := o_pos c9 hf
      refine wr_sub [] [] rfl ?_
      exact hK  μ hf
    · replace hf := o_neg c9 hf
      refine wr_aload_n 33 C dX0_till_33 0 rfl rfl ?_
      refine wr_aload_n 34 C dX0_till_34 0 rfl rfl ?_
      refine gespX_0_19_X0 35 C dX0_till_35 ?_
      refine wr_iload_n 38 C dX0_till_38 2 rfl rfl ?_
      obtain ⟨g10, hf⟩ := o_g hf
      refine wr_iald 39 C dX0_till_39 spX_13 g10 ?_
      obtain ⟨μ12, h11, hf⟩ := o_bindV hf
      refine wr_Vv (kc1 := 0) (ks1 := 0) 40 [] C dX0_till_40 (tX0_be l N   (μ.1 13 (Int32.toNatClampNeg x2_)) μ μ12 h11) okX0_be q885 (b := 0) spX_0 rfl ⟨rfl, rfl, Nat.le_of_ble_eq_true rfl, Nat.le_of_ble_eq_true rfl, Nat.zero_le _, Nat.zero_le _⟩ (Nat.le_of_ble_eq_true rfl) rfl ?_
      refine wr_aload_n 43 C dX0_till_43 0 rfl rfl ?_
      refine gespX_0_5_X0 44 C dX0_till_44 ?_
      refine wr_iload_n 47 C dX0_till_47 1 rfl rfl ?_
      refine wr_icmp_ne 48 63 C dX0_till_48 (by decide) (fun c13 => ?_) (fun c13 => ?_)
      · replace hf := o_neg c13 hf
        obtain ⟨x14, ex14, hf⟩ := o_let hf
        refine wr_iinc 63 [(2, .int x14), (0, .ref (q 0)), (1, .int x1_)] C dX0_till_63 2 rfl (ex14.trans rfl) (Nat.le_of_ble_eq_true rfl) rfl ?_
        refine wr_goto 66 C dX0_till_66 (tgt := 25) (by decide) ?_
        refine wr_sub [(0, .ref (q 0)), (1, .int x1_), (2, .int x14)] [1, 2, 0] rfl ?_
        exact ih x14 μ12 hf
      · replace hf := o_pos c13 hf
        refine wr_aload_n 51 C dX0_till_51 0 rfl rfl ?_
        refine gespX_0_16_X0 52 C dX0_till_52 ?_
        refine wr_aload_n 55 C dX0_till_55 0 rfl rfl ?_
        refine gespX_0_19_X0 56 C dX0_till_56 ?_
        refine wr_iload_n 59 C dX0_till_59 2 rfl rfl ?_
        obtain ⟨g15, hf⟩ := o_g hf
        refine wr_iald 60 C dX0_till_60 spX_13 g15 ?_
        obtain ⟨g16, hf⟩ := o_g hf
        refine wr_iald 61 C dX0_till_61 spX_10 g16 ?_
        exact wr_iret 62 C dX0_till_62 ⟨Nat.zero_le _, Nat.zero_le _⟩ (Option.some.inj hf)
def fX0_till (N : Nat)  (a1 : Int32) (μ : wMem) : Option (Int32 × wMem) :=
  wBind (fX0_isSet N  a1 μ) fun v3 μ2 => if v3 = 0 then some ((-2), μ2) else wBindV (fX0_asItIs N   μ2) fun μ6 => wBindV (fX0_settles N 19  μ6) fun μ8 => gX0_till_25 N  a1 (fun  (μ17 : wMem) => some ((-1), μ17)) N 0 μ8
set_option maxHeartbeats 4000000 in
set_option maxRecDepth 100000 in
theorem tX0_till (l : Launch) {D : va_G} {E : List wCell} {q : Nat → Nat} {ca : wCA} (N : Nat)   (a1 : Int32) (μ : wMem) (r0 : (Int32 × wMem)) (hf : fX0_till N  a1 μ = some r0) : wMi l yX0_till cX0_till 3 (some .int) ({ frames := 6, cells := 0, slots := 0, locals := 134 } : Room) D vwCl (spX ++ E) q ca [.ref (q 0), .int a1] μ r0 := by
  refine wMi_intro (by decide) (Nat.le_of_ble_eq_true rfl) ?_
  intro p e s m args below meth c A C
  unfold fX0_till at hf
  refine wr_sub [(0, .ref (q 0)), (1, .int a1)] [0, 1] rfl ?_
  refine wr_aload_n 0 C dX0_till_0 0 rfl rfl ?_
  refine wr_iload_n 1 C dX0_till_1 1 rfl rfl ?_
  obtain ⟨v3, μ2, h1, hf⟩ := o_bind hf
  refine wr_Vi (kc1 := 0) (ks1 := 0) 2 [] C dX0_till_2 (tX0_isSet l N   a1 μ (v3, μ2) h1) okX0_isSet q993 (b := 0) spX_0 rfl ⟨rfl, rfl, Nat.le_of_ble_eq_true rfl, Nat.le_of_ble_eq_true rfl, Nat.zero_le _, Nat.zero_le _⟩ (Nat.le_of_ble_eq_true rfl) rfl ?_
  refine wr_if_ne 5 11 C dX0_till_5 (by decide) (fun c4 => ?_) (fun c4 => ?_)
  · replace hf := o_neg c4 hf
    refine wr_aload_n 11 C dX0_till_11 0 rfl rfl ?_
    obtain ⟨μ6, h5, hf⟩ := o_bindV hf
    refine wr_Vv (kc1 := 0) (ks1 := 0) 12 [] C dX0_till_12 (tX0_asItIs l N    μ2 μ6 h5) okX0_asItIs q737 (b := 0) spX_0 rfl ⟨rfl, rfl, Nat.le_of_ble_eq_true rfl, Nat.le_of_ble_eq_true rfl, Nat.zero_le _, Nat.zero_le _⟩ (Nat.le_of_ble_eq_true rfl) rfl ?_
    refine wr_aload_n 15 C dX0_till_15 0 rfl rfl ?_
    refine wr_aload_n 16 C dX0_till_16 0 rfl rfl ?_
    refine gespX_0_13_X0 17 C dX0_till_17 ?_
    obtain ⟨μ8, h7, hf⟩ := o_bindV hf
    refine wr_Vv (kc1 := 0) (ks1 := 0) 20 [] C dX0_till_20 (tX0_settles l N 19   μ6 μ8 h7) okX0_settles q860 (b := 0) spX_0 rfl ⟨rfl, rfl, Nat.le_of_ble_eq_true rfl, Nat.le_of_ble_eq_true rfl, Nat.zero_le _, Nat.zero_le _⟩ (Nat.le_of_ble_eq_true rfl) rfl ?_
    refine wr_iconst 23 C dX0_till_23 (v := 0) rfl ?_
    refine wr_istore_n 24 [(2, .int 0), (0, .ref (q 0)), (1, .int a1)] C dX0_till_24 rfl rfl (Nat.le_of_ble_eq_true rfl) rfl ?_
    refine wr_sub [(0, .ref (q 0)), (1, .int a1), (2, .int 0)] [1, 2, 0] rfl ?_
    refine tX0_till_25 C N   a1 _ r0 (fun  μ17 hf => ?_) N 0 μ8 hf
    · replace hf := hf
      refine wr_iconst 69 C dX0_till_69 (v := (-1)) rfl ?_
      exact wr_iret 70 C dX0_till_70 ⟨Nat.zero_le _, Nat.zero_le _⟩ (Option.some.inj hf)
  · replace hf := o_pos c4 hf
    refine wr_bipush 8 C dX0_till_8 (v := (-2)) rfl ?_
    exact wr_iret 10 C dX0_till_10 ⟨Nat.zero_le _, Nat.zero_le _⟩ (Option.some.inj hf)
abbrev cX0_over : ByteArray := prog_1_method_80_code
def yX0_over : MethodName := ⟨RX0, "over", "(I)I"⟩
def dkwX0_over_3 : List UInt8 := [2, 172]
abbrev dktX0_over_3 : List UInt8 := dkwX0_over_3 ++ []
def dkwX0_over_2 : List UInt8 := [184, 0, 171, 153, 0, 15, 42, 180, 0, 52, 42, 180, 0, 61, 28, 46, 46, 172, 132, 2, 1, 167, 255, 212]
abbrev dktX0_over_2 : List UInt8 := dkwX0_over_2 ++ dktX0_over_3
def dkwX0_over_1 : List UInt8 := [61, 28, 42, 180, 1, 39, 162, 0, 42, 42, 42, 180, 0, 61, 28, 46, 182, 1, 51, 42, 180, 0, 179, 27]
abbrev dktX0_over_1 : List UInt8 := dkwX0_over_1 ++ dktX0_over_2
def dkwX0_over_0 : List UInt8 := [42, 27, 182, 0, 134, 154, 0, 6, 16, 254, 172, 42, 182, 0, 249, 42, 42, 180, 0, 33, 182, 1, 60, 3]
abbrev dktX0_over_0 : List UInt8 := dkwX0_over_0 ++ dktX0_over_1
theorem dksX0_over_0 : cX0_over.data.toList.drop 0 = dktX0_over_0 := by decide +kernel
theorem dksX0_over_1 : cX0_over.data.toList.drop 24 = dktX0_over_1 := dk_seg dksX0_over_0 24 rfl rfl
theorem dksX0_over_2 : cX0_over.data.toList.drop 48 = dktX0_over_2 := dk_seg dksX0_over_1 24 rfl rfl
theorem dksX0_over_3 : cX0_over.data.toList.drop 72 = dktX0_over_3 := dk_seg dksX0_over_2 24 rfl rfl
theorem dX0_over_0 : decode cX0_over 0 = .ok (.aload_n 0, 1) := dk_42 (dk_at dksX0_over_0 0 rfl rfl)
theorem dX0_over_1 : decode cX0_over 1 = .ok (.iload_n 1, 1) := dk_27 (dk_at dksX0_over_0 1 rfl rfl)
theorem dX0_over_2 : decode cX0_over 2 = .ok (.invokevirtual 134, 3) := dk_182 0 134 (dk_at dksX0_over_0 2 rfl rfl)
theorem dX0_over_5 : decode cX0_over 5 = .ok (.ifCond .ne 6, 3) := dk_154 0 6 (dk_at dksX0_over_0 5 rfl rfl)
theorem dX0_over_8 : decode cX0_over 8 = .ok (.bipush (-2), 2) := dk_16 254 (dk_at dksX0_over_0 8 rfl rfl)
theorem dX0_over_10 : decode cX0_over 10 = .ok (.ireturn, 1) := dk_172 (dk_at dksX0_over_0 10 rfl rfl)
theorem dX0_over_11 : decode cX0_over 11 = .ok (.aload_n 0, 1) := dk_42 (dk_at dksX0_over_0 11 rfl rfl)
theorem dX0_over_12 : decode cX0_over 12 = .ok (.invokevirtual 249, 3) := dk_182 0 249 (dk_at dksX0_over_0 12 rfl rfl)
theorem dX0_over_15 : decode cX0_over 15 = .ok (.aload_n 0, 1) := dk_42 (dk_at dksX0_over_0 15 rfl rfl)
theorem dX0_over_16 : decode cX0_over 16 = .ok (.aload_n 0, 1) := dk_42 (dk_at dksX0_over_0 16 rfl rfl)
theorem dX0_over_17 : decode cX0_over 17 = .ok (.getfield 33, 3) := dk_180 0 33 (dk_at dksX0_over_0 17 rfl rfl)
theorem dX0_over_20 : decode cX0_over 20 = .ok (.invokevirtual 316, 3) := dk_182 1 60 (dk_at dksX0_over_0 20 rfl rfl)
theorem dX0_over_23 : decode cX0_over 23 = .ok (.iconst 0, 1) := dk_3 (dk_at dksX0_over_0 23 rfl rfl)
theorem dX0_over_24 : decode cX0_over 24 = .ok (.istore_n 2, 1) := dk_61 (dk_at dksX0_over_1 0 rfl rfl)
theorem dX0_over_25 : decode cX0_over 25 = .ok (.iload_n 2, 1) := dk_28 (dk_at dksX0_over_1 1 rfl rfl)
theorem dX0_over_26 : decode cX0_over 26 = .ok (.aload_n 0, 1) := dk_42 (dk_at dksX0_over_1 2 rfl rfl)
theorem dX0_over_27 : decode cX0_over 27 = .ok (.getfield 295, 3) := dk_180 1 39 (dk_at dksX0_over_1 3 rfl rfl)
theorem dX0_over_30 : decode cX0_over 30 = .ok (.if_icmp .ge 42, 3) := dk_162 0 42 (dk_at dksX0_over_1 6 rfl rfl)
theorem dX0_over_33 : decode cX0_over 33 = .ok (.aload_n 0, 1) := dk_42 (dk_at dksX0_over_1 9 rfl rfl)
theorem dX0_over_34 : decode cX0_over 34 = .ok (.aload_n 0, 1) := dk_42 (dk_at dksX0_over_1 10 rfl rfl)
theorem dX0_over_35 : decode cX0_over 35 = .ok (.getfield 61, 3) := dk_180 0 61 (dk_at dksX0_over_1 11 rfl rfl)
theorem dX0_over_38 : decode cX0_over 38 = .ok (.iload_n 2, 1) := dk_28 (dk_at dksX0_over_1 14 rfl rfl)
theorem dX0_over_39 : decode cX0_over 39 = .ok (.iaload, 1) := dk_46 (dk_at dksX0_over_1 15 rfl rfl)
theorem dX0_over_40 : decode cX0_over 40 = .ok (.invokevirtual 307, 3) := dk_182 1 51 (dk_at dksX0_over_1 16 rfl rfl)
theorem dX0_over_43 : decode cX0_over 43 = .ok (.aload_n 0, 1) := dk_42 (dk_at dksX0_over_1 19 rfl rfl)
theorem dX0_over_44 : decode cX0_over 44 = .ok (.getfield 179, 3) := dk_180 0 179 (dk_at dksX0_over_1 20 rfl rfl)
theorem dX0_over_47 : decode cX0_over 47 = .ok (.iload_n 1, 1) := dk_27 (dk_at dksX0_over_1 23 rfl rfl)
theorem dX0_over_48 : decode cX0_over 48 = .ok (.invokestatic 171, 3) := dk_184 0 171 (dk_at dksX0_over_2 0 rfl rfl)
theorem dX0_over_51 : decode cX0_over 51 = .ok (.ifCond .eq 15, 3) := dk_153 0 15 (dk_at dksX0_over_2 3 rfl rfl)
theorem dX0_over_54 : decode cX0_over 54 = .ok (.aload_n 0, 1) := dk_42 (dk_at dksX0_over_2 6 rfl rfl)
theorem dX0_over_55 : decode cX0_over 55 = .ok (.getfield 52, 3) := dk_180 0 52 (dk_at dksX0_over_2 7 rfl rfl)
theorem dX0_over_58 : decode cX0_over 58 = .ok (.aload_n 0, 1) := dk_42 (dk_at dksX0_over_2 10 rfl rfl)
theorem dX0_over_59 : decode cX0_over 59 = .ok (.getfield 61, 3) := dk_180 0 61 (dk_at dksX0_over_2 11 rfl rfl)
theorem dX0_over_62 : decode cX0_over 62 = .ok (.iload_n 2, 1) := dk_28 (dk_at dksX0_over_2 14 rfl rfl)
theorem dX0_over_63 : decode cX0_over 63 = .ok (.iaload, 1) := dk_46 (dk_at dksX0_over_2 15 rfl rfl)
theorem dX0_over_64 : decode cX0_over 64 = .ok (.iaload, 1) := dk_46 (dk_at dksX0_over_2 16 rfl rfl)
theorem dX0_over_65 : decode cX0_over 65 = .ok (.ireturn, 1) := dk_172 (dk_at dksX0_over_2 17 rfl rfl)
theorem dX0_over_66 : decode cX0_over 66 = .ok (.iinc 2 1, 3) := dk_132 2 1 (dk_at dksX0_over_2 18 rfl rfl)
theorem dX0_over_69 : decode cX0_over 69 = .ok (.goto (-44), 3) := dk_167 255 212 (dk_at dksX0_over_2 21 rfl rfl)
theorem dX0_over_72 : decode cX0_over 72 = .ok (.iconst (-1), 1) := dk_2 (dk_at dksX0_over_3 0 rfl rfl)
theorem dX0_over_73 : decode cX0_over 73 = .ok (.ireturn, 1) := dk_172 (dk_at dksX0_over_3 1 rfl rfl)

theorem okX0_over : wOkV yX0_over cX0_over 3 (some .int) 1 := ⟨q998, q999, q136, q1000, by decide, by decide, by decide +kernel⟩
def gbX0_over_25 (N : Nat)  (x1_ : Int32) (K : (wMem → Option (Int32 × wMem))) (rec : (Int32 → wMem → Option (Int32 × wMem))) (x2_ : Int32) (μ : wMem) : Option (Int32 × wMem) :=
  if (μ.1 0 21) ≤ x2_ then K  μ else wG (ok_in x2_ 100352) (wBindV (fX0_be N  (μ.1 13 (Int32.toNatClampNeg x2_)) μ) fun μ12 => wBind (fX0_has N  (μ12.1 0 5) x1_ μ12) fun v15 μ14 => if v15 = 0 then wLet (x2_ + 1 : Int32) fun x17 => rec x17 μ14 else wG (ok_in x2_ 100352) (wG (ok_in (μ14.1 13 (Int32.toNatClampNeg x2_)) 100352) (some (μ14.1 10 (Int32.toNatClampNeg (μ14.1 13 (Int32.toNatClampNeg x2_))), μ14))))
def gX0_over_25 (N : Nat)  (x1_ : Int32) (K : (wMem → Option (Int32 × wMem))) : Nat → (Int32 → wMem → Option (Int32 × wMem))
  | 0 => fun _ _ => none
  | k + 1 => gbX0_over_25 N  x1_ K (gX0_over_25 N  x1_ K k)
set_option maxHeartbeats 4000000 in
set_option maxRecDepth 100000 in
theorem tX0_over_25 {p : Program} {l : Launch} {e : Env} {s : State} {m : MethodId} {args : Array Value} {below : List Frame} {meth : Method} {c : Code} {D : va_G} {E : List wCell} {q : Nat → Nat} {ca : wCA} {A : Nat → Prop} (C : wC p ({ frames := 6, cells := 0, slots := 0, locals := 134 } : Room) s m args meth c cX0_over yX0_over.cls 3 (some .int) D vwCl (spX ++ E) q ca A) (N : Nat)   (x1_ : Int32) (K : (wMem → Option (Int32 × wMem))) (r0 : (Int32 × wMem)) (hK : ∀  (μ : wMem), K  μ = some r0 → wJ p l e ({ frames := 6, cells := 0, slots := 0, locals := 134 } : Room) s m args below meth c 3 D vwCl (spX ++ E) q ca A (wQi ({ frames := 6, cells := 0, slots := 0, locals := 134 } : Room) D vwCl (spX ++ E) q ca below args s A r0) 0 0 μ 72 [] []) : ∀ (k : Nat) (x2_ : Int32) (μ : wMem), gX0_over_25 N  x1_ K k x2_ μ = some r0 → wJ p l e ({ frames := 6, cells := 0, slots := 0, locals := 134 } : Room) s m args below meth c 3 D vwCl (spX ++ E) q ca A (wQi ({ frames := 6, cells := 0, slots := 0, locals := 134 } : Room) D vwCl (spX ++ E) q ca below args s A r0) 0 0 μ 25 [(0, .ref (q 0)), (1, .int x1_), (2, .int x2_)] [] := by
  intro k
  induction k with
  | zero =>
    intro x2_ μ hf
    cases hf
  | succ k ih =>
    intro x2_ μ hf
    replace hf : gbX0_over_25 N  x1_ K (gX0_over_25 N  x1_ K k) x2_ μ = some r0 := hf
    unfold gbX0_over_25 at hf
    refine wr_iload_n 25 C dX0_over_25 2 rfl rfl ?_
    refine wr_aload_n 26 C dX0_over_26 0 rfl rfl ?_
    refine gespX_0_21_X0 27 C dX0_over_27 ?_
    refine wr_icmp_ge 30 72 C dX0_over_30 (by decide) (fun c9 => ?_) (fun c9 => ?_)
    · replace hf := o_pos c9 hf
      refine wr_sub [] [] rfl ?_
      exact hK  μ hf
    · replace hf := o_neg c9 hf
      refine wr_aload_n 33 C dX0_over_33 0 rfl rfl ?_
      refine wr_aload_n 34 C dX0_over_34 0 rfl rfl ?_
      refine gespX_0_19_X0 35 C dX0_over_35 ?_
      refine wr_iload_n 38 C dX0_over_38 2 rfl rfl ?_
      obtain ⟨g10, hf⟩ := o_g hf
      refine wr_iald 39 C dX0_over_39 spX_13 g10 ?_
      obtain ⟨μ12, h11, hf⟩ := o_bindV hf
      refine wr_Vv (kc1 := 0) (ks1 := 0) 40 [] C dX0_over_40 (tX0_be l N   (μ.1 13 (Int32.toNatClampNeg x2_)) μ μ12 h11) okX0_be q885 (b := 0) spX_0 rfl ⟨rfl, rfl, Nat.le_of_ble_eq_true rfl, Nat.le_of_ble_eq_true rfl, Nat.zero_le _, Nat.zero_le _⟩ (Nat.le_of_ble_eq_true rfl) rfl ?_
      refine wr_aload_n 43 C dX0_over_43 0 rfl rfl ?_
      refine gespX_0_5_X0 44 C dX0_over_44 ?_
      refine wr_iload_n 47 C dX0_over_47 1 rfl rfl ?_
      obtain ⟨v15, μ14, h13, hf⟩ := o_bind hf
      refine wr_Si (kc1 := 0) (ks1 := 0) 48 [] C dX0_over_48 (tX0_has l N   (μ12.1 0 5) x1_ μ12 (v15, μ14) h13) okX0_has q722 ⟨rfl, rfl, Nat.le_of_ble_eq_true rfl, Nat.le_of_ble_eq_true rfl, Nat.zero_le _, Nat.zero_le _⟩ (Nat.le_of_ble_eq_true rfl) rfl ?_
      refine wr_if_eq 51 66 C dX0_over_51 (by decide) (fun c16 => ?_) (fun c16 => ?_)
      · replace hf := o_pos c16 hf
        obtain ⟨x17, ex17, hf⟩ := o_let hf
        refine wr_iinc 66 [(2, .int x17), (0, .ref (q 0)), (1, .int x1_)] C dX0_over_66 2 rfl (ex17.trans rfl) (Nat.le_of_ble_eq_true rfl) rfl ?_
        refine wr_goto 69 C dX0_over_69 (tgt := 25) (by decide) ?_
        refine wr_sub [(0, .ref (q 0)), (1, .int x1_), (2, .int x17)] [1, 2, 0] rfl ?_
        exact ih x17 μ14 hf
      · replace hf := o_neg c16 hf
        refine wr_aload_n 54 C dX0_over_54 0 rfl rfl ?_
        refine gespX_0_16_X0 55 C dX0_over_55 ?_
        refine wr_aload_n 58 C dX0_over_58 0 rfl rfl ?_
        refine gespX_0_19_X0 59 C dX0_over_59 ?_
        refine wr_iload_n 62 C dX0_over_62 2 rfl rfl ?_
        obtain ⟨g18, hf⟩ := o_g hf
        refine wr_iald 63 C dX0_over_63 spX_13 g18 ?_
        obtain ⟨g19, hf⟩ := o_g hf
        refine wr_iald 64 C dX0_over_64 spX_10 g19 ?_
        exact wr_iret 65 C dX0_over_65 ⟨Nat.zero_le _, Nat.zero_le _⟩ (Option.some.inj hf)
def fX0_over (N : Nat)  (a1 : Int32) (μ : wMem) : Option (Int32 × wMem) :=
  wBind (fX0_isPerson N  a1 μ) fun v3 μ2 => if v3 = 0 then some ((-2), μ2) else wBindV (fX0_asItIs N   μ2) fun μ6 => wBindV (fX0_settles N 19  μ6) fun μ8 => gX0_over_25 N  a1 (fun  (μ20 : wMem) => some ((-1), μ20)) N 0 μ8
set_option maxHeartbeats 4000000 in
set_option maxRecDepth 100000 in
theorem tX0_over (l : Launch) {D : va_G} {E : List wCell} {q : Nat → Nat} {ca : wCA} (N : Nat)   (a1 : Int32) (μ : wMem) (r0 : (Int32 × wMem)) (hf : fX0_over N  a1 μ = some r0) : wMi l yX0_over cX0_over 3 (some .int) ({ frames := 6, cells := 0, slots := 0, locals := 134 } : Room) D vwCl (spX ++ E) q ca [.ref (q 0), .int a1] μ r0 := by
  refine wMi_intro (by decide) (Nat.le_of_ble_eq_true rfl) ?_
  intro p e s m args below meth c A C
  unfold fX0_over at hf
  refine wr_sub [(0, .ref (q 0)), (1, .int a1)] [0, 1] rfl ?_
  refine wr_aload_n 0 C dX0_over_0 0 rfl rfl ?_
  refine wr_iload_n 1 C dX0_over_1 1 rfl rfl ?_
  obtain ⟨v3, μ2, h1, hf⟩ := o_bind hf
  refine wr_Vi (kc1 := 0) (ks1 := 0) 2 [] C dX0_over_2 (tX0_isPerson l N   a1 μ (v3, μ2) h1) okX0_isPerson q702 (b := 0) spX_0 rfl ⟨rfl, rfl, Nat.le_of_ble_eq_true rfl, Nat.le_of_ble_eq_true rfl, Nat.zero_le _, Nat.zero_le _⟩ (Nat.le_of_ble_eq_true rfl) rfl ?_
  refine wr_if_ne 5 11 C dX0_over_5 (by decide) (fun c4 => ?_) (fun c4 => ?_)
  · replace hf := o_neg c4 hf
    refine wr_aload_n 11 C dX0_over_11 0 rfl rfl ?_
    obtain ⟨μ6, h5, hf⟩ := o_bindV hf
    refine wr_Vv (kc1 := 0) (ks1 := 0) 12 [] C dX0_over_12 (tX0_asItIs l N    μ2 μ6 h5) okX0_asItIs q737 (b := 0) spX_0 rfl ⟨rfl, rfl, Nat.le_of_ble_eq_true rfl, Nat.le_of_ble_eq_true rfl, Nat.zero_le _, Nat.zero_le _⟩ (Nat.le_of_ble_eq_true rfl) rfl ?_
    refine wr_aload_n 15 C dX0_over_15 0 rfl rfl ?_
    refine wr_aload_n 16 C dX0_over_16 0 rfl rfl ?_
    refine gespX_0_13_X0 17 C dX0_over_17 ?_
    obtain ⟨μ8, h7, hf⟩ := o_bindV hf
    refine wr_Vv (kc1 := 0) (ks1 := 0) 20 [] C dX0_over_20 (tX0_settles l N 19   μ6 μ8 h7) okX0_settles q860 (b := 0) spX_0 rfl ⟨rfl, rfl, Nat.le_of_ble_eq_true rfl, Nat.le_of_ble_eq_true rfl, Nat.zero_le _, Nat.zero_le _⟩ (Nat.le_of_ble_eq_true rfl) rfl ?_
    refine wr_iconst 23 C dX0_over_23 (v := 0) rfl ?_
    refine wr_istore_n 24 [(2, .int 0), (0, .ref (q 0)), (1, .int a1)] C dX0_over_24 rfl rfl (Nat.le_of_ble_eq_true rfl) rfl ?_
    refine wr_sub [(0, .ref (q 0)), (1, .int a1), (2, .int 0)] [1, 2, 0] rfl ?_
    refine tX0_over_25 C N   a1 _ r0 (fun  μ20 hf => ?_) N 0 μ8 hf
    · replace hf := hf
      refine wr_iconst 72 C dX0_over_72 (v := (-1)) rfl ?_
      exact wr_iret 73 C dX0_over_73 ⟨Nat.zero_le _, Nat.zero_le _⟩ (Option.some.inj hf)
  · replace hf := o_pos c4 hf
    refine wr_bipush 8 C dX0_over_8 (v := (-2)) rfl ?_
    exact wr_iret 10 C dX0_over_10 ⟨Nat.zero_le _, Nat.zero_le _⟩ (Option.some.inj hf)
abbrev cX0_never : ByteArray := prog_1_method_81_code
def yX0_never : MethodName := ⟨RX0, "never", "()I"⟩
def dkwX0_never_2 : List UInt8 := [27, 42, 180, 0, 179, 2, 130, 126, 60, 132, 2, 1, 167, 255, 226, 27, 172]
abbrev dktX0_never_2 : List UInt8 := dkwX0_never_2 ++ []
def dkwX0_never_1 : List UInt8 := [182, 0, 215, 60, 3, 61, 28, 42, 180, 1, 39, 162, 0, 28, 42, 42, 180, 0, 61, 28, 46, 182, 1, 51]
abbrev dktX0_never_1 : List UInt8 := dkwX0_never_1 ++ dktX0_never_2
def dkwX0_never_0 : List UInt8 := [42, 182, 0, 252, 154, 0, 6, 16, 254, 172, 42, 182, 0, 249, 42, 42, 180, 0, 33, 182, 1, 60, 42]
abbrev dktX0_never_0 : List UInt8 := dkwX0_never_0 ++ dktX0_never_1
theorem dksX0_never_0 : cX0_never.data.toList.drop 0 = dktX0_never_0 := by decide +kernel
theorem dksX0_never_1 : cX0_never.data.toList.drop 23 = dktX0_never_1 := dk_seg dksX0_never_0 23 rfl rfl
theorem dksX0_never_2 : cX0_never.data.toList.drop 47 = dktX0_never_2 := dk_seg dksX0_never_1 24 rfl rfl
theorem dX0_never_0 : decode cX0_never 0 = .ok (.aload_n 0, 1) := dk_42 (dk_at dksX0_never_0 0 rfl rfl)
theorem dX0_never_1 : decode cX0_never 1 = .ok (.invokevirtual 252, 3) := dk_182 0 252 (dk_at dksX0_never_0 1 rfl rfl)
theorem dX0_never_4 : decode cX0_never 4 = .ok (.ifCond .ne 6, 3) := dk_154 0 6 (dk_at dksX0_never_0 4 rfl rfl)
theorem dX0_never_7 : decode cX0_never 7 = .ok (.bipush (-2), 2) := dk_16 254 (dk_at dksX0_never_0 7 rfl rfl)
theorem dX0_never_9 : decode cX0_never 9 = .ok (.ireturn, 1) := dk_172 (dk_at dksX0_never_0 9 rfl rfl)
theorem dX0_never_10 : decode cX0_never 10 = .ok (.aload_n 0, 1) := dk_42 (dk_at dksX0_never_0 10 rfl rfl)
theorem dX0_never_11 : decode cX0_never 11 = .ok (.invokevirtual 249, 3) := dk_182 0 249 (dk_at dksX0_never_0 11 rfl rfl)
theorem dX0_never_14 : decode cX0_never 14 = .ok (.aload_n 0, 1) := dk_42 (dk_at dksX0_never_0 14 rfl rfl)
theorem dX0_never_15 : decode cX0_never 15 = .ok (.aload_n 0, 1) := dk_42 (dk_at dksX0_never_0 15 rfl rfl)
theorem dX0_never_16 : decode cX0_never 16 = .ok (.getfield 33, 3) := dk_180 0 33 (dk_at dksX0_never_0 16 rfl rfl)
theorem dX0_never_19 : decode cX0_never 19 = .ok (.invokevirtual 316, 3) := dk_182 1 60 (dk_at dksX0_never_0 19 rfl rfl)
theorem dX0_never_22 : decode cX0_never 22 = .ok (.aload_n 0, 1) := dk_42 (dk_at dksX0_never_0 22 rfl rfl)
theorem dX0_never_23 : decode cX0_never 23 = .ok (.invokevirtual 215, 3) := dk_182 0 215 (dk_at dksX0_never_1 0 rfl rfl)
theorem dX0_never_26 : decode cX0_never 26 = .ok (.istore_n 1, 1) := dk_60 (dk_at dksX0_never_1 3 rfl rfl)
theorem dX0_never_27 : decode cX0_never 27 = .ok (.iconst 0, 1) := dk_3 (dk_at dksX0_never_1 4 rfl rfl)
theorem dX0_never_28 : decode cX0_never 28 = .ok (.istore_n 2, 1) := dk_61 (dk_at dksX0_never_1 5 rfl rfl)
theorem dX0_never_29 : decode cX0_never 29 = .ok (.iload_n 2, 1) := dk_28 (dk_at dksX0_never_1 6 rfl rfl)
theorem dX0_never_30 : decode cX0_never 30 = .ok (.aload_n 0, 1) := dk_42 (dk_at dksX0_never_1 7 rfl rfl)
theorem dX0_never_31 : decode cX0_never 31 = .ok (.getfield 295, 3) := dk_180 1 39 (dk_at dksX0_never_1 8 rfl rfl)
theorem dX0_never_34 : decode cX0_never 34 = .ok (.if_icmp .ge 28, 3) := dk_162 0 28 (dk_at dksX0_never_1 11 rfl rfl)
theorem dX0_never_37 : decode cX0_never 37 = .ok (.aload_n 0, 1) := dk_42 (dk_at dksX0_never_1 14 rfl rfl)
theorem dX0_never_38 : decode cX0_never 38 = .ok (.aload_n 0, 1) := dk_42 (dk_at dksX0_never_1 15 rfl rfl)
theorem dX0_never_39 : decode cX0_never 39 = .ok (.getfield 61, 3) := dk_180 0 61 (dk_at dksX0_never_1 16 rfl rfl)
theorem dX0_never_42 : decode cX0_never 42 = .ok (.iload_n 2, 1) := dk_28 (dk_at dksX0_never_1 19 rfl rfl)
theorem dX0_never_43 : decode cX0_never 43 = .ok (.iaload, 1) := dk_46 (dk_at dksX0_never_1 20 rfl rfl)
theorem dX0_never_44 : decode cX0_never 44 = .ok (.invokevirtual 307, 3) := dk_182 1 51 (dk_at dksX0_never_1 21 rfl rfl)
theorem dX0_never_47 : decode cX0_never 47 = .ok (.iload_n 1, 1) := dk_27 (dk_at dksX0_never_2 0 rfl rfl)
theorem dX0_never_48 : decode cX0_never 48 = .ok (.aload_n 0, 1) := dk_42 (dk_at dksX0_never_2 1 rfl rfl)
theorem dX0_never_49 : decode cX0_never 49 = .ok (.getfield 179, 3) := dk_180 0 179 (dk_at dksX0_never_2 2 rfl rfl)
theorem dX0_never_52 : decode cX0_never 52 = .ok (.iconst (-1), 1) := dk_2 (dk_at dksX0_never_2 5 rfl rfl)
theorem dX0_never_53 : decode cX0_never 53 = .ok (.ixor, 1) := dk_130 (dk_at dksX0_never_2 6 rfl rfl)
theorem dX0_never_54 : decode cX0_never 54 = .ok (.iand, 1) := dk_126 (dk_at dksX0_never_2 7 rfl rfl)
theorem dX0_never_55 : decode cX0_never 55 = .ok (.istore_n 1, 1) := dk_60 (dk_at dksX0_never_2 8 rfl rfl)
theorem dX0_never_56 : decode cX0_never 56 = .ok (.iinc 2 1, 3) := dk_132 2 1 (dk_at dksX0_never_2 9 rfl rfl)
theorem dX0_never_59 : decode cX0_never 59 = .ok (.goto (-30), 3) := dk_167 255 226 (dk_at dksX0_never_2 12 rfl rfl)
theorem dX0_never_62 : decode cX0_never 62 = .ok (.iload_n 1, 1) := dk_27 (dk_at dksX0_never_2 15 rfl rfl)
theorem dX0_never_63 : decode cX0_never 63 = .ok (.ireturn, 1) := dk_172 (dk_at dksX0_never_2 16 rfl rfl)

theorem okX0_never : wOkV yX0_never cX0_never 3 (some .int) 0 := ⟨q1002, q1003, q136, q1004, by decide, by decide, by decide +kernel⟩
def gbX0_never_29 (N : Nat)   (K : (Int32 → wMem → Option (Int32 × wMem))) (rec : (Int32 → Int32 → wMem → Option (Int32 × wMem))) (x1_ : Int32) (x2_ : Int32) (μ : wMem) : Option (Int32 × wMem) :=
  if (μ.1 0 21) ≤ x2_ then K x1_ μ else wG (ok_in x2_ 100352) (wBindV (fX0_be N  (μ.1 13 (Int32.toNatClampNeg x2_)) μ) fun μ15 => wLet (x1_ &&& ((μ15.1 0 5) ^^^ (-1 : Int32)) : Int32) fun x16 => wLet (x2_ + 1 : Int32) fun x17 => rec x16 x17 μ15)
def gX0_never_29 (N : Nat)   (K : (Int32 → wMem → Option (Int32 × wMem))) : Nat → (Int32 → Int32 → wMem → Option (Int32 × wMem))
  | 0 => fun _ _ _ => none
  | k + 1 => gbX0_never_29 N   K (gX0_never_29 N   K k)
set_option maxHeartbeats 4000000 in
set_option maxRecDepth 100000 in
theorem tX0_never_29 {p : Program} {l : Launch} {e : Env} {s : State} {m : MethodId} {args : Array Value} {below : List Frame} {meth : Method} {c : Code} {D : va_G} {E : List wCell} {q : Nat → Nat} {ca : wCA} {A : Nat → Prop} (C : wC p ({ frames := 6, cells := 0, slots := 0, locals := 134 } : Room) s m args meth c cX0_never yX0_never.cls 3 (some .int) D vwCl (spX ++ E) q ca A) (N : Nat)    (K : (Int32 → wMem → Option (Int32 × wMem))) (r0 : (Int32 × wMem)) (hK : ∀ (y1_ : Int32) (μ : wMem), K y1_ μ = some r0 → wJ p l e ({ frames := 6, cells := 0, slots := 0, locals := 134 } : Room) s m args below meth c 3 D vwCl (spX ++ E) q ca A (wQi ({ frames := 6, cells := 0, slots := 0, locals := 134 } : Room) D vwCl (spX ++ E) q ca below args s A r0) 0 0 μ 62 [(1, .int y1_)] []) : ∀ (k : Nat) (x1_ : Int32) (x2_ : Int32) (μ : wMem), gX0_never_29 N   K k x1_ x2_ μ = some r0 → wJ p l e ({ frames := 6, cells := 0, slots := 0, locals := 134 } : Room) s m args below meth c 3 D vwCl (spX ++ E) q ca A (wQi ({ frames := 6, cells := 0, slots := 0, locals := 134 } : Room) D vwCl (spX ++ E) q ca below args s A r0) 0 0 μ 29 [(0, .ref (q 0)), (1, .int x1_), (2, .int x2_)] [] := by
  intro k
  induction k with
  | zero =>
    intro x1_ x2_ μ hf
    cases hf
  | succ k ih =>
    intro x1_ x2_ μ hf
    replace hf : gbX0_never_29 N   K (gX0_never_29 N   K k) x1_ x2_ μ = some r0 := hf
    unfold gbX0_never_29 at hf
    refine wr_iload_n 29 C dX0_never_29 2 rfl rfl ?_
    refine wr_aload_n 30 C dX0_never_30 0 rfl rfl ?_
    refine gespX_0_21_X0 31 C dX0_never_31 ?_
    refine wr_icmp_ge 34 62 C dX0_never_34 (by decide) (fun c12 => ?_) (fun c12 => ?_)
    · replace hf := o_pos c12 hf
      refine wr_sub [(1, .int x1_)] [1] rfl ?_
      exact hK x1_ μ hf
    · replace hf := o_neg c12 hf
      refine wr_aload_n 37 C dX0_never_37 0 rfl rfl ?_
      refine wr_aload_n 38 C dX0_never_38 0 rfl rfl ?_
      refine gespX_0_19_X0 39 C dX0_never_39 ?_
      refine wr_iload_n 42 C dX0_never_42 2 rfl rfl ?_
      obtain ⟨g13, hf⟩ := o_g hf
      refine wr_iald 43 C dX0_never_43 spX_13 g13 ?_
      obtain ⟨μ15, h14, hf⟩ := o_bindV hf
      refine wr_Vv (kc1 := 0) (ks1 := 0) 44 [] C dX0_never_44 (tX0_be l N   (μ.1 13 (Int32.toNatClampNeg x2_)) μ μ15 h14) okX0_be q885 (b := 0) spX_0 rfl ⟨rfl, rfl, Nat.le_of_ble_eq_true rfl, Nat.le_of_ble_eq_true rfl, Nat.zero_le _, Nat.zero_le _⟩ (Nat.le_of_ble_eq_true rfl) rfl ?_
      refine wr_iload_n 47 C dX0_never_47 1 rfl rfl ?_
      refine wr_aload_n 48 C dX0_never_48 0 rfl rfl ?_
      refine gespX_0_5_X0 49 C dX0_never_49 ?_
      refine wr_iconst 52 C dX0_never_52 (v := (-1)) rfl ?_
      refine wr_ixor 53 C dX0_never_53 ?_
      refine wr_iand 54 C dX0_never_54 ?_
      obtain ⟨x16, ex16, hf⟩ := o_let hf
      refine wr_istore_n 55 [(1, .int x16), (0, .ref (q 0)), (2, .int x2_)] C dX0_never_55 ex16 rfl (Nat.le_of_ble_eq_true rfl) rfl ?_
      obtain ⟨x17, ex17, hf⟩ := o_let hf
      refine wr_iinc 56 [(2, .int x17), (1, .int x16), (0, .ref (q 0))] C dX0_never_56 2 rfl (ex17.trans rfl) (Nat.le_of_ble_eq_true rfl) rfl ?_
      refine wr_goto 59 C dX0_never_59 (tgt := 29) (by decide) ?_
      refine wr_sub [(0, .ref (q 0)), (1, .int x16), (2, .int x17)] [2, 1, 0] rfl ?_
      exact ih x16 x17 μ15 hf
def fX0_never (N : Nat)   (μ : wMem) : Option (Int32 × wMem) :=
  wBind (fX0_isFamily N   μ) fun v3 μ2 => if v3 = 0 then some ((-2), μ2) else wBindV (fX0_asItIs N   μ2) fun μ6 => wBindV (fX0_settles N 19  μ6) fun μ8 => wBind (fX0_all N   μ8) fun v11 μ10 => gX0_never_29 N   (fun (x19 : Int32) (μ18 : wMem) => some (x19, μ18)) N v11 0 μ10
set_option maxHeartbeats 4000000 in
set_option maxRecDepth 100000 in
theorem tX0_never (l : Launch) {D : va_G} {E : List wCell} {q : Nat → Nat} {ca : wCA} (N : Nat)    (μ : wMem) (r0 : (Int32 × wMem)) (hf : fX0_never N   μ = some r0) : wMi l yX0_never cX0_never 3 (some .int) ({ frames := 6, cells := 0, slots := 0, locals := 134 } : Room) D vwCl (spX ++ E) q ca [.ref (q 0)] μ r0 := by
  refine wMi_intro (by decide) (Nat.le_of_ble_eq_true rfl) ?_
  intro p e s m args below meth c A C
  unfold fX0_never at hf
  refine wr_sub [(0, .ref (q 0))] [0] rfl ?_
  refine wr_aload_n 0 C dX0_never_0 0 rfl rfl ?_
  obtain ⟨v3, μ2, h1, hf⟩ := o_bind hf
  refine wr_Vi (kc1 := 0) (ks1 := 0) 1 [] C dX0_never_1 (tX0_isFamily l N    μ (v3, μ2) h1) okX0_isFamily q770 (b := 0) spX_0 rfl ⟨rfl, rfl, Nat.le_of_ble_eq_true rfl, Nat.le_of_ble_eq_true rfl, Nat.zero_le _, Nat.zero_le _⟩ (Nat.le_of_ble_eq_true rfl) rfl ?_
  refine wr_if_ne 4 10 C dX0_never_4 (by decide) (fun c4 => ?_) (fun c4 => ?_)
  · replace hf := o_neg c4 hf
    refine wr_aload_n 10 C dX0_never_10 0 rfl rfl ?_
    obtain ⟨μ6, h5, hf⟩ := o_bindV hf
    refine wr_Vv (kc1 := 0) (ks1 := 0) 11 [] C dX0_never_11 (tX0_asItIs l N    μ2 μ6 h5) okX0_asItIs q737 (b := 0) spX_0 rfl ⟨rfl, rfl, Nat.le_of_ble_eq_true rfl, Nat.le_of_ble_eq_true rfl, Nat.zero_le _, Nat.zero_le _⟩ (Nat.le_of_ble_eq_true rfl) rfl ?_
    refine wr_aload_n 14 C dX0_never_14 0 rfl rfl ?_
    refine wr_aload_n 15 C dX0_never_15 0 rfl rfl ?_
    refine gespX_0_13_X0 16 C dX0_never_16 ?_
    obtain ⟨μ8, h7, hf⟩ := o_bindV hf
    refine wr_Vv (kc1 := 0) (ks1 := 0) 19 [] C dX0_never_19 (tX0_settles l N 19   μ6 μ8 h7) okX0_settles q860 (b := 0) spX_0 rfl ⟨rfl, rfl, Nat.le_of_ble_eq_true rfl, Nat.le_of_ble_eq_true rfl, Nat.zero_le _, Nat.zero_le _⟩ (Nat.le_of_ble_eq_true rfl) rfl ?_
    refine wr_aload_n 22 C dX0_never_22 0 rfl rfl ?_
    obtain ⟨v11, μ10, h9, hf⟩ := o_bind hf
    refine wr_Vi (kc1 := 0) (ks1 := 0) 23 [] C dX0_never_23 (tX0_all l N    μ8 (v11, μ10) h9) okX0_all q912 (b := 0) spX_0 rfl ⟨rfl, rfl, Nat.le_of_ble_eq_true rfl, Nat.le_of_ble_eq_true rfl, Nat.zero_le _, Nat.zero_le _⟩ (Nat.le_of_ble_eq_true rfl) rfl ?_
    refine wr_istore_n 26 [(1, .int v11), (0, .ref (q 0))] C dX0_never_26 rfl rfl (Nat.le_of_ble_eq_true rfl) rfl ?_
    refine wr_iconst 27 C dX0_never_27 (v := 0) rfl ?_
    refine wr_istore_n 28 [(2, .int 0), (1, .int v11), (0, .ref (q 0))] C dX0_never_28 rfl rfl (Nat.le_of_ble_eq_true rfl) rfl ?_
    refine wr_sub [(0, .ref (q 0)), (1, .int v11), (2, .int 0)] [2, 1, 0] rfl ?_
    refine tX0_never_29 C N    _ r0 (fun x19 μ18 hf => ?_) N v11 0 μ10 hf
    · replace hf := hf
      refine wr_iload_n 62 C dX0_never_62 0 rfl rfl ?_
      exact wr_iret 63 C dX0_never_63 ⟨Nat.zero_le _, Nat.zero_le _⟩ (Option.some.inj hf)
  · replace hf := o_pos c4 hf
    refine wr_bipush 7 C dX0_never_7 (v := (-2)) rfl ?_
    exact wr_iret 9 C dX0_never_9 ⟨Nat.zero_le _, Nat.zero_le _⟩ (Option.some.inj hf)
abbrev cX0_lost : ByteArray := prog_1_method_82_code
def yX0_lost : MethodName := ⟨RX0, "lost", "(I)I"⟩
def dkwX0_lost_2 : List UInt8 := [160, 0, 5, 2, 172, 42, 29, 182, 0, 243, 132, 2, 1, 167, 255, 227, 42, 180, 0, 179, 172]
abbrev dktX0_lost_2 : List UInt8 := dkwX0_lost_2 ++ []
def dkwX0_lost_1 : List UInt8 := [154, 0, 5, 2, 172, 3, 61, 28, 27, 162, 0, 30, 42, 42, 180, 0, 33, 182, 1, 80, 62, 29, 2]
abbrev dktX0_lost_1 : List UInt8 := dkwX0_lost_1 ++ dktX0_lost_2
def dkwX0_lost_0 : List UInt8 := [42, 182, 0, 252, 153, 0, 7, 27, 156, 0, 6, 16, 254, 172, 42, 42, 180, 0, 33, 182, 1, 77]
abbrev dktX0_lost_0 : List UInt8 := dkwX0_lost_0 ++ dktX0_lost_1
theorem dksX0_lost_0 : cX0_lost.data.toList.drop 0 = dktX0_lost_0 := by decide +kernel
theorem dksX0_lost_1 : cX0_lost.data.toList.drop 22 = dktX0_lost_1 := dk_seg dksX0_lost_0 22 rfl rfl
theorem dksX0_lost_2 : cX0_lost.data.toList.drop 45 = dktX0_lost_2 := dk_seg dksX0_lost_1 23 rfl rfl
theorem dX0_lost_0 : decode cX0_lost 0 = .ok (.aload_n 0, 1) := dk_42 (dk_at dksX0_lost_0 0 rfl rfl)
theorem dX0_lost_1 : decode cX0_lost 1 = .ok (.invokevirtual 252, 3) := dk_182 0 252 (dk_at dksX0_lost_0 1 rfl rfl)
theorem dX0_lost_4 : decode cX0_lost 4 = .ok (.ifCond .eq 7, 3) := dk_153 0 7 (dk_at dksX0_lost_0 4 rfl rfl)
theorem dX0_lost_7 : decode cX0_lost 7 = .ok (.iload_n 1, 1) := dk_27 (dk_at dksX0_lost_0 7 rfl rfl)
theorem dX0_lost_8 : decode cX0_lost 8 = .ok (.ifCond .ge 6, 3) := dk_156 0 6 (dk_at dksX0_lost_0 8 rfl rfl)
theorem dX0_lost_11 : decode cX0_lost 11 = .ok (.bipush (-2), 2) := dk_16 254 (dk_at dksX0_lost_0 11 rfl rfl)
theorem dX0_lost_13 : decode cX0_lost 13 = .ok (.ireturn, 1) := dk_172 (dk_at dksX0_lost_0 13 rfl rfl)
theorem dX0_lost_14 : decode cX0_lost 14 = .ok (.aload_n 0, 1) := dk_42 (dk_at dksX0_lost_0 14 rfl rfl)
theorem dX0_lost_15 : decode cX0_lost 15 = .ok (.aload_n 0, 1) := dk_42 (dk_at dksX0_lost_0 15 rfl rfl)
theorem dX0_lost_16 : decode cX0_lost 16 = .ok (.getfield 33, 3) := dk_180 0 33 (dk_at dksX0_lost_0 16 rfl rfl)
theorem dX0_lost_19 : decode cX0_lost 19 = .ok (.invokevirtual 333, 3) := dk_182 1 77 (dk_at dksX0_lost_0 19 rfl rfl)
theorem dX0_lost_22 : decode cX0_lost 22 = .ok (.ifCond .ne 5, 3) := dk_154 0 5 (dk_at dksX0_lost_1 0 rfl rfl)
theorem dX0_lost_25 : decode cX0_lost 25 = .ok (.iconst (-1), 1) := dk_2 (dk_at dksX0_lost_1 3 rfl rfl)
theorem dX0_lost_26 : decode cX0_lost 26 = .ok (.ireturn, 1) := dk_172 (dk_at dksX0_lost_1 4 rfl rfl)
theorem dX0_lost_27 : decode cX0_lost 27 = .ok (.iconst 0, 1) := dk_3 (dk_at dksX0_lost_1 5 rfl rfl)
theorem dX0_lost_28 : decode cX0_lost 28 = .ok (.istore_n 2, 1) := dk_61 (dk_at dksX0_lost_1 6 rfl rfl)
theorem dX0_lost_29 : decode cX0_lost 29 = .ok (.iload_n 2, 1) := dk_28 (dk_at dksX0_lost_1 7 rfl rfl)
theorem dX0_lost_30 : decode cX0_lost 30 = .ok (.iload_n 1, 1) := dk_27 (dk_at dksX0_lost_1 8 rfl rfl)
theorem dX0_lost_31 : decode cX0_lost 31 = .ok (.if_icmp .ge 30, 3) := dk_162 0 30 (dk_at dksX0_lost_1 9 rfl rfl)
theorem dX0_lost_34 : decode cX0_lost 34 = .ok (.aload_n 0, 1) := dk_42 (dk_at dksX0_lost_1 12 rfl rfl)
theorem dX0_lost_35 : decode cX0_lost 35 = .ok (.aload_n 0, 1) := dk_42 (dk_at dksX0_lost_1 13 rfl rfl)
theorem dX0_lost_36 : decode cX0_lost 36 = .ok (.getfield 33, 3) := dk_180 0 33 (dk_at dksX0_lost_1 14 rfl rfl)
theorem dX0_lost_39 : decode cX0_lost 39 = .ok (.invokevirtual 336, 3) := dk_182 1 80 (dk_at dksX0_lost_1 17 rfl rfl)
theorem dX0_lost_42 : decode cX0_lost 42 = .ok (.istore_n 3, 1) := dk_62 (dk_at dksX0_lost_1 20 rfl rfl)
theorem dX0_lost_43 : decode cX0_lost 43 = .ok (.iload_n 3, 1) := dk_29 (dk_at dksX0_lost_1 21 rfl rfl)
theorem dX0_lost_44 : decode cX0_lost 44 = .ok (.iconst (-1), 1) := dk_2 (dk_at dksX0_lost_1 22 rfl rfl)
theorem dX0_lost_45 : decode cX0_lost 45 = .ok (.if_icmp .ne 5, 3) := dk_160 0 5 (dk_at dksX0_lost_2 0 rfl rfl)
theorem dX0_lost_48 : decode cX0_lost 48 = .ok (.iconst (-1), 1) := dk_2 (dk_at dksX0_lost_2 3 rfl rfl)
theorem dX0_lost_49 : decode cX0_lost 49 = .ok (.ireturn, 1) := dk_172 (dk_at dksX0_lost_2 4 rfl rfl)
theorem dX0_lost_50 : decode cX0_lost 50 = .ok (.aload_n 0, 1) := dk_42 (dk_at dksX0_lost_2 5 rfl rfl)
theorem dX0_lost_51 : decode cX0_lost 51 = .ok (.iload_n 3, 1) := dk_29 (dk_at dksX0_lost_2 6 rfl rfl)
theorem dX0_lost_52 : decode cX0_lost 52 = .ok (.invokevirtual 243, 3) := dk_182 0 243 (dk_at dksX0_lost_2 7 rfl rfl)
theorem dX0_lost_55 : decode cX0_lost 55 = .ok (.iinc 2 1, 3) := dk_132 2 1 (dk_at dksX0_lost_2 10 rfl rfl)
theorem dX0_lost_58 : decode cX0_lost 58 = .ok (.goto (-29), 3) := dk_167 255 227 (dk_at dksX0_lost_2 13 rfl rfl)
theorem dX0_lost_61 : decode cX0_lost 61 = .ok (.aload_n 0, 1) := dk_42 (dk_at dksX0_lost_2 16 rfl rfl)
theorem dX0_lost_62 : decode cX0_lost 62 = .ok (.getfield 179, 3) := dk_180 0 179 (dk_at dksX0_lost_2 17 rfl rfl)
theorem dX0_lost_65 : decode cX0_lost 65 = .ok (.ireturn, 1) := dk_172 (dk_at dksX0_lost_2 20 rfl rfl)

theorem okX0_lost : wOkV yX0_lost cX0_lost 4 (some .int) 1 := ⟨q1006, q1007, q136, q1008, by decide, by decide, by decide +kernel⟩
def gbX0_lost_29 (N : Nat)  (x1_ : Int32) (K : (wMem → Option (Int32 × wMem))) (rec : (Int32 → wMem → Option (Int32 × wMem))) (x2_ : Int32) (μ : wMem) : Option (Int32 × wMem) :=
  if x1_ ≤ x2_ then K  μ else wBind (fX0_step N 19  μ) fun v14 μ13 => if v14 = (-1 : Int32) then some ((-1), μ13) else wBindV (fX0_does N  v14 μ13) fun μ17 => wLet (x2_ + 1 : Int32) fun x18 => rec x18 μ17
def gX0_lost_29 (N : Nat)  (x1_ : Int32) (K : (wMem → Option (Int32 × wMem))) : Nat → (Int32 → wMem → Option (Int32 × wMem))
  | 0 => fun _ _ => none
  | k + 1 => gbX0_lost_29 N  x1_ K (gX0_lost_29 N  x1_ K k)
set_option maxHeartbeats 4000000 in
set_option maxRecDepth 100000 in
theorem tX0_lost_29 {p : Program} {l : Launch} {e : Env} {s : State} {m : MethodId} {args : Array Value} {below : List Frame} {meth : Method} {c : Code} {D : va_G} {E : List wCell} {q : Nat → Nat} {ca : wCA} {A : Nat → Prop} (C : wC p ({ frames := 8, cells := 0, slots := 0, locals := 181 } : Room) s m args meth c cX0_lost yX0_lost.cls 4 (some .int) D vwCl (spX ++ E) q ca A) (N : Nat)   (x1_ : Int32) (K : (wMem → Option (Int32 × wMem))) (r0 : (Int32 × wMem)) (hK : ∀  (μ : wMem), K  μ = some r0 → wJ p l e ({ frames := 8, cells := 0, slots := 0, locals := 181 } : Room) s m args below meth c 4 D vwCl (spX ++ E) q ca A (wQi ({ frames := 8, cells := 0, slots := 0, locals := 181 } : Room) D vwCl (spX ++ E) q ca below args s A r0) 0 0 μ 61 [(0, .ref (q 0))] []) : ∀ (k : Nat) (x2_ : Int32) (μ : wMem), gX0_lost_29 N  x1_ K k x2_ μ = some r0 → wJ p l e ({ frames := 8, cells := 0, slots := 0, locals := 181 } : Room) s m args below meth c 4 D vwCl (spX ++ E) q ca A (wQi ({ frames := 8, cells := 0, slots := 0, locals := 181 } : Room) D vwCl (spX ++ E) q ca below args s A r0) 0 0 μ 29 [(0, .ref (q 0)), (1, .int x1_), (2, .int x2_)] [] := by
  intro k
  induction k with
  | zero =>
    intro x2_ μ hf
    cases hf
  | succ k ih =>
    intro x2_ μ hf
    replace hf : gbX0_lost_29 N  x1_ K (gX0_lost_29 N  x1_ K k) x2_ μ = some r0 := hf
    unfold gbX0_lost_29 at hf
    refine wr_iload_n 29 C dX0_lost_29 2 rfl rfl ?_
    refine wr_iload_n 30 C dX0_lost_30 1 rfl rfl ?_
    refine wr_icmp_ge 31 61 C dX0_lost_31 (by decide) (fun c11 => ?_) (fun c11 => ?_)
    · replace hf := o_pos c11 hf
      refine wr_sub [(0, .ref (q 0))] [0] rfl ?_
      exact hK  μ hf
    · replace hf := o_neg c11 hf
      refine wr_aload_n 34 C dX0_lost_34 0 rfl rfl ?_
      refine wr_aload_n 35 C dX0_lost_35 0 rfl rfl ?_
      refine gespX_0_13_X0 36 C dX0_lost_36 ?_
      obtain ⟨v14, μ13, h12, hf⟩ := o_bind hf
      refine wr_Vi (kc1 := 0) (ks1 := 0) 39 [] C dX0_lost_39 (tX0_step l N 19   μ (v14, μ13) h12) okX0_step q935 (b := 0) spX_0 rfl ⟨rfl, rfl, Nat.le_of_ble_eq_true rfl, Nat.le_of_ble_eq_true rfl, Nat.zero_le _, Nat.zero_le _⟩ (Nat.le_of_ble_eq_true rfl) rfl ?_
      refine wr_istore_n 42 [(3, .int v14), (0, .ref (q 0)), (1, .int x1_), (2, .int x2_)] C dX0_lost_42 rfl rfl (Nat.le_of_ble_eq_true rfl) rfl ?_
      refine wr_iload_n 43 C dX0_lost_43 0 rfl rfl ?_
      refine wr_iconst 44 C dX0_lost_44 (v := (-1)) rfl ?_
      refine wr_icmp_ne 45 50 C dX0_lost_45 (by decide) (fun c15 => ?_) (fun c15 => ?_)
      · replace hf := o_neg c15 hf
        refine wr_aload_n 50 C dX0_lost_50 1 rfl rfl ?_
        refine wr_iload_n 51 C dX0_lost_51 0 rfl rfl ?_
        obtain ⟨μ17, h16, hf⟩ := o_bindV hf
        refine wr_Vv (kc1 := 0) (ks1 := 0) 52 [] C dX0_lost_52 (tX0_does l N   v14 μ13 μ17 h16) okX0_does q755 (b := 0) spX_0 rfl ⟨rfl, rfl, Nat.le_of_ble_eq_true rfl, Nat.le_of_ble_eq_true rfl, Nat.zero_le _, Nat.zero_le _⟩ (Nat.le_of_ble_eq_true rfl) rfl ?_
        obtain ⟨x18, ex18, hf⟩ := o_let hf
        refine wr_iinc 55 [(2, .int x18), (3, .int v14), (0, .ref (q 0)), (1, .int x1_)] C dX0_lost_55 3 rfl (ex18.trans rfl) (Nat.le_of_ble_eq_true rfl) rfl ?_
        refine wr_goto 58 C dX0_lost_58 (tgt := 29) (by decide) ?_
        refine wr_sub [(0, .ref (q 0)), (1, .int x1_), (2, .int x18)] [2, 3, 0] rfl ?_
        exact ih x18 μ17 hf
      · replace hf := o_pos c15 hf
        refine wr_iconst 48 C dX0_lost_48 (v := (-1)) rfl ?_
        exact wr_iret 49 C dX0_lost_49 ⟨Nat.zero_le _, Nat.zero_le _⟩ (Option.some.inj hf)
def fX0_lost (N : Nat)  (a1 : Int32) (μ : wMem) : Option (Int32 × wMem) :=
  wBind (fX0_isFamily N   μ) fun v3 μ2 => wLet (fun  (μ4 : wMem) => some ((-2), μ4)) fun Jlost11 => if v3 = 0 then Jlost11  μ2 else if 0 ≤ a1 then wBind (fX0_marks N 19  μ2) fun v9 μ8 => if v9 = 0 then some ((-1), μ8) else gX0_lost_29 N  a1 (fun  (μ19 : wMem) => some (μ19.1 0 5, μ19)) N 0 μ8 else Jlost11  μ2
set_option maxHeartbeats 4000000 in
set_option maxRecDepth 100000 in
theorem tX0_lost (l : Launch) {D : va_G} {E : List wCell} {q : Nat → Nat} {ca : wCA} (N : Nat)   (a1 : Int32) (μ : wMem) (r0 : (Int32 × wMem)) (hf : fX0_lost N  a1 μ = some r0) : wMi l yX0_lost cX0_lost 4 (some .int) ({ frames := 8, cells := 0, slots := 0, locals := 181 } : Room) D vwCl (spX ++ E) q ca [.ref (q 0), .int a1] μ r0 := by
  refine wMi_intro (by decide) (Nat.le_of_ble_eq_true rfl) ?_
  intro p e s m args below meth c A C
  unfold fX0_lost at hf
  refine wr_sub [(0, .ref (q 0)), (1, .int a1)] [0, 1] rfl ?_
  refine wr_aload_n 0 C dX0_lost_0 0 rfl rfl ?_
  obtain ⟨v3, μ2, h1, hf⟩ := o_bind hf
  refine wr_Vi (kc1 := 0) (ks1 := 0) 1 [] C dX0_lost_1 (tX0_isFamily l N    μ (v3, μ2) h1) okX0_isFamily q770 (b := 0) spX_0 rfl ⟨rfl, rfl, Nat.le_of_ble_eq_true rfl, Nat.le_of_ble_eq_true rfl, Nat.zero_le _, Nat.zero_le _⟩ (Nat.le_of_ble_eq_true rfl) rfl ?_
  obtain ⟨Jlost11, eJlost11, hf⟩ := o_let hf
  have hJlost11 : ∀  (μ4 : wMem), Jlost11  μ4 = some r0 → wJ p l e ({ frames := 8, cells := 0, slots := 0, locals := 181 } : Room) s m args below meth c 4 D vwCl (spX ++ E) q ca A (wQi ({ frames := 8, cells := 0, slots := 0, locals := 181 } : Room) D vwCl (spX ++ E) q ca below args s A r0) 0 0 μ4 11 [] [] := by
    intro  μ4 hf
    rw [eJlost11] at hf
    refine wr_bipush 11 C dX0_lost_11 (v := (-2)) rfl ?_
    exact wr_iret 13 C dX0_lost_13 ⟨Nat.zero_le _, Nat.zero_le _⟩ (Option.some.inj hf)
  refine wr_if_eq 4 11 C dX0_lost_4 (by decide) (fun c5 => ?_) (fun c5 => ?_)
  · replace hf := o_pos c5 hf
    refine wr_sub [] [] rfl ?_
    exact hJlost11  μ2 hf
  · replace hf := o_neg c5 hf
    refine wr_iload_n 7 C dX0_lost_7 1 rfl rfl ?_
    refine wr_if_ge 8 14 C dX0_lost_8 (by decide) (fun c6 => ?_) (fun c6 => ?_)
    · replace hf := o_pos c6 hf
      refine wr_aload_n 14 C dX0_lost_14 0 rfl rfl ?_
      refine wr_aload_n 15 C dX0_lost_15 0 rfl rfl ?_
      refine gespX_0_13_X0 16 C dX0_lost_16 ?_
      obtain ⟨v9, μ8, h7, hf⟩ := o_bind hf
      refine wr_Vi (kc1 := 0) (ks1 := 0) 19 [] C dX0_lost_19 (tX0_marks l N 19   μ2 (v9, μ8) h7) okX0_marks q927 (b := 0) spX_0 rfl ⟨rfl, rfl, Nat.le_of_ble_eq_true rfl, Nat.le_of_ble_eq_true rfl, Nat.zero_le _, Nat.zero_le _⟩ (Nat.le_of_ble_eq_true rfl) rfl ?_
      refine wr_if_ne 22 27 C dX0_lost_22 (by decide) (fun c10 => ?_) (fun c10 => ?_)
      · replace hf := o_neg c10 hf
        refine wr_iconst 27 C dX0_lost_27 (v := 0) rfl ?_
        refine wr_istore_n 28 [(2, .int 0), (0, .ref (q 0)), (1, .int a1)] C dX0_lost_28 rfl rfl (Nat.le_of_ble_eq_true rfl) rfl ?_
        refine wr_sub [(0, .ref (q 0)), (1, .int a1), (2, .int 0)] [1, 2, 0] rfl ?_
        refine tX0_lost_29 C N   a1 _ r0 (fun  μ19 hf => ?_) N 0 μ8 hf
        · replace hf := hf
          refine wr_aload_n 61 C dX0_lost_61 0 rfl rfl ?_
          refine gespX_0_5_X0 62 C dX0_lost_62 ?_
          exact wr_iret 65 C dX0_lost_65 ⟨Nat.zero_le _, Nat.zero_le _⟩ (Option.some.inj hf)
      · replace hf := o_pos c10 hf
        refine wr_iconst 25 C dX0_lost_25 (v := (-1)) rfl ?_
        exact wr_iret 26 C dX0_lost_26 ⟨Nat.zero_le _, Nat.zero_le _⟩ (Option.some.inj hf)
    · replace hf := o_neg c6 hf
      refine wr_sub [] [] rfl ?_
      exact hJlost11  μ2 hf
abbrev cJ10_bitCount : ByteArray := prog_21_method_49_code
def yJ10_bitCount : MethodName := ⟨RJ10, "bitCount", "(I)I"⟩
def dkwJ10_bitCount_2 : List UInt8 := [26, 16, 63, 126, 172]
abbrev dktJ10_bitCount_2 : List UInt8 := dkwJ10_bitCount_2 ++ []
def dkwJ10_bitCount_1 : List UInt8 := [26, 26, 7, 124, 96, 19, 1, 11, 126, 59, 26, 26, 16, 8, 124, 96, 59, 26, 26, 16, 16, 124, 96, 59]
abbrev dktJ10_bitCount_1 : List UInt8 := dkwJ10_bitCount_1 ++ dktJ10_bitCount_2
def dkwJ10_bitCount_0 : List UInt8 := [26, 26, 4, 124, 19, 1, 9, 126, 100, 59, 26, 19, 1, 10, 126, 26, 5, 124, 19, 1, 10, 126, 96, 59]
abbrev dktJ10_bitCount_0 : List UInt8 := dkwJ10_bitCount_0 ++ dktJ10_bitCount_1
theorem dksJ10_bitCount_0 : cJ10_bitCount.data.toList.drop 0 = dktJ10_bitCount_0 := by decide +kernel
theorem dksJ10_bitCount_1 : cJ10_bitCount.data.toList.drop 24 = dktJ10_bitCount_1 := dk_seg dksJ10_bitCount_0 24 rfl rfl
theorem dksJ10_bitCount_2 : cJ10_bitCount.data.toList.drop 48 = dktJ10_bitCount_2 := dk_seg dksJ10_bitCount_1 24 rfl rfl
theorem dJ10_bitCount_0 : decode cJ10_bitCount 0 = .ok (.iload_n 0, 1) := dk_26 (dk_at dksJ10_bitCount_0 0 rfl rfl)
theorem dJ10_bitCount_1 : decode cJ10_bitCount 1 = .ok (.iload_n 0, 1) := dk_26 (dk_at dksJ10_bitCount_0 1 rfl rfl)
theorem dJ10_bitCount_2 : decode cJ10_bitCount 2 = .ok (.iconst 1, 1) := dk_4 (dk_at dksJ10_bitCount_0 2 rfl rfl)
theorem dJ10_bitCount_3 : decode cJ10_bitCount 3 = .ok (.iushr, 1) := dk_124 (dk_at dksJ10_bitCount_0 3 rfl rfl)
theorem dJ10_bitCount_4 : decode cJ10_bitCount 4 = .ok (.ldc_w 265, 3) := dk_19 1 9 (dk_at dksJ10_bitCount_0 4 rfl rfl)
theorem dJ10_bitCount_7 : decode cJ10_bitCount 7 = .ok (.iand, 1) := dk_126 (dk_at dksJ10_bitCount_0 7 rfl rfl)
theorem dJ10_bitCount_8 : decode cJ10_bitCount 8 = .ok (.isub, 1) := dk_100 (dk_at dksJ10_bitCount_0 8 rfl rfl)
theorem dJ10_bitCount_9 : decode cJ10_bitCount 9 = .ok (.istore_n 0, 1) := dk_59 (dk_at dksJ10_bitCount_0 9 rfl rfl)
theorem dJ10_bitCount_10 : decode cJ10_bitCount 10 = .ok (.iload_n 0, 1) := dk_26 (dk_at dksJ10_bitCount_0 10 rfl rfl)
theorem dJ10_bitCount_11 : decode cJ10_bitCount 11 = .ok (.ldc_w 266, 3) := dk_19 1 10 (dk_at dksJ10_bitCount_0 11 rfl rfl)
theorem dJ10_bitCount_14 : decode cJ10_bitCount 14 = .ok (.iand, 1) := dk_126 (dk_at dksJ10_bitCount_0 14 rfl rfl)
theorem dJ10_bitCount_15 : decode cJ10_bitCount 15 = .ok (.iload_n 0, 1) := dk_26 (dk_at dksJ10_bitCount_0 15 rfl rfl)
theorem dJ10_bitCount_16 : decode cJ10_bitCount 16 = .ok (.iconst 2, 1) := dk_5 (dk_at dksJ10_bitCount_0 16 rfl rfl)
theorem dJ10_bitCount_17 : decode cJ10_bitCount 17 = .ok (.iushr, 1) := dk_124 (dk_at dksJ10_bitCount_0 17 rfl rfl)
theorem dJ10_bitCount_18 : decode cJ10_bitCount 18 = .ok (.ldc_w 266, 3) := dk_19 1 10 (dk_at dksJ10_bitCount_0 18 rfl rfl)
theorem dJ10_bitCount_21 : decode cJ10_bitCount 21 = .ok (.iand, 1) := dk_126 (dk_at dksJ10_bitCount_0 21 rfl rfl)
theorem dJ10_bitCount_22 : decode cJ10_bitCount 22 = .ok (.iadd, 1) := dk_96 (dk_at dksJ10_bitCount_0 22 rfl rfl)
theorem dJ10_bitCount_23 : decode cJ10_bitCount 23 = .ok (.istore_n 0, 1) := dk_59 (dk_at dksJ10_bitCount_0 23 rfl rfl)
theorem dJ10_bitCount_24 : decode cJ10_bitCount 24 = .ok (.iload_n 0, 1) := dk_26 (dk_at dksJ10_bitCount_1 0 rfl rfl)
theorem dJ10_bitCount_25 : decode cJ10_bitCount 25 = .ok (.iload_n 0, 1) := dk_26 (dk_at dksJ10_bitCount_1 1 rfl rfl)
theorem dJ10_bitCount_26 : decode cJ10_bitCount 26 = .ok (.iconst 4, 1) := dk_7 (dk_at dksJ10_bitCount_1 2 rfl rfl)
theorem dJ10_bitCount_27 : decode cJ10_bitCount 27 = .ok (.iushr, 1) := dk_124 (dk_at dksJ10_bitCount_1 3 rfl rfl)
theorem dJ10_bitCount_28 : decode cJ10_bitCount 28 = .ok (.iadd, 1) := dk_96 (dk_at dksJ10_bitCount_1 4 rfl rfl)
theorem dJ10_bitCount_29 : decode cJ10_bitCount 29 = .ok (.ldc_w 267, 3) := dk_19 1 11 (dk_at dksJ10_bitCount_1 5 rfl rfl)
theorem dJ10_bitCount_32 : decode cJ10_bitCount 32 = .ok (.iand, 1) := dk_126 (dk_at dksJ10_bitCount_1 8 rfl rfl)
theorem dJ10_bitCount_33 : decode cJ10_bitCount 33 = .ok (.istore_n 0, 1) := dk_59 (dk_at dksJ10_bitCount_1 9 rfl rfl)
theorem dJ10_bitCount_34 : decode cJ10_bitCount 34 = .ok (.iload_n 0, 1) := dk_26 (dk_at dksJ10_bitCount_1 10 rfl rfl)
theorem dJ10_bitCount_35 : decode cJ10_bitCount 35 = .ok (.iload_n 0, 1) := dk_26 (dk_at dksJ10_bitCount_1 11 rfl rfl)
theorem dJ10_bitCount_36 : decode cJ10_bitCount 36 = .ok (.bipush 8, 2) := dk_16 8 (dk_at dksJ10_bitCount_1 12 rfl rfl)
theorem dJ10_bitCount_38 : decode cJ10_bitCount 38 = .ok (.iushr, 1) := dk_124 (dk_at dksJ10_bitCount_1 14 rfl rfl)
theorem dJ10_bitCount_39 : decode cJ10_bitCount 39 = .ok (.iadd, 1) := dk_96 (dk_at dksJ10_bitCount_1 15 rfl rfl)
theorem dJ10_bitCount_40 : decode cJ10_bitCount 40 = .ok (.istore_n 0, 1) := dk_59 (dk_at dksJ10_bitCount_1 16 rfl rfl)
theorem dJ10_bitCount_41 : decode cJ10_bitCount 41 = .ok (.iload_n 0, 1) := dk_26 (dk_at dksJ10_bitCount_1 17 rfl rfl)
theorem dJ10_bitCount_42 : decode cJ10_bitCount 42 = .ok (.iload_n 0, 1) := dk_26 (dk_at dksJ10_bitCount_1 18 rfl rfl)
theorem dJ10_bitCount_43 : decode cJ10_bitCount 43 = .ok (.bipush 16, 2) := dk_16 16 (dk_at dksJ10_bitCount_1 19 rfl rfl)
theorem dJ10_bitCount_45 : decode cJ10_bitCount 45 = .ok (.iushr, 1) := dk_124 (dk_at dksJ10_bitCount_1 21 rfl rfl)
theorem dJ10_bitCount_46 : decode cJ10_bitCount 46 = .ok (.iadd, 1) := dk_96 (dk_at dksJ10_bitCount_1 22 rfl rfl)
theorem dJ10_bitCount_47 : decode cJ10_bitCount 47 = .ok (.istore_n 0, 1) := dk_59 (dk_at dksJ10_bitCount_1 23 rfl rfl)
theorem dJ10_bitCount_48 : decode cJ10_bitCount 48 = .ok (.iload_n 0, 1) := dk_26 (dk_at dksJ10_bitCount_2 0 rfl rfl)
theorem dJ10_bitCount_49 : decode cJ10_bitCount 49 = .ok (.bipush 63, 2) := dk_16 63 (dk_at dksJ10_bitCount_2 1 rfl rfl)
theorem dJ10_bitCount_51 : decode cJ10_bitCount 51 = .ok (.iand, 1) := dk_126 (dk_at dksJ10_bitCount_2 3 rfl rfl)
theorem dJ10_bitCount_52 : decode cJ10_bitCount 52 = .ok (.ireturn, 1) := dk_172 (dk_at dksJ10_bitCount_2 4 rfl rfl)

theorem okJ10_bitCount : wOkS yJ10_bitCount cJ10_bitCount 1 (some .int) 1 := ⟨q1018, q157, q1019, by decide, by decide, by decide +kernel⟩
def fJ10_bitCount (N : Nat)  (a0 : Int32) (μ : wMem) : Option (Int32 × wMem) :=
  wLet (a0 - ((UInt32.toInt32 ((Int32.toUInt32 a0) >>> ((Int32.toUInt32 (1 : Int32)) &&& Int32.toUInt32 31))) &&& (1431655765 : Int32)) : Int32) fun x1 => wLet ((x1 &&& (858993459 : Int32)) + ((UInt32.toInt32 ((Int32.toUInt32 x1) >>> ((Int32.toUInt32 (2 : Int32)) &&& Int32.toUInt32 31))) &&& (858993459 : Int32)) : Int32) fun x2 => wLet ((x2 + (UInt32.toInt32 ((Int32.toUInt32 x2) >>> ((Int32.toUInt32 (4 : Int32)) &&& Int32.toUInt32 31)))) &&& (252645135 : Int32) : Int32) fun x3 => wLet (x3 + (UInt32.toInt32 ((Int32.toUInt32 x3) >>> ((Int32.toUInt32 (8 : Int32)) &&& Int32.toUInt32 31))) : Int32) fun x4 => wLet (x4 + (UInt32.toInt32 ((Int32.toUInt32 x4) >>> ((Int32.toUInt32 (16 : Int32)) &&& Int32.toUInt32 31))) : Int32) fun x5 => some (x5 &&& (63 : Int32), μ)
set_option maxHeartbeats 4000000 in
set_option maxRecDepth 100000 in
theorem tJ10_bitCount (l : Launch) {D : va_G} {E : List wCell} {q : Nat → Nat} {ca : wCA} (N : Nat)   (a0 : Int32) (μ : wMem) (r0 : (Int32 × wMem)) (hf : fJ10_bitCount N  a0 μ = some r0) : wMi l yJ10_bitCount cJ10_bitCount 1 (some .int) ({ frames := 0, cells := 0, slots := 0, locals := 0 } : Room) D vwCl (spX ++ E) q ca [.int a0] μ r0 := by
  refine wMi_intro (by decide) (Nat.le_of_ble_eq_true rfl) ?_
  intro p e s m args below meth c A C
  unfold fJ10_bitCount at hf
  refine wr_sub [(0, .int a0)] [0] rfl ?_
  refine wr_iload_n 0 C dJ10_bitCount_0 0 rfl rfl ?_
  refine wr_iload_n 1 C dJ10_bitCount_1 0 rfl rfl ?_
  refine wr_iconst 2 C dJ10_bitCount_2 (v := 1) rfl ?_
  refine wr_iushr 3 C dJ10_bitCount_3 ?_
  refine wr_ldcw 4 C dJ10_bitCount_4 q1020 ?_
  refine wr_iand 7 C dJ10_bitCount_7 ?_
  refine wr_isub 8 C dJ10_bitCount_8 ?_
  obtain ⟨x1, ex1, hf⟩ := o_let hf
  refine wr_istore_n 9 [(0, .int x1)] C dJ10_bitCount_9 ex1 rfl (Nat.le_of_ble_eq_true rfl) rfl ?_
  refine wr_iload_n 10 C dJ10_bitCount_10 0 rfl rfl ?_
  refine wr_ldcw 11 C dJ10_bitCount_11 q1021 ?_
  refine wr_iand 14 C dJ10_bitCount_14 ?_
  refine wr_iload_n 15 C dJ10_bitCount_15 0 rfl rfl ?_
  refine wr_iconst 16 C dJ10_bitCount_16 (v := 2) rfl ?_
  refine wr_iushr 17 C dJ10_bitCount_17 ?_
  refine wr_ldcw 18 C dJ10_bitCount_18 q1021 ?_
  refine wr_iand 21 C dJ10_bitCount_21 ?_
  refine wr_iadd 22 C dJ10_bitCount_22 ?_
  obtain ⟨x2, ex2, hf⟩ := o_let hf
  refine wr_istore_n 23 [(0, .int x2)] C dJ10_bitCount_23 ex2 rfl (Nat.le_of_ble_eq_true rfl) rfl ?_
  refine wr_iload_n 24 C dJ10_bitCount_24 0 rfl rfl ?_
  refine wr_iload_n 25 C dJ10_bitCount_25 0 rfl rfl ?_
  refine wr_iconst 26 C dJ10_bitCount_26 (v := 4) rfl ?_
  refine wr_iushr 27 C dJ10_bitCount_27 ?_
  refine wr_iadd 28 C dJ10_bitCount_28 ?_
  refine wr_ldcw 29 C dJ10_bitCount_29 q1022 ?_
  refine wr_iand 32 C dJ10_bitCount_32 ?_
  obtain ⟨x3, ex3, hf⟩ := o_let hf
  refine wr_istore_n 33 [(0, .int x3)] C dJ10_bitCount_33 ex3 rfl (Nat.le_of_ble_eq_true rfl) rfl ?_
  refine wr_iload_n 34 C dJ10_bitCount_34 0 rfl rfl ?_
  refine wr_iload_n 35 C dJ10_bitCount_35 0 rfl rfl ?_
  refine wr_bipush 36 C dJ10_bitCount_36 (v := 8) rfl ?_
  refine wr_iushr 38 C dJ10_bitCount_38 ?_
  refine wr_iadd 39 C dJ10_bitCount_39 ?_
  obtain ⟨x4, ex4, hf⟩ := o_let hf
  refine wr_istore_n 40 [(0, .int x4)] C dJ10_bitCount_40 ex4 rfl (Nat.le_of_ble_eq_true rfl) rfl ?_
  refine wr_iload_n 41 C dJ10_bitCount_41 0 rfl rfl ?_
  refine wr_iload_n 42 C dJ10_bitCount_42 0 rfl rfl ?_
  refine wr_bipush 43 C dJ10_bitCount_43 (v := 16) rfl ?_
  refine wr_iushr 45 C dJ10_bitCount_45 ?_
  refine wr_iadd 46 C dJ10_bitCount_46 ?_
  obtain ⟨x5, ex5, hf⟩ := o_let hf
  refine wr_istore_n 47 [(0, .int x5)] C dJ10_bitCount_47 ex5 rfl (Nat.le_of_ble_eq_true rfl) rfl ?_
  refine wr_iload_n 48 C dJ10_bitCount_48 0 rfl rfl ?_
  refine wr_bipush 49 C dJ10_bitCount_49 (v := 63) rfl ?_
  refine wr_iand 51 C dJ10_bitCount_51 ?_
  exact wr_iret 52 C dJ10_bitCount_52 ⟨Nat.zero_le _, Nat.zero_le _⟩ (Option.some.inj hf)
abbrev cX0_wrong : ByteArray := prog_1_method_83_code
def yX0_wrong : MethodName := ⟨RX0, "wrong", "()I"⟩
def dkwX0_wrong_0 : List UInt8 := [42, 180, 0, 179, 42, 182, 0, 215, 42, 180, 0, 12, 180, 0, 219, 2, 130, 126, 130, 184, 1, 112, 172]
abbrev dktX0_wrong_0 : List UInt8 := dkwX0_wrong_0 ++ []
theorem dksX0_wrong_0 : cX0_wrong.data.toList.drop 0 = dktX0_wrong_0 := by decide +kernel
theorem dX0_wrong_0 : decode cX0_wrong 0 = .ok (.aload_n 0, 1) := dk_42 (dk_at dksX0_wrong_0 0 rfl rfl)
theorem dX0_wrong_1 : decode cX0_wrong 1 = .ok (.getfield 179, 3) := dk_180 0 179 (dk_at dksX0_wrong_0 1 rfl rfl)
theorem dX0_wrong_4 : decode cX0_wrong 4 = .ok (.aload_n 0, 1) := dk_42 (dk_at dksX0_wrong_0 4 rfl rfl)
theorem dX0_wrong_5 : decode cX0_wrong 5 = .ok (.invokevirtual 215, 3) := dk_182 0 215 (dk_at dksX0_wrong_0 5 rfl rfl)
theorem dX0_wrong_8 : decode cX0_wrong 8 = .ok (.aload_n 0, 1) := dk_42 (dk_at dksX0_wrong_0 8 rfl rfl)
theorem dX0_wrong_9 : decode cX0_wrong 9 = .ok (.getfield 12, 3) := dk_180 0 12 (dk_at dksX0_wrong_0 9 rfl rfl)
theorem dX0_wrong_12 : decode cX0_wrong 12 = .ok (.getfield 219, 3) := dk_180 0 219 (dk_at dksX0_wrong_0 12 rfl rfl)
theorem dX0_wrong_15 : decode cX0_wrong 15 = .ok (.iconst (-1), 1) := dk_2 (dk_at dksX0_wrong_0 15 rfl rfl)
theorem dX0_wrong_16 : decode cX0_wrong 16 = .ok (.ixor, 1) := dk_130 (dk_at dksX0_wrong_0 16 rfl rfl)
theorem dX0_wrong_17 : decode cX0_wrong 17 = .ok (.iand, 1) := dk_126 (dk_at dksX0_wrong_0 17 rfl rfl)
theorem dX0_wrong_18 : decode cX0_wrong 18 = .ok (.ixor, 1) := dk_130 (dk_at dksX0_wrong_0 18 rfl rfl)
theorem dX0_wrong_19 : decode cX0_wrong 19 = .ok (.invokestatic 368, 3) := dk_184 1 112 (dk_at dksX0_wrong_0 19 rfl rfl)
theorem dX0_wrong_22 : decode cX0_wrong 22 = .ok (.ireturn, 1) := dk_172 (dk_at dksX0_wrong_0 22 rfl rfl)

theorem okX0_wrong : wOkV yX0_wrong cX0_wrong 1 (some .int) 0 := ⟨q1015, qs52, q136, q1016, by decide, by decide, by decide +kernel⟩
def fX0_wrong (N : Nat)   (μ : wMem) : Option (Int32 × wMem) :=
  wBind (fX0_all N   μ) fun v3 μ2 => wBind (fJ10_bitCount N  ((μ.1 0 5) ^^^ (v3 &&& ((μ2.1 1 5) ^^^ (-1 : Int32)))) μ2) fun v6 μ5 => some (v6, μ5)
set_option maxHeartbeats 4000000 in
set_option maxRecDepth 100000 in
theorem tX0_wrong (l : Launch) {D : va_G} {E : List wCell} {q : Nat → Nat} {ca : wCA} (N : Nat)    (μ : wMem) (r0 : (Int32 × wMem)) (hf : fX0_wrong N   μ = some r0) : wMi l yX0_wrong cX0_wrong 1 (some .int) ({ frames := 1, cells := 0, slots := 0, locals := 20 } : Room) D vwCl (spX ++ E) q ca [.ref (q 0)] μ r0 := by
  refine wMi_intro (by decide) (Nat.le_of_ble_eq_true rfl) ?_
  intro p e s m args below meth c A C
  unfold fX0_wrong at hf
  refine wr_sub [(0, .ref (q 0))] [0] rfl ?_
  refine wr_aload_n 0 C dX0_wrong_0 0 rfl rfl ?_
  refine gespX_0_5_X0 1 C dX0_wrong_1 ?_
  refine wr_aload_n 4 C dX0_wrong_4 0 rfl rfl ?_
  obtain ⟨v3, μ2, h1, hf⟩ := o_bind hf
  refine wr_Vi (kc1 := 0) (ks1 := 0) 5 [.int (μ.1 0 5)] C dX0_wrong_5 (tX0_all l N    μ (v3, μ2) h1) okX0_all q912 (b := 0) spX_0 rfl ⟨rfl, rfl, Nat.le_of_ble_eq_true rfl, Nat.le_of_ble_eq_true rfl, Nat.zero_le _, Nat.zero_le _⟩ (Nat.le_of_ble_eq_true rfl) rfl ?_
  refine wr_aload_n 8 C dX0_wrong_8 0 rfl rfl ?_
  refine gespX_0_0_X0 9 C dX0_wrong_9 ?_
  refine gespX_1_5_X0 12 C dX0_wrong_12 ?_
  refine wr_iconst 15 C dX0_wrong_15 (v := (-1)) rfl ?_
  refine wr_ixor 16 C dX0_wrong_16 ?_
  refine wr_iand 17 C dX0_wrong_17 ?_
  refine wr_ixor 18 C dX0_wrong_18 ?_
  obtain ⟨v6, μ5, h4, hf⟩ := o_bind hf
  refine wr_Si (kc1 := 0) (ks1 := 0) 19 [] C dX0_wrong_19 (tJ10_bitCount l N   ((μ.1 0 5) ^^^ (v3 &&& ((μ2.1 1 5) ^^^ (-1 : Int32)))) μ2 (v6, μ5) h4) okJ10_bitCount q1017 ⟨rfl, rfl, Nat.le_of_ble_eq_true rfl, Nat.le_of_ble_eq_true rfl, Nat.zero_le _, Nat.zero_le _⟩ (Nat.le_of_ble_eq_true rfl) rfl ?_
  exact wr_iret 22 C dX0_wrong_22 ⟨Nat.zero_le _, Nat.zero_le _⟩ (Option.some.inj hf)
abbrev cX0_worst : ByteArray := prog_1_method_84_code
def yX0_worst : MethodName := ⟨RX0, "worst", "()I"⟩
def dkwX0_worst_3 : List UInt8 := [61, 29, 60, 42, 42, 180, 0, 33, 182, 1, 80, 54, 4, 167, 255, 213, 27, 172]
abbrev dktX0_worst_3 : List UInt8 := dkwX0_worst_3 ++ []
def dkwX0_worst_2 : List UInt8 := [42, 21, 4, 182, 0, 243, 132, 3, 1, 42, 182, 1, 117, 28, 163, 0, 6, 167, 0, 10, 42, 182, 1, 117]
abbrev dktX0_worst_2 : List UInt8 := dkwX0_worst_2 ++ dktX0_worst_3
def dkwX0_worst_1 : List UInt8 := [60, 42, 182, 1, 117, 61, 3, 62, 42, 42, 180, 0, 33, 182, 1, 80, 54, 4, 21, 4, 2, 159, 0, 43]
abbrev dktX0_worst_1 : List UInt8 := dkwX0_worst_1 ++ dktX0_worst_2
def dkwX0_worst_0 : List UInt8 := [42, 182, 0, 252, 154, 0, 6, 16, 254, 172, 42, 42, 180, 0, 33, 182, 1, 77, 154, 0, 5, 2, 172, 3]
abbrev dktX0_worst_0 : List UInt8 := dkwX0_worst_0 ++ dktX0_worst_1
theorem dksX0_worst_0 : cX0_worst.data.toList.drop 0 = dktX0_worst_0 := by decide +kernel
theorem dksX0_worst_1 : cX0_worst.data.toList.drop 24 = dktX0_worst_1 := dk_seg dksX0_worst_0 24 rfl rfl
theorem dksX0_worst_2 : cX0_worst.data.toList.drop 48 = dktX0_worst_2 := dk_seg dksX0_worst_1 24 rfl rfl
theorem dksX0_worst_3 : cX0_worst.data.toList.drop 72 = dktX0_worst_3 := dk_seg dksX0_worst_2 24 rfl rfl
theorem dX0_worst_0 : decode cX0_worst 0 = .ok (.aload_n 0, 1) := dk_42 (dk_at dksX0_worst_0 0 rfl rfl)
theorem dX0_worst_1 : decode cX0_worst 1 = .ok (.invokevirtual 252, 3) := dk_182 0 252 (dk_at dksX0_worst_0 1 rfl rfl)
theorem dX0_worst_4 : decode cX0_worst 4 = .ok (.ifCond .ne 6, 3) := dk_154 0 6 (dk_at dksX0_worst_0 4 rfl rfl)
theorem dX0_worst_7 : decode cX0_worst 7 = .ok (.bipush (-2), 2) := dk_16 254 (dk_at dksX0_worst_0 7 rfl rfl)
theorem dX0_worst_9 : decode cX0_worst 9 = .ok (.ireturn, 1) := dk_172 (dk_at dksX0_worst_0 9 rfl rfl)
theorem dX0_worst_10 : decode cX0_worst 10 = .ok (.aload_n 0, 1) := dk_42 (dk_at dksX0_worst_0 10 rfl rfl)
theorem dX0_worst_11 : decode cX0_worst 11 = .ok (.aload_n 0, 1) := dk_42 (dk_at dksX0_worst_0 11 rfl rfl)
theorem dX0_worst_12 : decode cX0_worst 12 = .ok (.getfield 33, 3) := dk_180 0 33 (dk_at dksX0_worst_0 12 rfl rfl)
theorem dX0_worst_15 : decode cX0_worst 15 = .ok (.invokevirtual 333, 3) := dk_182 1 77 (dk_at dksX0_worst_0 15 rfl rfl)
theorem dX0_worst_18 : decode cX0_worst 18 = .ok (.ifCond .ne 5, 3) := dk_154 0 5 (dk_at dksX0_worst_0 18 rfl rfl)
theorem dX0_worst_21 : decode cX0_worst 21 = .ok (.iconst (-1), 1) := dk_2 (dk_at dksX0_worst_0 21 rfl rfl)
theorem dX0_worst_22 : decode cX0_worst 22 = .ok (.ireturn, 1) := dk_172 (dk_at dksX0_worst_0 22 rfl rfl)
theorem dX0_worst_23 : decode cX0_worst 23 = .ok (.iconst 0, 1) := dk_3 (dk_at dksX0_worst_0 23 rfl rfl)
theorem dX0_worst_24 : decode cX0_worst 24 = .ok (.istore_n 1, 1) := dk_60 (dk_at dksX0_worst_1 0 rfl rfl)
theorem dX0_worst_25 : decode cX0_worst 25 = .ok (.aload_n 0, 1) := dk_42 (dk_at dksX0_worst_1 1 rfl rfl)
theorem dX0_worst_26 : decode cX0_worst 26 = .ok (.invokevirtual 373, 3) := dk_182 1 117 (dk_at dksX0_worst_1 2 rfl rfl)
theorem dX0_worst_29 : decode cX0_worst 29 = .ok (.istore_n 2, 1) := dk_61 (dk_at dksX0_worst_1 5 rfl rfl)
theorem dX0_worst_30 : decode cX0_worst 30 = .ok (.iconst 0, 1) := dk_3 (dk_at dksX0_worst_1 6 rfl rfl)
theorem dX0_worst_31 : decode cX0_worst 31 = .ok (.istore_n 3, 1) := dk_62 (dk_at dksX0_worst_1 7 rfl rfl)
theorem dX0_worst_32 : decode cX0_worst 32 = .ok (.aload_n 0, 1) := dk_42 (dk_at dksX0_worst_1 8 rfl rfl)
theorem dX0_worst_33 : decode cX0_worst 33 = .ok (.aload_n 0, 1) := dk_42 (dk_at dksX0_worst_1 9 rfl rfl)
theorem dX0_worst_34 : decode cX0_worst 34 = .ok (.getfield 33, 3) := dk_180 0 33 (dk_at dksX0_worst_1 10 rfl rfl)
theorem dX0_worst_37 : decode cX0_worst 37 = .ok (.invokevirtual 336, 3) := dk_182 1 80 (dk_at dksX0_worst_1 13 rfl rfl)
theorem dX0_worst_40 : decode cX0_worst 40 = .ok (.istore 4, 2) := dk_54 4 (dk_at dksX0_worst_1 16 rfl rfl)
theorem dX0_worst_42 : decode cX0_worst 42 = .ok (.iload 4, 2) := dk_21 4 (dk_at dksX0_worst_1 18 rfl rfl)
theorem dX0_worst_44 : decode cX0_worst 44 = .ok (.iconst (-1), 1) := dk_2 (dk_at dksX0_worst_1 20 rfl rfl)
theorem dX0_worst_45 : decode cX0_worst 45 = .ok (.if_icmp .eq 43, 3) := dk_159 0 43 (dk_at dksX0_worst_1 21 rfl rfl)
theorem dX0_worst_48 : decode cX0_worst 48 = .ok (.aload_n 0, 1) := dk_42 (dk_at dksX0_worst_2 0 rfl rfl)
theorem dX0_worst_49 : decode cX0_worst 49 = .ok (.iload 4, 2) := dk_21 4 (dk_at dksX0_worst_2 1 rfl rfl)
theorem dX0_worst_51 : decode cX0_worst 51 = .ok (.invokevirtual 243, 3) := dk_182 0 243 (dk_at dksX0_worst_2 3 rfl rfl)
theorem dX0_worst_54 : decode cX0_worst 54 = .ok (.iinc 3 1, 3) := dk_132 3 1 (dk_at dksX0_worst_2 6 rfl rfl)
theorem dX0_worst_57 : decode cX0_worst 57 = .ok (.aload_n 0, 1) := dk_42 (dk_at dksX0_worst_2 9 rfl rfl)
theorem dX0_worst_58 : decode cX0_worst 58 = .ok (.invokevirtual 373, 3) := dk_182 1 117 (dk_at dksX0_worst_2 10 rfl rfl)
theorem dX0_worst_61 : decode cX0_worst 61 = .ok (.iload_n 2, 1) := dk_28 (dk_at dksX0_worst_2 13 rfl rfl)
theorem dX0_worst_62 : decode cX0_worst 62 = .ok (.if_icmp .gt 6, 3) := dk_163 0 6 (dk_at dksX0_worst_2 14 rfl rfl)
theorem dX0_worst_65 : decode cX0_worst 65 = .ok (.goto 10, 3) := dk_167 0 10 (dk_at dksX0_worst_2 17 rfl rfl)
theorem dX0_worst_68 : decode cX0_worst 68 = .ok (.aload_n 0, 1) := dk_42 (dk_at dksX0_worst_2 20 rfl rfl)
theorem dX0_worst_69 : decode cX0_worst 69 = .ok (.invokevirtual 373, 3) := dk_182 1 117 (dk_at dksX0_worst_2 21 rfl rfl)
theorem dX0_worst_72 : decode cX0_worst 72 = .ok (.istore_n 2, 1) := dk_61 (dk_at dksX0_worst_3 0 rfl rfl)
theorem dX0_worst_73 : decode cX0_worst 73 = .ok (.iload_n 3, 1) := dk_29 (dk_at dksX0_worst_3 1 rfl rfl)
theorem dX0_worst_74 : decode cX0_worst 74 = .ok (.istore_n 1, 1) := dk_60 (dk_at dksX0_worst_3 2 rfl rfl)
theorem dX0_worst_75 : decode cX0_worst 75 = .ok (.aload_n 0, 1) := dk_42 (dk_at dksX0_worst_3 3 rfl rfl)
theorem dX0_worst_76 : decode cX0_worst 76 = .ok (.aload_n 0, 1) := dk_42 (dk_at dksX0_worst_3 4 rfl rfl)
theorem dX0_worst_77 : decode cX0_worst 77 = .ok (.getfield 33, 3) := dk_180 0 33 (dk_at dksX0_worst_3 5 rfl rfl)
theorem dX0_worst_80 : decode cX0_worst 80 = .ok (.invokevirtual 336, 3) := dk_182 1 80 (dk_at dksX0_worst_3 8 rfl rfl)
theorem dX0_worst_83 : decode cX0_worst 83 = .ok (.istore 4, 2) := dk_54 4 (dk_at dksX0_worst_3 11 rfl rfl)
theorem dX0_worst_85 : decode cX0_worst 85 = .ok (.goto (-43), 3) := dk_167 255 213 (dk_at dksX0_worst_3 13 rfl rfl)
theorem dX0_worst_88 : decode cX0_worst 88 = .ok (.iload_n 1, 1) := dk_27 (dk_at dksX0_worst_3 16 rfl rfl)
theorem dX0_worst_89 : decode cX0_worst 89 = .ok (.ireturn, 1) := dk_172 (dk_at dksX0_worst_3 17 rfl rfl)

theorem okX0_worst : wOkV yX0_worst cX0_worst 5 (some .int) 0 := ⟨q1010, q1011, q136, q1012, by decide, by decide, by decide +kernel⟩
def gbX0_worst_42 (N : Nat)   (K : (Int32 → wMem → Option (Int32 × wMem))) (rec : (Int32 → Int32 → Int32 → Int32 → wMem → Option (Int32 × wMem))) (x1_ : Int32) (x2_ : Int32) (x3_ : Int32) (x4_ : Int32) (μ : wMem) : Option (Int32 × wMem) :=
  if x4_ = (-1 : Int32) then K x1_ μ else wBindV (fX0_does N  x4_ μ) fun μ17 => wLet (x3_ + 1 : Int32) fun x18 => wBind (fX0_wrong N   μ17) fun v21 μ20 => wLet (fun (x23 : Int32) (x24 : Int32) (μ22 : wMem) => wBind (fX0_step N 19  μ22) fun v27 μ26 => rec x23 x24 x18 v27 μ26) fun Jworst75 => if x2_ < v21 then wBind (fX0_wrong N   μ20) fun v31 μ30 => Jworst75 x18 v31 μ30 else Jworst75 x1_ x2_ μ20
def gX0_worst_42 (N : Nat)   (K : (Int32 → wMem → Option (Int32 × wMem))) : Nat → (Int32 → Int32 → Int32 → Int32 → wMem → Option (Int32 × wMem))
  | 0 => fun _ _ _ _ _ => none
  | k + 1 => gbX0_worst_42 N   K (gX0_worst_42 N   K k)
set_option maxHeartbeats 4000000 in
set_option maxRecDepth 100000 in
theorem tX0_worst_42 {p : Program} {l : Launch} {e : Env} {s : State} {m : MethodId} {args : Array Value} {below : List Frame} {meth : Method} {c : Code} {D : va_G} {E : List wCell} {q : Nat → Nat} {ca : wCA} {A : Nat → Prop} (C : wC p ({ frames := 8, cells := 0, slots := 0, locals := 181 } : Room) s m args meth c cX0_worst yX0_worst.cls 5 (some .int) D vwCl (spX ++ E) q ca A) (N : Nat)    (K : (Int32 → wMem → Option (Int32 × wMem))) (r0 : (Int32 × wMem)) (hK : ∀ (y1_ : Int32) (μ : wMem), K y1_ μ = some r0 → wJ p l e ({ frames := 8, cells := 0, slots := 0, locals := 181 } : Room) s m args below meth c 5 D vwCl (spX ++ E) q ca A (wQi ({ frames := 8, cells := 0, slots := 0, locals := 181 } : Room) D vwCl (spX ++ E) q ca below args s A r0) 0 0 μ 88 [(1, .int y1_)] []) : ∀ (k : Nat) (x1_ : Int32) (x2_ : Int32) (x3_ : Int32) (x4_ : Int32) (μ : wMem), gX0_worst_42 N   K k x1_ x2_ x3_ x4_ μ = some r0 → wJ p l e ({ frames := 8, cells := 0, slots := 0, locals := 181 } : Room) s m args below meth c 5 D vwCl (spX ++ E) q ca A (wQi ({ frames := 8, cells := 0, slots := 0, locals := 181 } : Room) D vwCl (spX ++ E) q ca below args s A r0) 0 0 μ 42 [(0, .ref (q 0)), (1, .int x1_), (2, .int x2_), (3, .int x3_), (4, .int x4_)] [] := by
  intro k
  induction k with
  | zero =>
    intro x1_ x2_ x3_ x4_ μ hf
    cases hf
  | succ k ih =>
    intro x1_ x2_ x3_ x4_ μ hf
    replace hf : gbX0_worst_42 N   K (gX0_worst_42 N   K k) x1_ x2_ x3_ x4_ μ = some r0 := hf
    unfold gbX0_worst_42 at hf
    refine wr_iload 42 C dX0_worst_42 4 rfl ?_
    refine wr_iconst 44 C dX0_worst_44 (v := (-1)) rfl ?_
    refine wr_icmp_eq 45 88 C dX0_worst_45 (by decide) (fun c15 => ?_) (fun c15 => ?_)
    · replace hf := o_pos c15 hf
      refine wr_sub [(1, .int x1_)] [1] rfl ?_
      exact hK x1_ μ hf
    · replace hf := o_neg c15 hf
      refine wr_aload_n 48 C dX0_worst_48 0 rfl rfl ?_
      refine wr_iload 49 C dX0_worst_49 4 rfl ?_
      obtain ⟨μ17, h16, hf⟩ := o_bindV hf
      refine wr_Vv (kc1 := 0) (ks1 := 0) 51 [] C dX0_worst_51 (tX0_does l N   x4_ μ μ17 h16) okX0_does q755 (b := 0) spX_0 rfl ⟨rfl, rfl, Nat.le_of_ble_eq_true rfl, Nat.le_of_ble_eq_true rfl, Nat.zero_le _, Nat.zero_le _⟩ (Nat.le_of_ble_eq_true rfl) rfl ?_
      obtain ⟨x18, ex18, hf⟩ := o_let hf
      refine wr_iinc 54 [(3, .int x18), (0, .ref (q 0)), (1, .int x1_), (2, .int x2_), (4, .int x4_)] C dX0_worst_54 3 rfl (ex18.trans rfl) (Nat.le_of_ble_eq_true rfl) rfl ?_
      refine wr_aload_n 57 C dX0_worst_57 1 rfl rfl ?_
      obtain ⟨v21, μ20, h19, hf⟩ := o_bind hf
      refine wr_Vi (kc1 := 0) (ks1 := 0) 58 [] C dX0_worst_58 (tX0_wrong l N    μ17 (v21, μ20) h19) okX0_wrong q1013 (b := 0) spX_0 rfl ⟨rfl, rfl, Nat.le_of_ble_eq_true rfl, Nat.le_of_ble_eq_true rfl, Nat.zero_le _, Nat.zero_le _⟩ (Nat.le_of_ble_eq_true rfl) rfl ?_
      refine wr_iload_n 61 C dX0_worst_61 3 rfl rfl ?_
      obtain ⟨Jworst75, eJworst75, hf⟩ := o_let hf
      have hJworst75 : ∀ (x23 : Int32) (x24 : Int32) (μ22 : wMem), Jworst75 x23 x24 μ22 = some r0 → wJ p l e ({ frames := 8, cells := 0, slots := 0, locals := 181 } : Room) s m args below meth c 5 D vwCl (spX ++ E) q ca A (wQi ({ frames := 8, cells := 0, slots := 0, locals := 181 } : Room) D vwCl (spX ++ E) q ca below args s A r0) 0 0 μ22 75 [(0, .ref (q 0)), (1, .int x23), (2, .int x24), (3, .int x18)] [] := by
        intro x23 x24 μ22 hf
        rw [eJworst75] at hf
        refine wr_aload_n 75 C dX0_worst_75 0 rfl rfl ?_
        refine wr_aload_n 76 C dX0_worst_76 0 rfl rfl ?_
        refine gespX_0_13_X0 77 C dX0_worst_77 ?_
        obtain ⟨v27, μ26, h25, hf⟩ := o_bind hf
        refine wr_Vi (kc1 := 0) (ks1 := 0) 80 [] C dX0_worst_80 (tX0_step l N 19   μ22 (v27, μ26) h25) okX0_step q935 (b := 0) spX_0 rfl ⟨rfl, rfl, Nat.le_of_ble_eq_true rfl, Nat.le_of_ble_eq_true rfl, Nat.zero_le _, Nat.zero_le _⟩ (Nat.le_of_ble_eq_true rfl) rfl ?_
        refine wr_istore 83 [(4, .int v27), (0, .ref (q 0)), (1, .int x23), (2, .int x24), (3, .int x18)] C dX0_worst_83 rfl (Nat.le_of_ble_eq_true rfl) rfl ?_
        refine wr_goto 85 C dX0_worst_85 (tgt := 42) (by decide) ?_
        refine wr_sub [(0, .ref (q 0)), (1, .int x23), (2, .int x24), (3, .int x18), (4, .int v27)] [1, 2, 3, 4, 0] rfl ?_
        exact ih x23 x24 x18 v27 μ26 hf
      refine wr_icmp_gt 62 68 C dX0_worst_62 (by decide) (fun c28 => ?_) (fun c28 => ?_)
      · replace hf := o_pos c28 hf
        refine wr_aload_n 68 C dX0_worst_68 1 rfl rfl ?_
        obtain ⟨v31, μ30, h29, hf⟩ := o_bind hf
        refine wr_Vi (kc1 := 0) (ks1 := 0) 69 [] C dX0_worst_69 (tX0_wrong l N    μ20 (v31, μ30) h29) okX0_wrong q1013 (b := 0) spX_0 rfl ⟨rfl, rfl, Nat.le_of_ble_eq_true rfl, Nat.le_of_ble_eq_true rfl, Nat.zero_le _, Nat.zero_le _⟩ (Nat.le_of_ble_eq_true rfl) rfl ?_
        refine wr_istore_n 72 [(2, .int v31), (3, .int x18), (0, .ref (q 0)), (1, .int x1_), (4, .int x4_)] C dX0_worst_72 rfl rfl (Nat.le_of_ble_eq_true rfl) rfl ?_
        refine wr_iload_n 73 C dX0_worst_73 1 rfl rfl ?_
        refine wr_istore_n 74 [(1, .int x18), (2, .int v31), (3, .int x18), (0, .ref (q 0)), (4, .int x4_)] C dX0_worst_74 rfl rfl (Nat.le_of_ble_eq_true rfl) rfl ?_
        refine wr_sub [(0, .ref (q 0)), (1, .int x18), (2, .int v31), (3, .int x18)] [3, 0, 1, 2] rfl ?_
        exact hJworst75 x18 v31 μ30 hf
      · replace hf := o_neg c28 hf
        refine wr_goto 65 C dX0_worst_65 (tgt := 75) (by decide) ?_
        refine wr_sub [(0, .ref (q 0)), (1, .int x1_), (2, .int x2_), (3, .int x18)] [1, 2, 3, 0] rfl ?_
        exact hJworst75 x1_ x2_ μ20 hf
def fX0_worst (N : Nat)   (μ : wMem) : Option (Int32 × wMem) :=
  wBind (fX0_isFamily N   μ) fun v3 μ2 => if v3 = 0 then some ((-2), μ2) else wBind (fX0_marks N 19  μ2) fun v7 μ6 => if v7 = 0 then some ((-1), μ6) else wBind (fX0_wrong N   μ6) fun v11 μ10 => wBind (fX0_step N 19  μ10) fun v14 μ13 => gX0_worst_42 N   (fun (x33 : Int32) (μ32 : wMem) => some (x33, μ32)) N 0 v11 0 v14 μ13
set_option maxHeartbeats 4000000 in
set_option maxRecDepth 100000 in
theorem tX0_worst (l : Launch) {D : va_G} {E : List wCell} {q : Nat → Nat} {ca : wCA} (N : Nat)    (μ : wMem) (r0 : (Int32 × wMem)) (hf : fX0_worst N   μ = some r0) : wMi l yX0_worst cX0_worst 5 (some .int) ({ frames := 8, cells := 0, slots := 0, locals := 181 } : Room) D vwCl (spX ++ E) q ca [.ref (q 0)] μ r0 := by
  refine wMi_intro (by decide) (Nat.le_of_ble_eq_true rfl) ?_
  intro p e s m args below meth c A C
  unfold fX0_worst at hf
  refine wr_sub [(0, .ref (q 0))] [0] rfl ?_
  refine wr_aload_n 0 C dX0_worst_0 0 rfl rfl ?_
  obtain ⟨v3, μ2, h1, hf⟩ := o_bind hf
  refine wr_Vi (kc1 := 0) (ks1 := 0) 1 [] C dX0_worst_1 (tX0_isFamily l N    μ (v3, μ2) h1) okX0_isFamily q770 (b := 0) spX_0 rfl ⟨rfl, rfl, Nat.le_of_ble_eq_true rfl, Nat.le_of_ble_eq_true rfl, Nat.zero_le _, Nat.zero_le _⟩ (Nat.le_of_ble_eq_true rfl) rfl ?_
  refine wr_if_ne 4 10 C dX0_worst_4 (by decide) (fun c4 => ?_) (fun c4 => ?_)
  · replace hf := o_neg c4 hf
    refine wr_aload_n 10 C dX0_worst_10 0 rfl rfl ?_
    refine wr_aload_n 11 C dX0_worst_11 0 rfl rfl ?_
    refine gespX_0_13_X0 12 C dX0_worst_12 ?_
    obtain ⟨v7, μ6, h5, hf⟩ := o_bind hf
    refine wr_Vi (kc1 := 0) (ks1 := 0) 15 [] C dX0_worst_15 (tX0_marks l N 19   μ2 (v7, μ6) h5) okX0_marks q927 (b := 0) spX_0 rfl ⟨rfl, rfl, Nat.le_of_ble_eq_true rfl, Nat.le_of_ble_eq_true rfl, Nat.zero_le _, Nat.zero_le _⟩ (Nat.le_of_ble_eq_true rfl) rfl ?_
    refine wr_if_ne 18 23 C dX0_worst_18 (by decide) (fun c8 => ?_) (fun c8 => ?_)
    · replace hf := o_neg c8 hf
      refine wr_iconst 23 C dX0_worst_23 (v := 0) rfl ?_
      refine wr_istore_n 24 [(1, .int 0), (0, .ref (q 0))] C dX0_worst_24 rfl rfl (Nat.le_of_ble_eq_true rfl) rfl ?_
      refine wr_aload_n 25 C dX0_worst_25 1 rfl rfl ?_
      obtain ⟨v11, μ10, h9, hf⟩ := o_bind hf
      refine wr_Vi (kc1 := 0) (ks1 := 0) 26 [] C dX0_worst_26 (tX0_wrong l N    μ6 (v11, μ10) h9) okX0_wrong q1013 (b := 0) spX_0 rfl ⟨rfl, rfl, Nat.le_of_ble_eq_true rfl, Nat.le_of_ble_eq_true rfl, Nat.zero_le _, Nat.zero_le _⟩ (Nat.le_of_ble_eq_true rfl) rfl ?_
      refine wr_istore_n 29 [(2, .int v11), (1, .int 0), (0, .ref (q 0))] C dX0_worst_29 rfl rfl (Nat.le_of_ble_eq_true rfl) rfl ?_
      refine wr_iconst 30 C dX0_worst_30 (v := 0) rfl ?_
      refine wr_istore_n 31 [(3, .int 0), (2, .int v11), (1, .int 0), (0, .ref (q 0))] C dX0_worst_31 rfl rfl (Nat.le_of_ble_eq_true rfl) rfl ?_
      refine wr_aload_n 32 C dX0_worst_32 3 rfl rfl ?_
      refine wr_aload_n 33 C dX0_worst_33 3 rfl rfl ?_
      refine gespX_0_13_X0 34 C dX0_worst_34 ?_
      obtain ⟨v14, μ13, h12, hf⟩ := o_bind hf
      refine wr_Vi (kc1 := 0) (ks1 := 0) 37 [] C dX0_worst_37 (tX0_step l N 19   μ10 (v14, μ13) h12) okX0_step q935 (b := 0) spX_0 rfl ⟨rfl, rfl, Nat.le_of_ble_eq_true rfl, Nat.le_of_ble_eq_true rfl, Nat.zero_le _, Nat.zero_le _⟩ (Nat.le_of_ble_eq_true rfl) rfl ?_
      refine wr_istore 40 [(4, .int v14), (3, .int 0), (2, .int v11), (1, .int 0), (0, .ref (q 0))] C dX0_worst_40 rfl (Nat.le_of_ble_eq_true rfl) rfl ?_
      refine wr_sub [(0, .ref (q 0)), (1, .int 0), (2, .int v11), (3, .int 0), (4, .int v14)] [4, 3, 2, 1, 0] rfl ?_
      refine tX0_worst_42 C N    _ r0 (fun x33 μ32 hf => ?_) N 0 v11 0 v14 μ13 hf
      · replace hf := hf
        refine wr_iload_n 88 C dX0_worst_88 0 rfl rfl ?_
        exact wr_iret 89 C dX0_worst_89 ⟨Nat.zero_le _, Nat.zero_le _⟩ (Option.some.inj hf)
    · replace hf := o_pos c8 hf
      refine wr_iconst 21 C dX0_worst_21 (v := (-1)) rfl ?_
      exact wr_iret 22 C dX0_worst_22 ⟨Nat.zero_le _, Nat.zero_le _⟩ (Option.some.inj hf)
  · replace hf := o_pos c4 hf
    refine wr_bipush 7 C dX0_worst_7 (v := (-2)) rfl ?_
    exact wr_iret 9 C dX0_worst_9 ⟨Nat.zero_le _, Nat.zero_le _⟩ (Option.some.inj hf)
abbrev cX0_isSlot : ByteArray := prog_1_method_117_code
def yX0_isSlot : MethodName := ⟨RX0, "isSlot", "(I)Z"⟩
def dkwX0_isSlot_0 : List UInt8 := [26, 133, 9, 20, 1, 203, 184, 0, 103, 172]
abbrev dktX0_isSlot_0 : List UInt8 := dkwX0_isSlot_0 ++ []
theorem dksX0_isSlot_0 : cX0_isSlot.data.toList.drop 0 = dktX0_isSlot_0 := by decide +kernel
theorem dX0_isSlot_0 : decode cX0_isSlot 0 = .ok (.iload_n 0, 1) := dk_26 (dk_at dksX0_isSlot_0 0 rfl rfl)
theorem dX0_isSlot_1 : decode cX0_isSlot 1 = .ok (.i2l, 1) := dk_133 (dk_at dksX0_isSlot_0 1 rfl rfl)
theorem dX0_isSlot_2 : decode cX0_isSlot 2 = .ok (.lconst 0, 1) := dk_9 (dk_at dksX0_isSlot_0 2 rfl rfl)
theorem dX0_isSlot_3 : decode cX0_isSlot 3 = .ok (.ldc2_w 459, 3) := dk_20 1 203 (dk_at dksX0_isSlot_0 3 rfl rfl)
theorem dX0_isSlot_6 : decode cX0_isSlot 6 = .ok (.invokestatic 103, 3) := dk_184 0 103 (dk_at dksX0_isSlot_0 6 rfl rfl)
theorem dX0_isSlot_9 : decode cX0_isSlot 9 = .ok (.ireturn, 1) := dk_172 (dk_at dksX0_isSlot_0 9 rfl rfl)

theorem okX0_isSlot : wOkS yX0_isSlot cX0_isSlot 1 (some .boolean) 1 := ⟨q1059, q136, q1060, by decide, by decide, by decide +kernel⟩
def fX0_isSlot (N : Nat)  (a0 : Int32) (μ : wMem) : Option (Int32 × wMem) :=
  wBind (fX0_isIn N  (Int32.toInt64 a0) 0 3 μ) fun v3 μ2 => wG (ok_b v3) (some (v3, μ2))
set_option maxHeartbeats 4000000 in
set_option maxRecDepth 100000 in
theorem tX0_isSlot (l : Launch) {D : va_G} {E : List wCell} {q : Nat → Nat} {ca : wCA} (N : Nat)   (a0 : Int32) (μ : wMem) (r0 : (Int32 × wMem)) (hf : fX0_isSlot N  a0 μ = some r0) : wMi l yX0_isSlot cX0_isSlot 1 (some .boolean) ({ frames := 1, cells := 0, slots := 0, locals := 25 } : Room) D vwCl (spX ++ E) q ca [.int a0] μ r0 := by
  refine wMi_intro (by decide) (Nat.le_of_ble_eq_true rfl) ?_
  intro p e s m args below meth c A C
  unfold fX0_isSlot at hf
  refine wr_sub [(0, .int a0)] [0] rfl ?_
  refine wr_iload_n 0 C dX0_isSlot_0 0 rfl rfl ?_
  refine wr_i2l 1 C dX0_isSlot_1 ?_
  refine wr_lconst 2 C dX0_isSlot_2 (v := 0) rfl ?_
  refine wr_ldc2 3 C dX0_isSlot_3 q1061 ?_
  obtain ⟨v3, μ2, h1, hf⟩ := o_bind hf
  refine wr_Si (kc1 := 0) (ks1 := 0) 6 [] C dX0_isSlot_6 (tX0_isIn l N   (Int32.toInt64 a0) 0 3 μ (v3, μ2) h1) okX0_isIn q446 ⟨rfl, rfl, Nat.le_of_ble_eq_true rfl, Nat.le_of_ble_eq_true rfl, Nat.zero_le _, Nat.zero_le _⟩ (Nat.le_of_ble_eq_true rfl) rfl ?_
  obtain ⟨g4, hf⟩ := o_g hf
  exact wr_zret 9 C dX0_isSlot_9 g4 ⟨Nat.zero_le _, Nat.zero_le _⟩ (Option.some.inj hf)
abbrev cX0_scene : ByteArray := prog_1_method_94_code
def yX0_scene : MethodName := ⟨RX0, "scene", "()I"⟩
def dkwX0_scene_1 : List UInt8 := [46, 96, 4, 96, 172]
abbrev dktX0_scene_1 : List UInt8 := dkwX0_scene_1 ++ []
def dkwX0_scene_0 : List UInt8 := [42, 180, 0, 179, 16, 7, 104, 42, 180, 0, 24, 3, 46, 96, 4, 96, 16, 7, 104, 42, 180, 0, 24, 4]
abbrev dktX0_scene_0 : List UInt8 := dkwX0_scene_0 ++ dktX0_scene_1
theorem dksX0_scene_0 : cX0_scene.data.toList.drop 0 = dktX0_scene_0 := by decide +kernel
theorem dksX0_scene_1 : cX0_scene.data.toList.drop 24 = dktX0_scene_1 := dk_seg dksX0_scene_0 24 rfl rfl
theorem dX0_scene_0 : decode cX0_scene 0 = .ok (.aload_n 0, 1) := dk_42 (dk_at dksX0_scene_0 0 rfl rfl)
theorem dX0_scene_1 : decode cX0_scene 1 = .ok (.getfield 179, 3) := dk_180 0 179 (dk_at dksX0_scene_0 1 rfl rfl)
theorem dX0_scene_4 : decode cX0_scene 4 = .ok (.bipush 7, 2) := dk_16 7 (dk_at dksX0_scene_0 4 rfl rfl)
theorem dX0_scene_6 : decode cX0_scene 6 = .ok (.imul, 1) := dk_104 (dk_at dksX0_scene_0 6 rfl rfl)
theorem dX0_scene_7 : decode cX0_scene 7 = .ok (.aload_n 0, 1) := dk_42 (dk_at dksX0_scene_0 7 rfl rfl)
theorem dX0_scene_8 : decode cX0_scene 8 = .ok (.getfield 24, 3) := dk_180 0 24 (dk_at dksX0_scene_0 8 rfl rfl)
theorem dX0_scene_11 : decode cX0_scene 11 = .ok (.iconst 0, 1) := dk_3 (dk_at dksX0_scene_0 11 rfl rfl)
theorem dX0_scene_12 : decode cX0_scene 12 = .ok (.iaload, 1) := dk_46 (dk_at dksX0_scene_0 12 rfl rfl)
theorem dX0_scene_13 : decode cX0_scene 13 = .ok (.iadd, 1) := dk_96 (dk_at dksX0_scene_0 13 rfl rfl)
theorem dX0_scene_14 : decode cX0_scene 14 = .ok (.iconst 1, 1) := dk_4 (dk_at dksX0_scene_0 14 rfl rfl)
theorem dX0_scene_15 : decode cX0_scene 15 = .ok (.iadd, 1) := dk_96 (dk_at dksX0_scene_0 15 rfl rfl)
theorem dX0_scene_16 : decode cX0_scene 16 = .ok (.bipush 7, 2) := dk_16 7 (dk_at dksX0_scene_0 16 rfl rfl)
theorem dX0_scene_18 : decode cX0_scene 18 = .ok (.imul, 1) := dk_104 (dk_at dksX0_scene_0 18 rfl rfl)
theorem dX0_scene_19 : decode cX0_scene 19 = .ok (.aload_n 0, 1) := dk_42 (dk_at dksX0_scene_0 19 rfl rfl)
theorem dX0_scene_20 : decode cX0_scene 20 = .ok (.getfield 24, 3) := dk_180 0 24 (dk_at dksX0_scene_0 20 rfl rfl)
theorem dX0_scene_23 : decode cX0_scene 23 = .ok (.iconst 1, 1) := dk_4 (dk_at dksX0_scene_0 23 rfl rfl)
theorem dX0_scene_24 : decode cX0_scene 24 = .ok (.iaload, 1) := dk_46 (dk_at dksX0_scene_1 0 rfl rfl)
theorem dX0_scene_25 : decode cX0_scene 25 = .ok (.iadd, 1) := dk_96 (dk_at dksX0_scene_1 1 rfl rfl)
theorem dX0_scene_26 : decode cX0_scene 26 = .ok (.iconst 1, 1) := dk_4 (dk_at dksX0_scene_1 2 rfl rfl)
theorem dX0_scene_27 : decode cX0_scene 27 = .ok (.iadd, 1) := dk_96 (dk_at dksX0_scene_1 3 rfl rfl)
theorem dX0_scene_28 : decode cX0_scene 28 = .ok (.ireturn, 1) := dk_172 (dk_at dksX0_scene_1 4 rfl rfl)

theorem okX0_scene : wOkV yX0_scene cX0_scene 1 (some .int) 0 := ⟨q1112, qs58, q136, q1113, by decide, by decide, by decide +kernel⟩
def fX0_scene (N : Nat)   (μ : wMem) : Option (Int32 × wMem) :=
  wG (ok_in (0 : Int32) 2) (wG (ok_in (1 : Int32) 2) (some (((((((μ.1 0 5) * (7 : Int32)) + (μ.1 9 (Int32.toNatClampNeg (0 : Int32)))) + (1 : Int32)) * (7 : Int32)) + (μ.1 9 (Int32.toNatClampNeg (1 : Int32)))) + (1 : Int32), μ)))
set_option maxHeartbeats 4000000 in
set_option maxRecDepth 100000 in
theorem tX0_scene (l : Launch) {D : va_G} {E : List wCell} {q : Nat → Nat} {ca : wCA} (N : Nat)    (μ : wMem) (r0 : (Int32 × wMem)) (hf : fX0_scene N   μ = some r0) : wMi l yX0_scene cX0_scene 1 (some .int) ({ frames := 0, cells := 0, slots := 0, locals := 0 } : Room) D vwCl (spX ++ E) q ca [.ref (q 0)] μ r0 := by
  refine wMi_intro (by decide) (Nat.le_of_ble_eq_true rfl) ?_
  intro p e s m args below meth c A C
  unfold fX0_scene at hf
  refine wr_sub [(0, .ref (q 0))] [0] rfl ?_
  refine wr_aload_n 0 C dX0_scene_0 0 rfl rfl ?_
  refine gespX_0_5_X0 1 C dX0_scene_1 ?_
  refine wr_bipush 4 C dX0_scene_4 (v := 7) rfl ?_
  refine wr_imul 6 C dX0_scene_6 ?_
  refine wr_aload_n 7 C dX0_scene_7 0 rfl rfl ?_
  refine gespX_0_8_X0 8 C dX0_scene_8 ?_
  refine wr_iconst 11 C dX0_scene_11 (v := 0) rfl ?_
  obtain ⟨g1, hf⟩ := o_g hf
  refine wr_iald 12 C dX0_scene_12 spX_9 g1 ?_
  refine wr_iadd 13 C dX0_scene_13 ?_
  refine wr_iconst 14 C dX0_scene_14 (v := 1) rfl ?_
  refine wr_iadd 15 C dX0_scene_15 ?_
  refine wr_bipush 16 C dX0_scene_16 (v := 7) rfl ?_
  refine wr_imul 18 C dX0_scene_18 ?_
  refine wr_aload_n 19 C dX0_scene_19 0 rfl rfl ?_
  refine gespX_0_8_X0 20 C dX0_scene_20 ?_
  refine wr_iconst 23 C dX0_scene_23 (v := 1) rfl ?_
  obtain ⟨g2, hf⟩ := o_g hf
  refine wr_iald 24 C dX0_scene_24 spX_9 g2 ?_
  refine wr_iadd 25 C dX0_scene_25 ?_
  refine wr_iconst 26 C dX0_scene_26 (v := 1) rfl ?_
  refine wr_iadd 27 C dX0_scene_27 ?_
  exact wr_iret 28 C dX0_scene_28 ⟨Nat.zero_le _, Nat.zero_le _⟩ (Option.some.inj hf)
