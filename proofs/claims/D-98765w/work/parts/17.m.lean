set_option maxRecDepth 100000
abbrev cX6_lied : ByteArray := prog_11_method_108_code
def yX6_lied : MethodName := ⟨RX6, "lied", "(I)I"⟩
def dkwX6_lied_0 : List UInt8 := [42, 27, 6, 182, 1, 154, 172]
abbrev dktX6_lied_0 : List UInt8 := dkwX6_lied_0 ++ []
theorem dksX6_lied_0 : cX6_lied.data.toList.drop 0 = dktX6_lied_0 := by decide +kernel
theorem dX6_lied_0 : decode cX6_lied 0 = .ok (.aload_n 0, 1) := dk_42 (dk_at dksX6_lied_0 0 rfl rfl)
theorem dX6_lied_1 : decode cX6_lied 1 = .ok (.iload_n 1, 1) := dk_27 (dk_at dksX6_lied_0 1 rfl rfl)
theorem dX6_lied_2 : decode cX6_lied 2 = .ok (.iconst 3, 1) := dk_6 (dk_at dksX6_lied_0 2 rfl rfl)
theorem dX6_lied_3 : decode cX6_lied 3 = .ok (.invokevirtual 410, 3) := dk_182 1 154 (dk_at dksX6_lied_0 3 rfl rfl)
theorem dX6_lied_6 : decode cX6_lied 6 = .ok (.ireturn, 1) := dk_172 (dk_at dksX6_lied_0 6 rfl rfl)

theorem okX6_lied : wOkV yX6_lied cX6_lied 2 (some .int) 1 := ⟨q1982, q1983, q145, q1984, by decide, by decide, by decide +kernel⟩
def fX6_lied (N : Nat)  (a1 : Int32) (μ : wMem) : Option (Int32 × wMem) :=
  wBind (fX6_judged N  a1 3 μ) fun v3 μ2 => some (v3, μ2)
set_option maxHeartbeats 4000000 in
set_option maxRecDepth 100000 in
theorem tX6_lied (l : Launch) {D : va_G} {E : List wCell} {q : Nat → Nat} {ca : wCA} (N : Nat)   (a1 : Int32) (μ : wMem) (r0 : (Int32 × wMem)) (hf : fX6_lied N  a1 μ = some r0) : wMi l yX6_lied cX6_lied 2 (some .int) ({ frames := 6, cells := 0, slots := 0, locals := 139 } : Room) D vwCl (spM ++ E) q ca [.ref (q 0), .int a1] μ r0 := by
  refine wMi_intro (by decide) (Nat.le_of_ble_eq_true rfl) ?_
  intro p e s m args below meth c A C
  unfold fX6_lied at hf
  refine wr_sub [(0, .ref (q 0)), (1, .int a1)] [0, 1] rfl ?_
  refine wr_aload_n 0 C dX6_lied_0 0 rfl rfl ?_
  refine wr_iload_n 1 C dX6_lied_1 1 rfl rfl ?_
  refine wr_iconst 2 C dX6_lied_2 (v := 3) rfl ?_
  obtain ⟨v3, μ2, h1, hf⟩ := o_bind hf
  refine wr_Vi (kc1 := 0) (ks1 := 0) 3 [] C dX6_lied_3 (tX6_judged l N   a1 3 μ (v3, μ2) h1) okX6_judged q1969 (b := 0) spM_0 rfl ⟨rfl, rfl, Nat.le_of_ble_eq_true rfl, Nat.le_of_ble_eq_true rfl, Nat.zero_le _, Nat.zero_le _⟩ (Nat.le_of_ble_eq_true rfl) rfl ?_
  exact wr_iret 6 C dX6_lied_6 ⟨Nat.zero_le _, Nat.zero_le _⟩ (Option.some.inj hf)
abbrev cX6_whyNoStamps : ByteArray := prog_11_method_109_code
def yX6_whyNoStamps : MethodName := ⟨RX6, "whyNoStamps", "(I)I"⟩
def dkwX6_whyNoStamps_4 : List UInt8 := [133, 148, 155, 0, 6, 16, 254, 172, 132, 2, 1, 167, 255, 196, 3, 172]
abbrev dktX6_whyNoStamps_4 : List UInt8 := dkwX6_whyNoStamps_4 ++ []
def dkwX6_whyNoStamps_3 : List UInt8 := [153, 0, 29, 33, 20, 1, 16, 113, 10, 148, 157, 0, 19, 33, 20, 1, 16, 109, 42, 180, 0, 34, 6, 46]
abbrev dktX6_whyNoStamps_3 : List UInt8 := dkwX6_whyNoStamps_3 ++ dktX6_whyNoStamps_4
def dkwX6_whyNoStamps_2 : List UInt8 := [180, 0, 13, 27, 46, 162, 0, 56, 42, 27, 28, 182, 1, 144, 66, 33, 9, 20, 1, 157, 184, 0, 93]
abbrev dktX6_whyNoStamps_2 : List UInt8 := dkwX6_whyNoStamps_2 ++ dktX6_whyNoStamps_3
def dkwX6_whyNoStamps_1 : List UInt8 := [160, 0, 6, 16, 250, 172, 42, 180, 0, 13, 27, 46, 16, 12, 164, 0, 6, 16, 254, 172, 3, 61, 28, 42]
abbrev dktX6_whyNoStamps_1 : List UInt8 := dkwX6_whyNoStamps_1 ++ dktX6_whyNoStamps_2
def dkwX6_whyNoStamps_0 : List UInt8 := [27, 184, 0, 97, 153, 0, 10, 42, 182, 1, 67, 154, 0, 6, 16, 254, 172, 42, 180, 0, 7, 27, 46, 2]
abbrev dktX6_whyNoStamps_0 : List UInt8 := dkwX6_whyNoStamps_0 ++ dktX6_whyNoStamps_1
theorem dksX6_whyNoStamps_0 : cX6_whyNoStamps.data.toList.drop 0 = dktX6_whyNoStamps_0 := by decide +kernel
theorem dksX6_whyNoStamps_1 : cX6_whyNoStamps.data.toList.drop 24 = dktX6_whyNoStamps_1 := dk_seg dksX6_whyNoStamps_0 24 rfl rfl
theorem dksX6_whyNoStamps_2 : cX6_whyNoStamps.data.toList.drop 48 = dktX6_whyNoStamps_2 := dk_seg dksX6_whyNoStamps_1 24 rfl rfl
theorem dksX6_whyNoStamps_3 : cX6_whyNoStamps.data.toList.drop 71 = dktX6_whyNoStamps_3 := dk_seg dksX6_whyNoStamps_2 23 rfl rfl
theorem dksX6_whyNoStamps_4 : cX6_whyNoStamps.data.toList.drop 95 = dktX6_whyNoStamps_4 := dk_seg dksX6_whyNoStamps_3 24 rfl rfl
theorem dX6_whyNoStamps_0 : decode cX6_whyNoStamps 0 = .ok (.iload_n 1, 1) := dk_27 (dk_at dksX6_whyNoStamps_0 0 rfl rfl)
theorem dX6_whyNoStamps_1 : decode cX6_whyNoStamps 1 = .ok (.invokestatic 97, 3) := dk_184 0 97 (dk_at dksX6_whyNoStamps_0 1 rfl rfl)
theorem dX6_whyNoStamps_4 : decode cX6_whyNoStamps 4 = .ok (.ifCond .eq 10, 3) := dk_153 0 10 (dk_at dksX6_whyNoStamps_0 4 rfl rfl)
theorem dX6_whyNoStamps_7 : decode cX6_whyNoStamps 7 = .ok (.aload_n 0, 1) := dk_42 (dk_at dksX6_whyNoStamps_0 7 rfl rfl)
theorem dX6_whyNoStamps_8 : decode cX6_whyNoStamps 8 = .ok (.invokevirtual 323, 3) := dk_182 1 67 (dk_at dksX6_whyNoStamps_0 8 rfl rfl)
theorem dX6_whyNoStamps_11 : decode cX6_whyNoStamps 11 = .ok (.ifCond .ne 6, 3) := dk_154 0 6 (dk_at dksX6_whyNoStamps_0 11 rfl rfl)
theorem dX6_whyNoStamps_14 : decode cX6_whyNoStamps 14 = .ok (.bipush (-2), 2) := dk_16 254 (dk_at dksX6_whyNoStamps_0 14 rfl rfl)
theorem dX6_whyNoStamps_16 : decode cX6_whyNoStamps 16 = .ok (.ireturn, 1) := dk_172 (dk_at dksX6_whyNoStamps_0 16 rfl rfl)
theorem dX6_whyNoStamps_17 : decode cX6_whyNoStamps 17 = .ok (.aload_n 0, 1) := dk_42 (dk_at dksX6_whyNoStamps_0 17 rfl rfl)
theorem dX6_whyNoStamps_18 : decode cX6_whyNoStamps 18 = .ok (.getfield 7, 3) := dk_180 0 7 (dk_at dksX6_whyNoStamps_0 18 rfl rfl)
theorem dX6_whyNoStamps_21 : decode cX6_whyNoStamps 21 = .ok (.iload_n 1, 1) := dk_27 (dk_at dksX6_whyNoStamps_0 21 rfl rfl)
theorem dX6_whyNoStamps_22 : decode cX6_whyNoStamps 22 = .ok (.iaload, 1) := dk_46 (dk_at dksX6_whyNoStamps_0 22 rfl rfl)
theorem dX6_whyNoStamps_23 : decode cX6_whyNoStamps 23 = .ok (.iconst (-1), 1) := dk_2 (dk_at dksX6_whyNoStamps_0 23 rfl rfl)
theorem dX6_whyNoStamps_24 : decode cX6_whyNoStamps 24 = .ok (.if_icmp .ne 6, 3) := dk_160 0 6 (dk_at dksX6_whyNoStamps_1 0 rfl rfl)
theorem dX6_whyNoStamps_27 : decode cX6_whyNoStamps 27 = .ok (.bipush (-6), 2) := dk_16 250 (dk_at dksX6_whyNoStamps_1 3 rfl rfl)
theorem dX6_whyNoStamps_29 : decode cX6_whyNoStamps 29 = .ok (.ireturn, 1) := dk_172 (dk_at dksX6_whyNoStamps_1 5 rfl rfl)
theorem dX6_whyNoStamps_30 : decode cX6_whyNoStamps 30 = .ok (.aload_n 0, 1) := dk_42 (dk_at dksX6_whyNoStamps_1 6 rfl rfl)
theorem dX6_whyNoStamps_31 : decode cX6_whyNoStamps 31 = .ok (.getfield 13, 3) := dk_180 0 13 (dk_at dksX6_whyNoStamps_1 7 rfl rfl)
theorem dX6_whyNoStamps_34 : decode cX6_whyNoStamps 34 = .ok (.iload_n 1, 1) := dk_27 (dk_at dksX6_whyNoStamps_1 10 rfl rfl)
theorem dX6_whyNoStamps_35 : decode cX6_whyNoStamps 35 = .ok (.iaload, 1) := dk_46 (dk_at dksX6_whyNoStamps_1 11 rfl rfl)
theorem dX6_whyNoStamps_36 : decode cX6_whyNoStamps 36 = .ok (.bipush 12, 2) := dk_16 12 (dk_at dksX6_whyNoStamps_1 12 rfl rfl)
theorem dX6_whyNoStamps_38 : decode cX6_whyNoStamps 38 = .ok (.if_icmp .le 6, 3) := dk_164 0 6 (dk_at dksX6_whyNoStamps_1 14 rfl rfl)
theorem dX6_whyNoStamps_41 : decode cX6_whyNoStamps 41 = .ok (.bipush (-2), 2) := dk_16 254 (dk_at dksX6_whyNoStamps_1 17 rfl rfl)
theorem dX6_whyNoStamps_43 : decode cX6_whyNoStamps 43 = .ok (.ireturn, 1) := dk_172 (dk_at dksX6_whyNoStamps_1 19 rfl rfl)
theorem dX6_whyNoStamps_44 : decode cX6_whyNoStamps 44 = .ok (.iconst 0, 1) := dk_3 (dk_at dksX6_whyNoStamps_1 20 rfl rfl)
theorem dX6_whyNoStamps_45 : decode cX6_whyNoStamps 45 = .ok (.istore_n 2, 1) := dk_61 (dk_at dksX6_whyNoStamps_1 21 rfl rfl)
theorem dX6_whyNoStamps_46 : decode cX6_whyNoStamps 46 = .ok (.iload_n 2, 1) := dk_28 (dk_at dksX6_whyNoStamps_1 22 rfl rfl)
theorem dX6_whyNoStamps_47 : decode cX6_whyNoStamps 47 = .ok (.aload_n 0, 1) := dk_42 (dk_at dksX6_whyNoStamps_1 23 rfl rfl)
theorem dX6_whyNoStamps_48 : decode cX6_whyNoStamps 48 = .ok (.getfield 13, 3) := dk_180 0 13 (dk_at dksX6_whyNoStamps_2 0 rfl rfl)
theorem dX6_whyNoStamps_51 : decode cX6_whyNoStamps 51 = .ok (.iload_n 1, 1) := dk_27 (dk_at dksX6_whyNoStamps_2 3 rfl rfl)
theorem dX6_whyNoStamps_52 : decode cX6_whyNoStamps 52 = .ok (.iaload, 1) := dk_46 (dk_at dksX6_whyNoStamps_2 4 rfl rfl)
theorem dX6_whyNoStamps_53 : decode cX6_whyNoStamps 53 = .ok (.if_icmp .ge 56, 3) := dk_162 0 56 (dk_at dksX6_whyNoStamps_2 5 rfl rfl)
theorem dX6_whyNoStamps_56 : decode cX6_whyNoStamps 56 = .ok (.aload_n 0, 1) := dk_42 (dk_at dksX6_whyNoStamps_2 8 rfl rfl)
theorem dX6_whyNoStamps_57 : decode cX6_whyNoStamps 57 = .ok (.iload_n 1, 1) := dk_27 (dk_at dksX6_whyNoStamps_2 9 rfl rfl)
theorem dX6_whyNoStamps_58 : decode cX6_whyNoStamps 58 = .ok (.iload_n 2, 1) := dk_28 (dk_at dksX6_whyNoStamps_2 10 rfl rfl)
theorem dX6_whyNoStamps_59 : decode cX6_whyNoStamps 59 = .ok (.invokevirtual 400, 3) := dk_182 1 144 (dk_at dksX6_whyNoStamps_2 11 rfl rfl)
theorem dX6_whyNoStamps_62 : decode cX6_whyNoStamps 62 = .ok (.lstore_n 3, 1) := dk_66 (dk_at dksX6_whyNoStamps_2 14 rfl rfl)
theorem dX6_whyNoStamps_63 : decode cX6_whyNoStamps 63 = .ok (.lload_n 3, 1) := dk_33 (dk_at dksX6_whyNoStamps_2 15 rfl rfl)
theorem dX6_whyNoStamps_64 : decode cX6_whyNoStamps 64 = .ok (.lconst 0, 1) := dk_9 (dk_at dksX6_whyNoStamps_2 16 rfl rfl)
theorem dX6_whyNoStamps_65 : decode cX6_whyNoStamps 65 = .ok (.ldc2_w 413, 3) := dk_20 1 157 (dk_at dksX6_whyNoStamps_2 17 rfl rfl)
theorem dX6_whyNoStamps_68 : decode cX6_whyNoStamps 68 = .ok (.invokestatic 93, 3) := dk_184 0 93 (dk_at dksX6_whyNoStamps_2 20 rfl rfl)
theorem dX6_whyNoStamps_71 : decode cX6_whyNoStamps 71 = .ok (.ifCond .eq 29, 3) := dk_153 0 29 (dk_at dksX6_whyNoStamps_3 0 rfl rfl)
theorem dX6_whyNoStamps_74 : decode cX6_whyNoStamps 74 = .ok (.lload_n 3, 1) := dk_33 (dk_at dksX6_whyNoStamps_3 3 rfl rfl)
theorem dX6_whyNoStamps_75 : decode cX6_whyNoStamps 75 = .ok (.ldc2_w 272, 3) := dk_20 1 16 (dk_at dksX6_whyNoStamps_3 4 rfl rfl)
theorem dX6_whyNoStamps_78 : decode cX6_whyNoStamps 78 = .ok (.lrem, 1) := dk_113 (dk_at dksX6_whyNoStamps_3 7 rfl rfl)
theorem dX6_whyNoStamps_79 : decode cX6_whyNoStamps 79 = .ok (.lconst 1, 1) := dk_10 (dk_at dksX6_whyNoStamps_3 8 rfl rfl)
theorem dX6_whyNoStamps_80 : decode cX6_whyNoStamps 80 = .ok (.lcmp, 1) := dk_148 (dk_at dksX6_whyNoStamps_3 9 rfl rfl)
theorem dX6_whyNoStamps_81 : decode cX6_whyNoStamps 81 = .ok (.ifCond .gt 19, 3) := dk_157 0 19 (dk_at dksX6_whyNoStamps_3 10 rfl rfl)
theorem dX6_whyNoStamps_84 : decode cX6_whyNoStamps 84 = .ok (.lload_n 3, 1) := dk_33 (dk_at dksX6_whyNoStamps_3 13 rfl rfl)
theorem dX6_whyNoStamps_85 : decode cX6_whyNoStamps 85 = .ok (.ldc2_w 272, 3) := dk_20 1 16 (dk_at dksX6_whyNoStamps_3 14 rfl rfl)
theorem dX6_whyNoStamps_88 : decode cX6_whyNoStamps 88 = .ok (.ldiv, 1) := dk_109 (dk_at dksX6_whyNoStamps_3 17 rfl rfl)
theorem dX6_whyNoStamps_89 : decode cX6_whyNoStamps 89 = .ok (.aload_n 0, 1) := dk_42 (dk_at dksX6_whyNoStamps_3 18 rfl rfl)
theorem dX6_whyNoStamps_90 : decode cX6_whyNoStamps 90 = .ok (.getfield 34, 3) := dk_180 0 34 (dk_at dksX6_whyNoStamps_3 19 rfl rfl)
theorem dX6_whyNoStamps_93 : decode cX6_whyNoStamps 93 = .ok (.iconst 3, 1) := dk_6 (dk_at dksX6_whyNoStamps_3 22 rfl rfl)
theorem dX6_whyNoStamps_94 : decode cX6_whyNoStamps 94 = .ok (.iaload, 1) := dk_46 (dk_at dksX6_whyNoStamps_3 23 rfl rfl)
theorem dX6_whyNoStamps_95 : decode cX6_whyNoStamps 95 = .ok (.i2l, 1) := dk_133 (dk_at dksX6_whyNoStamps_4 0 rfl rfl)
theorem dX6_whyNoStamps_96 : decode cX6_whyNoStamps 96 = .ok (.lcmp, 1) := dk_148 (dk_at dksX6_whyNoStamps_4 1 rfl rfl)
theorem dX6_whyNoStamps_97 : decode cX6_whyNoStamps 97 = .ok (.ifCond .lt 6, 3) := dk_155 0 6 (dk_at dksX6_whyNoStamps_4 2 rfl rfl)
theorem dX6_whyNoStamps_100 : decode cX6_whyNoStamps 100 = .ok (.bipush (-2), 2) := dk_16 254 (dk_at dksX6_whyNoStamps_4 5 rfl rfl)
theorem dX6_whyNoStamps_102 : decode cX6_whyNoStamps 102 = .ok (.ireturn, 1) := dk_172 (dk_at dksX6_whyNoStamps_4 7 rfl rfl)
theorem dX6_whyNoStamps_103 : decode cX6_whyNoStamps 103 = .ok (.iinc 2 1, 3) := dk_132 2 1 (dk_at dksX6_whyNoStamps_4 8 rfl rfl)
theorem dX6_whyNoStamps_106 : decode cX6_whyNoStamps 106 = .ok (.goto (-60), 3) := dk_167 255 196 (dk_at dksX6_whyNoStamps_4 11 rfl rfl)
theorem dX6_whyNoStamps_109 : decode cX6_whyNoStamps 109 = .ok (.iconst 0, 1) := dk_3 (dk_at dksX6_whyNoStamps_4 14 rfl rfl)
theorem dX6_whyNoStamps_110 : decode cX6_whyNoStamps 110 = .ok (.ireturn, 1) := dk_172 (dk_at dksX6_whyNoStamps_4 15 rfl rfl)

theorem okX6_whyNoStamps : wOkV yX6_whyNoStamps cX6_whyNoStamps 5 (some .int) 1 := ⟨q1991, qs125, q145, q1992, by decide, by decide, by decide +kernel⟩
def gbX6_whyNoStamps_46 (N : Nat)  (x1_ : Int32) (K : (wMem → Option (Int32 × wMem))) (rec : (Int32 → wMem → Option (Int32 × wMem))) (x2_ : Int32) (μ : wMem) : Option (Int32 × wMem) :=
  wG (ok_in x1_ 4) (if (μ.1 2 (Int32.toNatClampNeg x1_)) ≤ x2_ then K  μ else wBind (fX6_cellOf N  x1_ x2_ μ) fun v18 μ17 => wBind (fX6_in N  v18 0 11 μ17) fun v21 μ20 => wLet (fun  (μ22 : wMem) => some ((-2), μ22)) fun JwhyNoStamps100 => if v21 = 0 then JwhyNoStamps100  μ20 else if (1 : Int64) < (v18 - v18 / (10 : Int64) * (10 : Int64)) then JwhyNoStamps100  μ20 else wG (ok_in (3 : Int32) 35) (if (v18 / (10 : Int64)) < (Int32.toInt64 (μ20.1 7 (Int32.toNatClampNeg (3 : Int32)))) then wLet (x2_ + 1 : Int32) fun x27 => rec x27 μ20 else JwhyNoStamps100  μ20))
def gX6_whyNoStamps_46 (N : Nat)  (x1_ : Int32) (K : (wMem → Option (Int32 × wMem))) : Nat → (Int32 → wMem → Option (Int32 × wMem))
  | 0 => fun _ _ => none
  | k + 1 => gbX6_whyNoStamps_46 N  x1_ K (gX6_whyNoStamps_46 N  x1_ K k)
set_option maxHeartbeats 4000000 in
set_option maxRecDepth 100000 in
theorem tX6_whyNoStamps_46 {p : Program} {l : Launch} {e : Env} {s : State} {m : MethodId} {args : Array Value} {below : List Frame} {meth : Method} {c : Code} {D : va_G} {E : List wCell} {q : Nat → Nat} {ca : wCA} {A : Nat → Prop} (C : wC p ({ frames := 2, cells := 0, slots := 0, locals := 45 } : Room) s m args meth c cX6_whyNoStamps yX6_whyNoStamps.cls 5 (some .int) D vwCl (spM ++ E) q ca A) (N : Nat)   (x1_ : Int32) (K : (wMem → Option (Int32 × wMem))) (r0 : (Int32 × wMem)) (hK : ∀  (μ : wMem), K  μ = some r0 → wJ p l e ({ frames := 2, cells := 0, slots := 0, locals := 45 } : Room) s m args below meth c 5 D vwCl (spM ++ E) q ca A (wQi ({ frames := 2, cells := 0, slots := 0, locals := 45 } : Room) D vwCl (spM ++ E) q ca below args s A r0) 0 0 μ 109 [] []) : ∀ (k : Nat) (x2_ : Int32) (μ : wMem), gX6_whyNoStamps_46 N  x1_ K k x2_ μ = some r0 → wJ p l e ({ frames := 2, cells := 0, slots := 0, locals := 45 } : Room) s m args below meth c 5 D vwCl (spM ++ E) q ca A (wQi ({ frames := 2, cells := 0, slots := 0, locals := 45 } : Room) D vwCl (spM ++ E) q ca below args s A r0) 0 0 μ 46 [(0, .ref (q 0)), (1, .int x1_), (2, .int x2_)] [] := by
  intro k
  induction k with
  | zero =>
    intro x2_ μ hf
    cases hf
  | succ k ih =>
    intro x2_ μ hf
    replace hf : gbX6_whyNoStamps_46 N  x1_ K (gX6_whyNoStamps_46 N  x1_ K k) x2_ μ = some r0 := hf
    unfold gbX6_whyNoStamps_46 at hf
    refine wr_iload_n 46 C dX6_whyNoStamps_46 2 rfl rfl ?_
    refine wr_aload_n 47 C dX6_whyNoStamps_47 0 rfl rfl ?_
    refine gespM_0_2_X6 48 C dX6_whyNoStamps_48 ?_
    refine wr_iload_n 51 C dX6_whyNoStamps_51 1 rfl rfl ?_
    obtain ⟨g14, hf⟩ := o_g hf
    refine wr_iald 52 C dX6_whyNoStamps_52 spM_2 g14 ?_
    refine wr_icmp_ge 53 109 C dX6_whyNoStamps_53 (by decide) (fun c15 => ?_) (fun c15 => ?_)
    · replace hf := o_pos c15 hf
      refine wr_sub [] [] rfl ?_
      exact hK  μ hf
    · replace hf := o_neg c15 hf
      refine wr_aload_n 56 C dX6_whyNoStamps_56 0 rfl rfl ?_
      refine wr_iload_n 57 C dX6_whyNoStamps_57 1 rfl rfl ?_
      refine wr_iload_n 58 C dX6_whyNoStamps_58 2 rfl rfl ?_
      obtain ⟨v18, μ17, h16, hf⟩ := o_bind hf
      refine wr_Vl (kc1 := 0) (ks1 := 0) 59 [] C dX6_whyNoStamps_59 (tX6_cellOf l N   x1_ x2_ μ (v18, μ17) h16) okX6_cellOf q1957 (b := 0) spM_0 rfl ⟨rfl, rfl, Nat.le_of_ble_eq_true rfl, Nat.le_of_ble_eq_true rfl, Nat.zero_le _, Nat.zero_le _⟩ (Nat.le_of_ble_eq_true rfl) rfl ?_
      refine wr_lstore_n 62 [(3, .long v18), (0, .ref (q 0)), (1, .int x1_), (2, .int x2_)] C dX6_whyNoStamps_62 rfl rfl (Nat.le_of_ble_eq_true rfl) rfl ?_
      refine wr_lload_n 63 C dX6_whyNoStamps_63 0 rfl rfl ?_
      refine wr_lconst 64 C dX6_whyNoStamps_64 (v := 0) rfl ?_
      refine wr_ldc2 65 C dX6_whyNoStamps_65 q1993 ?_
      obtain ⟨v21, μ20, h19, hf⟩ := o_bind hf
      refine wr_Si (kc1 := 0) (ks1 := 0) 68 [] C dX6_whyNoStamps_68 (tX6_in l N   v18 0 11 μ17 (v21, μ20) h19) okX6_in q1552 ⟨rfl, rfl, Nat.le_of_ble_eq_true rfl, Nat.le_of_ble_eq_true rfl, Nat.zero_le _, Nat.zero_le _⟩ (Nat.le_of_ble_eq_true rfl) rfl ?_
      obtain ⟨JwhyNoStamps100, eJwhyNoStamps100, hf⟩ := o_let hf
      have hJwhyNoStamps100 : ∀  (μ22 : wMem), JwhyNoStamps100  μ22 = some r0 → wJ p l e ({ frames := 2, cells := 0, slots := 0, locals := 45 } : Room) s m args below meth c 5 D vwCl (spM ++ E) q ca A (wQi ({ frames := 2, cells := 0, slots := 0, locals := 45 } : Room) D vwCl (spM ++ E) q ca below args s A r0) 0 0 μ22 100 [] [] := by
        intro  μ22 hf
        rw [eJwhyNoStamps100] at hf
        refine wr_bipush 100 C dX6_whyNoStamps_100 (v := (-2)) rfl ?_
        exact wr_iret 102 C dX6_whyNoStamps_102 ⟨Nat.zero_le _, Nat.zero_le _⟩ (Option.some.inj hf)
      refine wr_if_eq 71 100 C dX6_whyNoStamps_71 (by decide) (fun c23 => ?_) (fun c23 => ?_)
      · replace hf := o_pos c23 hf
        refine wr_sub [] [] rfl ?_
        exact hJwhyNoStamps100  μ20 hf
      · replace hf := o_neg c23 hf
        refine wr_lload_n 74 C dX6_whyNoStamps_74 0 rfl rfl ?_
        refine wr_ldc2 75 C dX6_whyNoStamps_75 q1824 ?_
        refine wr_lrem 78 C dX6_whyNoStamps_78 (by decide) ?_
        refine wr_lconst 79 C dX6_whyNoStamps_79 (v := 1) rfl ?_
        refine wr_lcmp_gt 80 100 C dX6_whyNoStamps_80 dX6_whyNoStamps_81 (by decide) (fun c24 => ?_) (fun c24 => ?_)
        · replace hf := o_pos c24 hf
          refine wr_sub [] [] rfl ?_
          exact hJwhyNoStamps100  μ20 hf
        · replace hf := o_neg c24 hf
          refine wr_lload_n 84 C dX6_whyNoStamps_84 0 rfl rfl ?_
          refine wr_ldc2 85 C dX6_whyNoStamps_85 q1824 ?_
          refine wr_ldiv 88 C dX6_whyNoStamps_88 (by decide) ?_
          refine wr_aload_n 89 C dX6_whyNoStamps_89 1 rfl rfl ?_
          refine gespM_0_17_X6 90 C dX6_whyNoStamps_90 ?_
          refine wr_iconst 93 C dX6_whyNoStamps_93 (v := 3) rfl ?_
          obtain ⟨g25, hf⟩ := o_g hf
          refine wr_iald 94 C dX6_whyNoStamps_94 spM_7 g25 ?_
          refine wr_i2l 95 C dX6_whyNoStamps_95 ?_
          refine wr_lcmp_lt 96 103 C dX6_whyNoStamps_96 dX6_whyNoStamps_97 (by decide) (fun c26 => ?_) (fun c26 => ?_)
          · replace hf := o_pos c26 hf
            obtain ⟨x27, ex27, hf⟩ := o_let hf
            refine wr_iinc 103 [(2, .int x27), (3, .long v18), (0, .ref (q 0)), (1, .int x1_)] C dX6_whyNoStamps_103 3 rfl (ex27.trans rfl) (Nat.le_of_ble_eq_true rfl) rfl ?_
            refine wr_goto 106 C dX6_whyNoStamps_106 (tgt := 46) (by decide) ?_
            refine wr_sub [(0, .ref (q 0)), (1, .int x1_), (2, .int x27)] [2, 3, 0] rfl ?_
            exact ih x27 μ20 hf
          · replace hf := o_neg c26 hf
            refine wr_sub [] [] rfl ?_
            exact hJwhyNoStamps100  μ20 hf
def fX6_whyNoStamps (N : Nat)  (a1 : Int32) (μ : wMem) : Option (Int32 × wMem) :=
  wBind (fX6_isSlot N  a1 μ) fun v3 μ2 => wLet (fun  (μ4 : wMem) => some ((-2), μ4)) fun JwhyNoStamps14 => if v3 = 0 then JwhyNoStamps14  μ2 else wBind (fX6_isFamily N   μ2) fun v8 μ7 => if v8 = 0 then JwhyNoStamps14  μ7 else wG (ok_in a1 4) (if (μ7.1 1 (Int32.toNatClampNeg a1)) = (-1 : Int32) then some ((-6), μ7) else wG (ok_in a1 4) (if (μ7.1 2 (Int32.toNatClampNeg a1)) ≤ (12 : Int32) then gX6_whyNoStamps_46 N  a1 (fun  (μ28 : wMem) => some (0, μ28)) N 0 μ7 else some ((-2), μ7)))
set_option maxHeartbeats 4000000 in
set_option maxRecDepth 100000 in
theorem tX6_whyNoStamps (l : Launch) {D : va_G} {E : List wCell} {q : Nat → Nat} {ca : wCA} (N : Nat)   (a1 : Int32) (μ : wMem) (r0 : (Int32 × wMem)) (hf : fX6_whyNoStamps N  a1 μ = some r0) : wMi l yX6_whyNoStamps cX6_whyNoStamps 5 (some .int) ({ frames := 2, cells := 0, slots := 0, locals := 45 } : Room) D vwCl (spM ++ E) q ca [.ref (q 0), .int a1] μ r0 := by
  refine wMi_intro (by decide) (Nat.le_of_ble_eq_true rfl) ?_
  intro p e s m args below meth c A C
  unfold fX6_whyNoStamps at hf
  refine wr_sub [(0, .ref (q 0)), (1, .int a1)] [0, 1] rfl ?_
  refine wr_iload_n 0 C dX6_whyNoStamps_0 1 rfl rfl ?_
  obtain ⟨v3, μ2, h1, hf⟩ := o_bind hf
  refine wr_Si (kc1 := 0) (ks1 := 0) 1 [] C dX6_whyNoStamps_1 (tX6_isSlot l N   a1 μ (v3, μ2) h1) okX6_isSlot q1548 ⟨rfl, rfl, Nat.le_of_ble_eq_true rfl, Nat.le_of_ble_eq_true rfl, Nat.zero_le _, Nat.zero_le _⟩ (Nat.le_of_ble_eq_true rfl) rfl ?_
  obtain ⟨JwhyNoStamps14, eJwhyNoStamps14, hf⟩ := o_let hf
  have hJwhyNoStamps14 : ∀  (μ4 : wMem), JwhyNoStamps14  μ4 = some r0 → wJ p l e ({ frames := 2, cells := 0, slots := 0, locals := 45 } : Room) s m args below meth c 5 D vwCl (spM ++ E) q ca A (wQi ({ frames := 2, cells := 0, slots := 0, locals := 45 } : Room) D vwCl (spM ++ E) q ca below args s A r0) 0 0 μ4 14 [] [] := by
    intro  μ4 hf
    rw [eJwhyNoStamps14] at hf
    refine wr_bipush 14 C dX6_whyNoStamps_14 (v := (-2)) rfl ?_
    exact wr_iret 16 C dX6_whyNoStamps_16 ⟨Nat.zero_le _, Nat.zero_le _⟩ (Option.some.inj hf)
  refine wr_if_eq 4 14 C dX6_whyNoStamps_4 (by decide) (fun c5 => ?_) (fun c5 => ?_)
  · replace hf := o_pos c5 hf
    refine wr_sub [] [] rfl ?_
    exact hJwhyNoStamps14  μ2 hf
  · replace hf := o_neg c5 hf
    refine wr_aload_n 7 C dX6_whyNoStamps_7 0 rfl rfl ?_
    obtain ⟨v8, μ7, h6, hf⟩ := o_bind hf
    refine wr_Vi (kc1 := 0) (ks1 := 0) 8 [] C dX6_whyNoStamps_8 (tX6_isFamily l N    μ2 (v8, μ7) h6) okX6_isFamily q1750 (b := 0) spM_0 rfl ⟨rfl, rfl, Nat.le_of_ble_eq_true rfl, Nat.le_of_ble_eq_true rfl, Nat.zero_le _, Nat.zero_le _⟩ (Nat.le_of_ble_eq_true rfl) rfl ?_
    refine wr_if_ne 11 17 C dX6_whyNoStamps_11 (by decide) (fun c9 => ?_) (fun c9 => ?_)
    · replace hf := o_neg c9 hf
      refine wr_aload_n 17 C dX6_whyNoStamps_17 0 rfl rfl ?_
      refine gespM_0_1_X6 18 C dX6_whyNoStamps_18 ?_
      refine wr_iload_n 21 C dX6_whyNoStamps_21 1 rfl rfl ?_
      obtain ⟨g10, hf⟩ := o_g hf
      refine wr_iald 22 C dX6_whyNoStamps_22 spM_1 g10 ?_
      refine wr_iconst 23 C dX6_whyNoStamps_23 (v := (-1)) rfl ?_
      refine wr_icmp_ne 24 30 C dX6_whyNoStamps_24 (by decide) (fun c11 => ?_) (fun c11 => ?_)
      · replace hf := o_neg c11 hf
        refine wr_aload_n 30 C dX6_whyNoStamps_30 0 rfl rfl ?_
        refine gespM_0_2_X6 31 C dX6_whyNoStamps_31 ?_
        refine wr_iload_n 34 C dX6_whyNoStamps_34 1 rfl rfl ?_
        obtain ⟨g12, hf⟩ := o_g hf
        refine wr_iald 35 C dX6_whyNoStamps_35 spM_2 g12 ?_
        refine wr_bipush 36 C dX6_whyNoStamps_36 (v := 12) rfl ?_
        refine wr_icmp_le 38 44 C dX6_whyNoStamps_38 (by decide) (fun c13 => ?_) (fun c13 => ?_)
        · replace hf := o_pos c13 hf
          refine wr_iconst 44 C dX6_whyNoStamps_44 (v := 0) rfl ?_
          refine wr_istore_n 45 [(2, .int 0), (0, .ref (q 0)), (1, .int a1)] C dX6_whyNoStamps_45 rfl rfl (Nat.le_of_ble_eq_true rfl) rfl ?_
          refine wr_sub [(0, .ref (q 0)), (1, .int a1), (2, .int 0)] [1, 2, 0] rfl ?_
          refine tX6_whyNoStamps_46 C N   a1 _ r0 (fun  μ28 hf => ?_) N 0 μ7 hf
          · replace hf := hf
            refine wr_iconst 109 C dX6_whyNoStamps_109 (v := 0) rfl ?_
            exact wr_iret 110 C dX6_whyNoStamps_110 ⟨Nat.zero_le _, Nat.zero_le _⟩ (Option.some.inj hf)
        · replace hf := o_neg c13 hf
          refine wr_bipush 41 C dX6_whyNoStamps_41 (v := (-2)) rfl ?_
          exact wr_iret 43 C dX6_whyNoStamps_43 ⟨Nat.zero_le _, Nat.zero_le _⟩ (Option.some.inj hf)
      · replace hf := o_pos c11 hf
        refine wr_bipush 27 C dX6_whyNoStamps_27 (v := (-6)) rfl ?_
        exact wr_iret 29 C dX6_whyNoStamps_29 ⟨Nat.zero_le _, Nat.zero_le _⟩ (Option.some.inj hf)
    · replace hf := o_pos c9 hf
      refine wr_sub [] [] rfl ?_
      exact hJwhyNoStamps14  μ7 hf
abbrev cX6_kindOf : ByteArray := prog_11_method_111_code
def yX6_kindOf : MethodName := ⟨RX6, "kindOf", "()I"⟩
def dkwX6_kindOf_0 : List UInt8 := [42, 180, 0, 238, 16, 49, 104, 42, 180, 0, 244, 16, 7, 104, 96, 42, 180, 0, 247, 96, 172]
abbrev dktX6_kindOf_0 : List UInt8 := dkwX6_kindOf_0 ++ []
theorem dksX6_kindOf_0 : cX6_kindOf.data.toList.drop 0 = dktX6_kindOf_0 := by decide +kernel
theorem dX6_kindOf_0 : decode cX6_kindOf 0 = .ok (.aload_n 0, 1) := dk_42 (dk_at dksX6_kindOf_0 0 rfl rfl)
theorem dX6_kindOf_1 : decode cX6_kindOf 1 = .ok (.getfield 238, 3) := dk_180 0 238 (dk_at dksX6_kindOf_0 1 rfl rfl)
theorem dX6_kindOf_4 : decode cX6_kindOf 4 = .ok (.bipush 49, 2) := dk_16 49 (dk_at dksX6_kindOf_0 4 rfl rfl)
theorem dX6_kindOf_6 : decode cX6_kindOf 6 = .ok (.imul, 1) := dk_104 (dk_at dksX6_kindOf_0 6 rfl rfl)
theorem dX6_kindOf_7 : decode cX6_kindOf 7 = .ok (.aload_n 0, 1) := dk_42 (dk_at dksX6_kindOf_0 7 rfl rfl)
theorem dX6_kindOf_8 : decode cX6_kindOf 8 = .ok (.getfield 244, 3) := dk_180 0 244 (dk_at dksX6_kindOf_0 8 rfl rfl)
theorem dX6_kindOf_11 : decode cX6_kindOf 11 = .ok (.bipush 7, 2) := dk_16 7 (dk_at dksX6_kindOf_0 11 rfl rfl)
theorem dX6_kindOf_13 : decode cX6_kindOf 13 = .ok (.imul, 1) := dk_104 (dk_at dksX6_kindOf_0 13 rfl rfl)
theorem dX6_kindOf_14 : decode cX6_kindOf 14 = .ok (.iadd, 1) := dk_96 (dk_at dksX6_kindOf_0 14 rfl rfl)
theorem dX6_kindOf_15 : decode cX6_kindOf 15 = .ok (.aload_n 0, 1) := dk_42 (dk_at dksX6_kindOf_0 15 rfl rfl)
theorem dX6_kindOf_16 : decode cX6_kindOf 16 = .ok (.getfield 247, 3) := dk_180 0 247 (dk_at dksX6_kindOf_0 16 rfl rfl)
theorem dX6_kindOf_19 : decode cX6_kindOf 19 = .ok (.iadd, 1) := dk_96 (dk_at dksX6_kindOf_0 19 rfl rfl)
theorem dX6_kindOf_20 : decode cX6_kindOf 20 = .ok (.ireturn, 1) := dk_172 (dk_at dksX6_kindOf_0 20 rfl rfl)

theorem okX6_kindOf : wOkV yX6_kindOf cX6_kindOf 1 (some .int) 0 := ⟨q2004, qs128, q145, q2005, by decide, by decide, by decide +kernel⟩
def fX6_kindOf (N : Nat)   (μ : wMem) : Option (Int32 × wMem) :=
  some ((((μ.1 0 23) * (49 : Int32)) + ((μ.1 0 25) * (7 : Int32))) + (μ.1 0 26), μ)
set_option maxHeartbeats 4000000 in
set_option maxRecDepth 100000 in
theorem tX6_kindOf (l : Launch) {D : va_G} {E : List wCell} {q : Nat → Nat} {ca : wCA} (N : Nat)    (μ : wMem) (r0 : (Int32 × wMem)) (hf : fX6_kindOf N   μ = some r0) : wMi l yX6_kindOf cX6_kindOf 1 (some .int) ({ frames := 0, cells := 0, slots := 0, locals := 0 } : Room) D vwCl (spM ++ E) q ca [.ref (q 0)] μ r0 := by
  refine wMi_intro (by decide) (Nat.le_of_ble_eq_true rfl) ?_
  intro p e s m args below meth c A C
  unfold fX6_kindOf at hf
  refine wr_sub [(0, .ref (q 0))] [0] rfl ?_
  refine wr_aload_n 0 C dX6_kindOf_0 0 rfl rfl ?_
  refine gespM_0_23_X6 1 C dX6_kindOf_1 ?_
  refine wr_bipush 4 C dX6_kindOf_4 (v := 49) rfl ?_
  refine wr_imul 6 C dX6_kindOf_6 ?_
  refine wr_aload_n 7 C dX6_kindOf_7 0 rfl rfl ?_
  refine gespM_0_25_X6 8 C dX6_kindOf_8 ?_
  refine wr_bipush 11 C dX6_kindOf_11 (v := 7) rfl ?_
  refine wr_imul 13 C dX6_kindOf_13 ?_
  refine wr_iadd 14 C dX6_kindOf_14 ?_
  refine wr_aload_n 15 C dX6_kindOf_15 0 rfl rfl ?_
  refine gespM_0_26_X6 16 C dX6_kindOf_16 ?_
  refine wr_iadd 19 C dX6_kindOf_19 ?_
  exact wr_iret 20 C dX6_kindOf_20 ⟨Nat.zero_le _, Nat.zero_le _⟩ (Option.some.inj hf)
abbrev cX6_looksAt : ByteArray := prog_11_method_110_code
def yX6_looksAt : MethodName := ⟨RX6, "looksAt", "(II)Z"⟩
def dkwX6_looksAt_3 : List UInt8 := [167, 255, 201, 4, 172]
abbrev dktX6_looksAt_3 : List UInt8 := dkwX6_looksAt_3 ++ []
def dkwX6_looksAt_2 : List UInt8 := [42, 27, 21, 4, 4, 100, 182, 1, 144, 20, 1, 16, 113, 148, 154, 0, 5, 3, 172, 132, 4, 255]
abbrev dktX6_looksAt_2 : List UInt8 := dkwX6_looksAt_2 ++ dktX6_looksAt_3
def dkwX6_looksAt_1 : List UInt8 := [42, 180, 0, 43, 6, 29, 104, 5, 96, 46, 162, 0, 39, 42, 27, 21, 4, 182, 1, 144, 20, 1, 16, 113]
abbrev dktX6_looksAt_1 : List UInt8 := dkwX6_looksAt_1 ++ dktX6_looksAt_2
def dkwX6_looksAt_0 : List UInt8 := [42, 27, 28, 182, 1, 144, 20, 1, 16, 109, 136, 62, 28, 54, 4, 21, 4, 158, 0, 56, 28, 21, 4, 100]
abbrev dktX6_looksAt_0 : List UInt8 := dkwX6_looksAt_0 ++ dktX6_looksAt_1
theorem dksX6_looksAt_0 : cX6_looksAt.data.toList.drop 0 = dktX6_looksAt_0 := by decide +kernel
theorem dksX6_looksAt_1 : cX6_looksAt.data.toList.drop 24 = dktX6_looksAt_1 := dk_seg dksX6_looksAt_0 24 rfl rfl
theorem dksX6_looksAt_2 : cX6_looksAt.data.toList.drop 48 = dktX6_looksAt_2 := dk_seg dksX6_looksAt_1 24 rfl rfl
theorem dksX6_looksAt_3 : cX6_looksAt.data.toList.drop 70 = dktX6_looksAt_3 := dk_seg dksX6_looksAt_2 22 rfl rfl
theorem dX6_looksAt_0 : decode cX6_looksAt 0 = .ok (.aload_n 0, 1) := dk_42 (dk_at dksX6_looksAt_0 0 rfl rfl)
theorem dX6_looksAt_1 : decode cX6_looksAt 1 = .ok (.iload_n 1, 1) := dk_27 (dk_at dksX6_looksAt_0 1 rfl rfl)
theorem dX6_looksAt_2 : decode cX6_looksAt 2 = .ok (.iload_n 2, 1) := dk_28 (dk_at dksX6_looksAt_0 2 rfl rfl)
theorem dX6_looksAt_3 : decode cX6_looksAt 3 = .ok (.invokevirtual 400, 3) := dk_182 1 144 (dk_at dksX6_looksAt_0 3 rfl rfl)
theorem dX6_looksAt_6 : decode cX6_looksAt 6 = .ok (.ldc2_w 272, 3) := dk_20 1 16 (dk_at dksX6_looksAt_0 6 rfl rfl)
theorem dX6_looksAt_9 : decode cX6_looksAt 9 = .ok (.ldiv, 1) := dk_109 (dk_at dksX6_looksAt_0 9 rfl rfl)
theorem dX6_looksAt_10 : decode cX6_looksAt 10 = .ok (.l2i, 1) := dk_136 (dk_at dksX6_looksAt_0 10 rfl rfl)
theorem dX6_looksAt_11 : decode cX6_looksAt 11 = .ok (.istore_n 3, 1) := dk_62 (dk_at dksX6_looksAt_0 11 rfl rfl)
theorem dX6_looksAt_12 : decode cX6_looksAt 12 = .ok (.iload_n 2, 1) := dk_28 (dk_at dksX6_looksAt_0 12 rfl rfl)
theorem dX6_looksAt_13 : decode cX6_looksAt 13 = .ok (.istore 4, 2) := dk_54 4 (dk_at dksX6_looksAt_0 13 rfl rfl)
theorem dX6_looksAt_15 : decode cX6_looksAt 15 = .ok (.iload 4, 2) := dk_21 4 (dk_at dksX6_looksAt_0 15 rfl rfl)
theorem dX6_looksAt_17 : decode cX6_looksAt 17 = .ok (.ifCond .le 56, 3) := dk_158 0 56 (dk_at dksX6_looksAt_0 17 rfl rfl)
theorem dX6_looksAt_20 : decode cX6_looksAt 20 = .ok (.iload_n 2, 1) := dk_28 (dk_at dksX6_looksAt_0 20 rfl rfl)
theorem dX6_looksAt_21 : decode cX6_looksAt 21 = .ok (.iload 4, 2) := dk_21 4 (dk_at dksX6_looksAt_0 21 rfl rfl)
theorem dX6_looksAt_23 : decode cX6_looksAt 23 = .ok (.isub, 1) := dk_100 (dk_at dksX6_looksAt_0 23 rfl rfl)
theorem dX6_looksAt_24 : decode cX6_looksAt 24 = .ok (.aload_n 0, 1) := dk_42 (dk_at dksX6_looksAt_1 0 rfl rfl)
theorem dX6_looksAt_25 : decode cX6_looksAt 25 = .ok (.getfield 43, 3) := dk_180 0 43 (dk_at dksX6_looksAt_1 1 rfl rfl)
theorem dX6_looksAt_28 : decode cX6_looksAt 28 = .ok (.iconst 3, 1) := dk_6 (dk_at dksX6_looksAt_1 4 rfl rfl)
theorem dX6_looksAt_29 : decode cX6_looksAt 29 = .ok (.iload_n 3, 1) := dk_29 (dk_at dksX6_looksAt_1 5 rfl rfl)
theorem dX6_looksAt_30 : decode cX6_looksAt 30 = .ok (.imul, 1) := dk_104 (dk_at dksX6_looksAt_1 6 rfl rfl)
theorem dX6_looksAt_31 : decode cX6_looksAt 31 = .ok (.iconst 2, 1) := dk_5 (dk_at dksX6_looksAt_1 7 rfl rfl)
theorem dX6_looksAt_32 : decode cX6_looksAt 32 = .ok (.iadd, 1) := dk_96 (dk_at dksX6_looksAt_1 8 rfl rfl)
theorem dX6_looksAt_33 : decode cX6_looksAt 33 = .ok (.iaload, 1) := dk_46 (dk_at dksX6_looksAt_1 9 rfl rfl)
theorem dX6_looksAt_34 : decode cX6_looksAt 34 = .ok (.if_icmp .ge 39, 3) := dk_162 0 39 (dk_at dksX6_looksAt_1 10 rfl rfl)
theorem dX6_looksAt_37 : decode cX6_looksAt 37 = .ok (.aload_n 0, 1) := dk_42 (dk_at dksX6_looksAt_1 13 rfl rfl)
theorem dX6_looksAt_38 : decode cX6_looksAt 38 = .ok (.iload_n 1, 1) := dk_27 (dk_at dksX6_looksAt_1 14 rfl rfl)
theorem dX6_looksAt_39 : decode cX6_looksAt 39 = .ok (.iload 4, 2) := dk_21 4 (dk_at dksX6_looksAt_1 15 rfl rfl)
theorem dX6_looksAt_41 : decode cX6_looksAt 41 = .ok (.invokevirtual 400, 3) := dk_182 1 144 (dk_at dksX6_looksAt_1 17 rfl rfl)
theorem dX6_looksAt_44 : decode cX6_looksAt 44 = .ok (.ldc2_w 272, 3) := dk_20 1 16 (dk_at dksX6_looksAt_1 20 rfl rfl)
theorem dX6_looksAt_47 : decode cX6_looksAt 47 = .ok (.lrem, 1) := dk_113 (dk_at dksX6_looksAt_1 23 rfl rfl)
theorem dX6_looksAt_48 : decode cX6_looksAt 48 = .ok (.aload_n 0, 1) := dk_42 (dk_at dksX6_looksAt_2 0 rfl rfl)
theorem dX6_looksAt_49 : decode cX6_looksAt 49 = .ok (.iload_n 1, 1) := dk_27 (dk_at dksX6_looksAt_2 1 rfl rfl)
theorem dX6_looksAt_50 : decode cX6_looksAt 50 = .ok (.iload 4, 2) := dk_21 4 (dk_at dksX6_looksAt_2 2 rfl rfl)
theorem dX6_looksAt_52 : decode cX6_looksAt 52 = .ok (.iconst 1, 1) := dk_4 (dk_at dksX6_looksAt_2 4 rfl rfl)
theorem dX6_looksAt_53 : decode cX6_looksAt 53 = .ok (.isub, 1) := dk_100 (dk_at dksX6_looksAt_2 5 rfl rfl)
theorem dX6_looksAt_54 : decode cX6_looksAt 54 = .ok (.invokevirtual 400, 3) := dk_182 1 144 (dk_at dksX6_looksAt_2 6 rfl rfl)
theorem dX6_looksAt_57 : decode cX6_looksAt 57 = .ok (.ldc2_w 272, 3) := dk_20 1 16 (dk_at dksX6_looksAt_2 9 rfl rfl)
theorem dX6_looksAt_60 : decode cX6_looksAt 60 = .ok (.lrem, 1) := dk_113 (dk_at dksX6_looksAt_2 12 rfl rfl)
theorem dX6_looksAt_61 : decode cX6_looksAt 61 = .ok (.lcmp, 1) := dk_148 (dk_at dksX6_looksAt_2 13 rfl rfl)
theorem dX6_looksAt_62 : decode cX6_looksAt 62 = .ok (.ifCond .ne 5, 3) := dk_154 0 5 (dk_at dksX6_looksAt_2 14 rfl rfl)
theorem dX6_looksAt_65 : decode cX6_looksAt 65 = .ok (.iconst 0, 1) := dk_3 (dk_at dksX6_looksAt_2 17 rfl rfl)
theorem dX6_looksAt_66 : decode cX6_looksAt 66 = .ok (.ireturn, 1) := dk_172 (dk_at dksX6_looksAt_2 18 rfl rfl)
theorem dX6_looksAt_67 : decode cX6_looksAt 67 = .ok (.iinc 4 (-1), 3) := dk_132 4 255 (dk_at dksX6_looksAt_2 19 rfl rfl)
theorem dX6_looksAt_70 : decode cX6_looksAt 70 = .ok (.goto (-55), 3) := dk_167 255 201 (dk_at dksX6_looksAt_3 0 rfl rfl)
theorem dX6_looksAt_73 : decode cX6_looksAt 73 = .ok (.iconst 1, 1) := dk_4 (dk_at dksX6_looksAt_3 3 rfl rfl)
theorem dX6_looksAt_74 : decode cX6_looksAt 74 = .ok (.ireturn, 1) := dk_172 (dk_at dksX6_looksAt_3 4 rfl rfl)

theorem okX6_looksAt : wOkV yX6_looksAt cX6_looksAt 5 (some .boolean) 2 := ⟨q2008, qs129, q145, q2009, by decide, by decide, by decide +kernel⟩
def gbX6_looksAt_15 (N : Nat)  (x1_ : Int32) (x2_ : Int32) (x3_ : Int32) (K : (wMem → Option (Int32 × wMem))) (rec : (Int32 → wMem → Option (Int32 × wMem))) (x4_ : Int32) (μ : wMem) : Option (Int32 × wMem) :=
  if x4_ ≤ 0 then K  μ else wG (ok_in (((3 : Int32) * x3_) + (2 : Int32)) 30) (if (μ.1 10 (Int32.toNatClampNeg (((3 : Int32) * x3_) + (2 : Int32)))) ≤ (x2_ - x4_) then K  μ else wBind (fX6_cellOf N  x1_ x4_ μ) fun v10 μ9 => wBind (fX6_cellOf N  x1_ (x4_ - (1 : Int32)) μ9) fun v13 μ12 => if (v10 - v10 / (10 : Int64) * (10 : Int64)) = (v13 - v13 / (10 : Int64) * (10 : Int64)) then some (0, μ12) else wLet (x4_ + (-1) : Int32) fun x15 => rec x15 μ12)
def gX6_looksAt_15 (N : Nat)  (x1_ : Int32) (x2_ : Int32) (x3_ : Int32) (K : (wMem → Option (Int32 × wMem))) : Nat → (Int32 → wMem → Option (Int32 × wMem))
  | 0 => fun _ _ => none
  | k + 1 => gbX6_looksAt_15 N  x1_ x2_ x3_ K (gX6_looksAt_15 N  x1_ x2_ x3_ K k)
set_option maxHeartbeats 4000000 in
set_option maxRecDepth 100000 in
theorem tX6_looksAt_15 {p : Program} {l : Launch} {e : Env} {s : State} {m : MethodId} {args : Array Value} {below : List Frame} {meth : Method} {c : Code} {D : va_G} {E : List wCell} {q : Nat → Nat} {ca : wCA} {A : Nat → Prop} (C : wC p ({ frames := 1, cells := 0, slots := 0, locals := 22 } : Room) s m args meth c cX6_looksAt yX6_looksAt.cls 5 (some .boolean) D vwCl (spM ++ E) q ca A) (N : Nat)   (x1_ : Int32) (x2_ : Int32) (x3_ : Int32) (K : (wMem → Option (Int32 × wMem))) (r0 : (Int32 × wMem)) (hK : ∀  (μ : wMem), K  μ = some r0 → wJ p l e ({ frames := 1, cells := 0, slots := 0, locals := 22 } : Room) s m args below meth c 5 D vwCl (spM ++ E) q ca A (wQi ({ frames := 1, cells := 0, slots := 0, locals := 22 } : Room) D vwCl (spM ++ E) q ca below args s A r0) 0 0 μ 73 [] []) : ∀ (k : Nat) (x4_ : Int32) (μ : wMem), gX6_looksAt_15 N  x1_ x2_ x3_ K k x4_ μ = some r0 → wJ p l e ({ frames := 1, cells := 0, slots := 0, locals := 22 } : Room) s m args below meth c 5 D vwCl (spM ++ E) q ca A (wQi ({ frames := 1, cells := 0, slots := 0, locals := 22 } : Room) D vwCl (spM ++ E) q ca below args s A r0) 0 0 μ 15 [(0, .ref (q 0)), (1, .int x1_), (2, .int x2_), (3, .int x3_), (4, .int x4_)] [] := by
  intro k
  induction k with
  | zero =>
    intro x4_ μ hf
    cases hf
  | succ k ih =>
    intro x4_ μ hf
    replace hf : gbX6_looksAt_15 N  x1_ x2_ x3_ K (gX6_looksAt_15 N  x1_ x2_ x3_ K k) x4_ μ = some r0 := hf
    unfold gbX6_looksAt_15 at hf
    refine wr_iload 15 C dX6_looksAt_15 4 rfl ?_
    refine wr_if_le 17 73 C dX6_looksAt_17 (by decide) (fun c5 => ?_) (fun c5 => ?_)
    · replace hf := o_pos c5 hf
      refine wr_sub [] [] rfl ?_
      exact hK  μ hf
    · replace hf := o_neg c5 hf
      refine wr_iload_n 20 C dX6_looksAt_20 2 rfl rfl ?_
      refine wr_iload 21 C dX6_looksAt_21 4 rfl ?_
      refine wr_isub 23 C dX6_looksAt_23 ?_
      refine wr_aload_n 24 C dX6_looksAt_24 0 rfl rfl ?_
      refine gespM_0_20_X6 25 C dX6_looksAt_25 ?_
      refine wr_iconst 28 C dX6_looksAt_28 (v := 3) rfl ?_
      refine wr_iload_n 29 C dX6_looksAt_29 3 rfl rfl ?_
      refine wr_imul 30 C dX6_looksAt_30 ?_
      refine wr_iconst 31 C dX6_looksAt_31 (v := 2) rfl ?_
      refine wr_iadd 32 C dX6_looksAt_32 ?_
      obtain ⟨g6, hf⟩ := o_g hf
      refine wr_iald 33 C dX6_looksAt_33 spM_10 g6 ?_
      refine wr_icmp_ge 34 73 C dX6_looksAt_34 (by decide) (fun c7 => ?_) (fun c7 => ?_)
      · replace hf := o_pos c7 hf
        refine wr_sub [] [] rfl ?_
        exact hK  μ hf
      · replace hf := o_neg c7 hf
        refine wr_aload_n 37 C dX6_looksAt_37 0 rfl rfl ?_
        refine wr_iload_n 38 C dX6_looksAt_38 1 rfl rfl ?_
        refine wr_iload 39 C dX6_looksAt_39 4 rfl ?_
        obtain ⟨v10, μ9, h8, hf⟩ := o_bind hf
        refine wr_Vl (kc1 := 0) (ks1 := 0) 41 [] C dX6_looksAt_41 (tX6_cellOf l N   x1_ x4_ μ (v10, μ9) h8) okX6_cellOf q1957 (b := 0) spM_0 rfl ⟨rfl, rfl, Nat.le_of_ble_eq_true rfl, Nat.le_of_ble_eq_true rfl, Nat.zero_le _, Nat.zero_le _⟩ (Nat.le_of_ble_eq_true rfl) rfl ?_
        refine wr_ldc2 44 C dX6_looksAt_44 q1824 ?_
        refine wr_lrem 47 C dX6_looksAt_47 (by decide) ?_
        refine wr_aload_n 48 C dX6_looksAt_48 0 rfl rfl ?_
        refine wr_iload_n 49 C dX6_looksAt_49 1 rfl rfl ?_
        refine wr_iload 50 C dX6_looksAt_50 4 rfl ?_
        refine wr_iconst 52 C dX6_looksAt_52 (v := 1) rfl ?_
        refine wr_isub 53 C dX6_looksAt_53 ?_
        obtain ⟨v13, μ12, h11, hf⟩ := o_bind hf
        refine wr_Vl (kc1 := 0) (ks1 := 0) 54 [.long (v10 - v10 / (10 : Int64) * (10 : Int64))] C dX6_looksAt_54 (tX6_cellOf l N   x1_ (x4_ - (1 : Int32)) μ9 (v13, μ12) h11) okX6_cellOf q1957 (b := 0) spM_0 rfl ⟨rfl, rfl, Nat.le_of_ble_eq_true rfl, Nat.le_of_ble_eq_true rfl, Nat.zero_le _, Nat.zero_le _⟩ (Nat.le_of_ble_eq_true rfl) rfl ?_
        refine wr_ldc2 57 C dX6_looksAt_57 q1824 ?_
        refine wr_lrem 60 C dX6_looksAt_60 (by decide) ?_
        refine wr_lcmp_ne 61 67 C dX6_looksAt_61 dX6_looksAt_62 (by decide) (fun c14 => ?_) (fun c14 => ?_)
        · replace hf := o_neg c14 hf
          obtain ⟨x15, ex15, hf⟩ := o_let hf
          refine wr_iinc 67 [(4, .int x15), (0, .ref (q 0)), (1, .int x1_), (2, .int x2_), (3, .int x3_)] C dX6_looksAt_67 4 rfl (ex15.trans rfl) (Nat.le_of_ble_eq_true rfl) rfl ?_
          refine wr_goto 70 C dX6_looksAt_70 (tgt := 15) (by decide) ?_
          refine wr_sub [(0, .ref (q 0)), (1, .int x1_), (2, .int x2_), (3, .int x3_), (4, .int x15)] [1, 2, 3, 4, 0] rfl ?_
          exact ih x15 μ12 hf
        · replace hf := o_pos c14 hf
          refine wr_iconst 65 C dX6_looksAt_65 (v := 0) rfl ?_
          exact wr_zret 66 C dX6_looksAt_66 rfl ⟨Nat.zero_le _, Nat.zero_le _⟩ (Option.some.inj hf)
def fX6_looksAt (N : Nat)  (a1 : Int32) (a2 : Int32) (μ : wMem) : Option (Int32 × wMem) :=
  wBind (fX6_cellOf N  a1 a2 μ) fun v3 μ2 => wLet (Int64.toInt32 (v3 / (10 : Int64)) : Int32) fun x4 => gX6_looksAt_15 N  a1 a2 x4 (fun  (μ16 : wMem) => some (1, μ16)) N a2 μ2
set_option maxHeartbeats 4000000 in
set_option maxRecDepth 100000 in
theorem tX6_looksAt (l : Launch) {D : va_G} {E : List wCell} {q : Nat → Nat} {ca : wCA} (N : Nat)   (a1 : Int32) (a2 : Int32) (μ : wMem) (r0 : (Int32 × wMem)) (hf : fX6_looksAt N  a1 a2 μ = some r0) : wMi l yX6_looksAt cX6_looksAt 5 (some .boolean) ({ frames := 1, cells := 0, slots := 0, locals := 22 } : Room) D vwCl (spM ++ E) q ca [.ref (q 0), .int a1, .int a2] μ r0 := by
  refine wMi_intro (by decide) (Nat.le_of_ble_eq_true rfl) ?_
  intro p e s m args below meth c A C
  unfold fX6_looksAt at hf
  refine wr_sub [(0, .ref (q 0)), (1, .int a1), (2, .int a2)] [0, 1, 2] rfl ?_
  refine wr_aload_n 0 C dX6_looksAt_0 0 rfl rfl ?_
  refine wr_iload_n 1 C dX6_looksAt_1 1 rfl rfl ?_
  refine wr_iload_n 2 C dX6_looksAt_2 2 rfl rfl ?_
  obtain ⟨v3, μ2, h1, hf⟩ := o_bind hf
  refine wr_Vl (kc1 := 0) (ks1 := 0) 3 [] C dX6_looksAt_3 (tX6_cellOf l N   a1 a2 μ (v3, μ2) h1) okX6_cellOf q1957 (b := 0) spM_0 rfl ⟨rfl, rfl, Nat.le_of_ble_eq_true rfl, Nat.le_of_ble_eq_true rfl, Nat.zero_le _, Nat.zero_le _⟩ (Nat.le_of_ble_eq_true rfl) rfl ?_
  refine wr_ldc2 6 C dX6_looksAt_6 q1824 ?_
  refine wr_ldiv 9 C dX6_looksAt_9 (by decide) ?_
  refine wr_l2i 10 C dX6_looksAt_10 ?_
  obtain ⟨x4, ex4, hf⟩ := o_let hf
  refine wr_istore_n 11 [(3, .int x4), (0, .ref (q 0)), (1, .int a1), (2, .int a2)] C dX6_looksAt_11 ex4 rfl (Nat.le_of_ble_eq_true rfl) rfl ?_
  refine wr_iload_n 12 C dX6_looksAt_12 3 rfl rfl ?_
  refine wr_istore 13 [(4, .int a2), (3, .int x4), (0, .ref (q 0)), (1, .int a1), (2, .int a2)] C dX6_looksAt_13 rfl (Nat.le_of_ble_eq_true rfl) rfl ?_
  refine wr_sub [(0, .ref (q 0)), (1, .int a1), (2, .int a2), (3, .int x4), (4, .int a2)] [2, 3, 4, 1, 0] rfl ?_
  refine tX6_looksAt_15 C N   a1 a2 x4 _ r0 (fun  μ16 hf => ?_) N a2 μ2 hf
  · replace hf := hf
    refine wr_iconst 73 C dX6_looksAt_73 (v := 1) rfl ?_
    exact wr_zret 74 C dX6_looksAt_74 rfl ⟨Nat.zero_le _, Nat.zero_le _⟩ (Option.some.inj hf)
abbrev cX6_completes : ByteArray := prog_11_method_112_code
def yX6_completes : MethodName := ⟨RX6, "completes", "(II)I"⟩
def dkwX6_completes_18 : List UInt8 := [132, 9, 1, 167, 254, 245, 29, 172]
abbrev dktX6_completes_18 : List UInt8 := dkwX6_completes_18 ++ []
def dkwX6_completes_17 : List UInt8 := [42, 21, 6, 181, 0, 238, 42, 21, 7, 181, 0, 244, 42, 21, 8, 181, 0, 247, 132, 10, 1, 167, 255, 9]
abbrev dktX6_completes_17 : List UInt8 := dkwX6_completes_17 ++ dktX6_completes_18
def dkwX6_completes_16 : List UInt8 := [180, 0, 76, 21, 11, 46, 126, 79, 42, 180, 0, 79, 29, 92, 46, 42, 180, 0, 79, 21, 11, 46, 128, 79]
abbrev dktX6_completes_16 : List UInt8 := dkwX6_completes_16 ++ dktX6_completes_17
def dkwX6_completes_15 : List UInt8 := [162, 0, 8, 21, 12, 167, 0, 9, 42, 180, 0, 73, 29, 46, 79, 42, 180, 0, 76, 29, 92, 46, 42]
abbrev dktX6_completes_15 : List UInt8 := dkwX6_completes_15 ++ dktX6_completes_16
def dkwX6_completes_14 : List UInt8 := [21, 9, 21, 4, 182, 1, 44, 96, 54, 12, 42, 180, 0, 73, 29, 21, 12, 42, 180, 0, 73, 29, 46]
abbrev dktX6_completes_14 : List UInt8 := dkwX6_completes_14 ++ dktX6_completes_15
def dkwX6_completes_13 : List UInt8 := [180, 0, 70, 29, 92, 47, 42, 180, 0, 70, 21, 11, 47, 97, 80, 42, 180, 0, 73, 21, 11, 46, 42]
abbrev dktX6_completes_13 : List UInt8 := dkwX6_completes_13 ++ dktX6_completes_14
def dkwX6_completes_12 : List UInt8 := [27, 28, 4, 96, 182, 1, 165, 54, 11, 42, 180, 0, 70, 21, 11, 47, 9, 148, 158, 0, 97, 42]
abbrev dktX6_completes_12 : List UInt8 := dkwX6_completes_12 ++ dktX6_completes_13
def dkwX6_completes_11 : List UInt8 := [21, 10, 182, 0, 253, 21, 5, 159, 0, 6, 167, 0, 147, 42, 21, 9, 21, 10, 21, 4, 182, 1, 22, 42]
abbrev dktX6_completes_11 : List UInt8 := dkwX6_completes_11 ++ dktX6_completes_12
def dkwX6_completes_10 : List UInt8 := [167, 0, 181, 21, 10, 2, 159, 0, 31, 42, 180, 0, 34, 7, 46, 21, 10, 184, 0, 189, 153, 0, 161, 42]
abbrev dktX6_completes_10 : List UInt8 := dkwX6_completes_10 ++ dktX6_completes_11
def dkwX6_completes_9 : List UInt8 := [154, 0, 10, 42, 180, 0, 244, 167, 0, 7, 42, 180, 0, 247, 21, 4, 182, 1, 0, 154, 0, 6]
abbrev dktX6_completes_9 : List UInt8 := dkwX6_completes_9 ++ dktX6_completes_10
def dkwX6_completes_8 : List UInt8 := [21, 5, 160, 0, 225, 42, 180, 0, 34, 7, 46, 21, 9, 184, 0, 189, 154, 0, 211, 42, 21, 9, 21, 4]
abbrev dktX6_completes_8 : List UInt8 := dkwX6_completes_8 ++ dktX6_completes_9
def dkwX6_completes_7 : List UInt8 := [46, 162, 1, 6, 2, 54, 10, 21, 10, 42, 180, 0, 34, 5, 46, 162, 0, 242, 42, 21, 9, 182, 0, 253]
abbrev dktX6_completes_7 : List UInt8 := dkwX6_completes_7 ++ dktX6_completes_8
def dkwX6_completes_6 : List UInt8 := [54, 6, 42, 180, 0, 244, 54, 7, 42, 180, 0, 247, 54, 8, 3, 54, 9, 21, 9, 42, 180, 0, 34, 5]
abbrev dktX6_completes_6 : List UInt8 := dkwX6_completes_6 ++ dktX6_completes_7
def dkwX6_completes_5 : List UInt8 := [20, 1, 16, 109, 136, 54, 4, 42, 27, 28, 182, 1, 144, 20, 1, 16, 113, 136, 54, 5, 42, 180, 0, 238]
abbrev dktX6_completes_5 : List UInt8 := dkwX6_completes_5 ++ dktX6_completes_6
def dkwX6_completes_4 : List UInt8 := [180, 0, 238, 79, 29, 172, 42, 27, 28, 182, 1, 162, 154, 0, 5, 29, 172, 42, 27, 28, 182, 1, 144]
abbrev dktX6_completes_4 : List UInt8 := dkwX6_completes_4 ++ dktX6_completes_5
def dkwX6_completes_3 : List UInt8 := [42, 180, 0, 73, 29, 3, 79, 42, 180, 0, 76, 29, 42, 180, 0, 238, 79, 42, 180, 0, 79, 29, 42]
abbrev dktX6_completes_3 : List UInt8 := dkwX6_completes_3 ++ dktX6_completes_4
def dkwX6_completes_2 : List UInt8 := [42, 180, 0, 79, 29, 3, 79, 28, 42, 180, 0, 13, 27, 46, 160, 0, 39, 42, 180, 0, 70, 29, 10, 80]
abbrev dktX6_completes_2 : List UInt8 := dkwX6_completes_2 ++ dktX6_completes_3
def dkwX6_completes_1 : List UInt8 := [42, 180, 0, 70, 29, 9, 80, 42, 180, 0, 73, 29, 19, 1, 101, 79, 42, 180, 0, 76, 29, 16, 63, 79]
abbrev dktX6_completes_1 : List UInt8 := dkwX6_completes_1 ++ dktX6_completes_2
def dkwX6_completes_0 : List UInt8 := [17, 12, 64, 28, 104, 42, 182, 1, 159, 96, 62, 42, 180, 0, 70, 29, 47, 9, 148, 155, 0, 5, 29, 172]
abbrev dktX6_completes_0 : List UInt8 := dkwX6_completes_0 ++ dktX6_completes_1
theorem dksX6_completes_0 : cX6_completes.data.toList.drop 0 = dktX6_completes_0 := by decide +kernel
theorem dksX6_completes_1 : cX6_completes.data.toList.drop 24 = dktX6_completes_1 := dk_seg dksX6_completes_0 24 rfl rfl
theorem dksX6_completes_2 : cX6_completes.data.toList.drop 48 = dktX6_completes_2 := dk_seg dksX6_completes_1 24 rfl rfl
theorem dksX6_completes_3 : cX6_completes.data.toList.drop 72 = dktX6_completes_3 := dk_seg dksX6_completes_2 24 rfl rfl
theorem dksX6_completes_4 : cX6_completes.data.toList.drop 95 = dktX6_completes_4 := dk_seg dksX6_completes_3 23 rfl rfl
theorem dksX6_completes_5 : cX6_completes.data.toList.drop 118 = dktX6_completes_5 := dk_seg dksX6_completes_4 23 rfl rfl
theorem dksX6_completes_6 : cX6_completes.data.toList.drop 142 = dktX6_completes_6 := dk_seg dksX6_completes_5 24 rfl rfl
theorem dksX6_completes_7 : cX6_completes.data.toList.drop 166 = dktX6_completes_7 := dk_seg dksX6_completes_6 24 rfl rfl
theorem dksX6_completes_8 : cX6_completes.data.toList.drop 190 = dktX6_completes_8 := dk_seg dksX6_completes_7 24 rfl rfl
theorem dksX6_completes_9 : cX6_completes.data.toList.drop 214 = dktX6_completes_9 := dk_seg dksX6_completes_8 24 rfl rfl
theorem dksX6_completes_10 : cX6_completes.data.toList.drop 236 = dktX6_completes_10 := dk_seg dksX6_completes_9 22 rfl rfl
theorem dksX6_completes_11 : cX6_completes.data.toList.drop 260 = dktX6_completes_11 := dk_seg dksX6_completes_10 24 rfl rfl
theorem dksX6_completes_12 : cX6_completes.data.toList.drop 284 = dktX6_completes_12 := dk_seg dksX6_completes_11 24 rfl rfl
theorem dksX6_completes_13 : cX6_completes.data.toList.drop 306 = dktX6_completes_13 := dk_seg dksX6_completes_12 22 rfl rfl
theorem dksX6_completes_14 : cX6_completes.data.toList.drop 329 = dktX6_completes_14 := dk_seg dksX6_completes_13 23 rfl rfl
theorem dksX6_completes_15 : cX6_completes.data.toList.drop 352 = dktX6_completes_15 := dk_seg dksX6_completes_14 23 rfl rfl
theorem dksX6_completes_16 : cX6_completes.data.toList.drop 375 = dktX6_completes_16 := dk_seg dksX6_completes_15 23 rfl rfl
theorem dksX6_completes_17 : cX6_completes.data.toList.drop 399 = dktX6_completes_17 := dk_seg dksX6_completes_16 24 rfl rfl
theorem dksX6_completes_18 : cX6_completes.data.toList.drop 423 = dktX6_completes_18 := dk_seg dksX6_completes_17 24 rfl rfl
theorem dX6_completes_0 : decode cX6_completes 0 = .ok (.sipush 3136, 3) := dk_17 12 64 (dk_at dksX6_completes_0 0 rfl rfl)
theorem dX6_completes_3 : decode cX6_completes 3 = .ok (.iload_n 2, 1) := dk_28 (dk_at dksX6_completes_0 3 rfl rfl)
theorem dX6_completes_4 : decode cX6_completes 4 = .ok (.imul, 1) := dk_104 (dk_at dksX6_completes_0 4 rfl rfl)
theorem dX6_completes_5 : decode cX6_completes 5 = .ok (.aload_n 0, 1) := dk_42 (dk_at dksX6_completes_0 5 rfl rfl)
theorem dX6_completes_6 : decode cX6_completes 6 = .ok (.invokevirtual 415, 3) := dk_182 1 159 (dk_at dksX6_completes_0 6 rfl rfl)
theorem dX6_completes_9 : decode cX6_completes 9 = .ok (.iadd, 1) := dk_96 (dk_at dksX6_completes_0 9 rfl rfl)
theorem dX6_completes_10 : decode cX6_completes 10 = .ok (.istore_n 3, 1) := dk_62 (dk_at dksX6_completes_0 10 rfl rfl)
theorem dX6_completes_11 : decode cX6_completes 11 = .ok (.aload_n 0, 1) := dk_42 (dk_at dksX6_completes_0 11 rfl rfl)
theorem dX6_completes_12 : decode cX6_completes 12 = .ok (.getfield 70, 3) := dk_180 0 70 (dk_at dksX6_completes_0 12 rfl rfl)
theorem dX6_completes_15 : decode cX6_completes 15 = .ok (.iload_n 3, 1) := dk_29 (dk_at dksX6_completes_0 15 rfl rfl)
theorem dX6_completes_16 : decode cX6_completes 16 = .ok (.laload, 1) := dk_47 (dk_at dksX6_completes_0 16 rfl rfl)
theorem dX6_completes_17 : decode cX6_completes 17 = .ok (.lconst 0, 1) := dk_9 (dk_at dksX6_completes_0 17 rfl rfl)
theorem dX6_completes_18 : decode cX6_completes 18 = .ok (.lcmp, 1) := dk_148 (dk_at dksX6_completes_0 18 rfl rfl)
theorem dX6_completes_19 : decode cX6_completes 19 = .ok (.ifCond .lt 5, 3) := dk_155 0 5 (dk_at dksX6_completes_0 19 rfl rfl)
theorem dX6_completes_22 : decode cX6_completes 22 = .ok (.iload_n 3, 1) := dk_29 (dk_at dksX6_completes_0 22 rfl rfl)
theorem dX6_completes_23 : decode cX6_completes 23 = .ok (.ireturn, 1) := dk_172 (dk_at dksX6_completes_0 23 rfl rfl)
theorem dX6_completes_24 : decode cX6_completes 24 = .ok (.aload_n 0, 1) := dk_42 (dk_at dksX6_completes_1 0 rfl rfl)
theorem dX6_completes_25 : decode cX6_completes 25 = .ok (.getfield 70, 3) := dk_180 0 70 (dk_at dksX6_completes_1 1 rfl rfl)
theorem dX6_completes_28 : decode cX6_completes 28 = .ok (.iload_n 3, 1) := dk_29 (dk_at dksX6_completes_1 4 rfl rfl)
theorem dX6_completes_29 : decode cX6_completes 29 = .ok (.lconst 0, 1) := dk_9 (dk_at dksX6_completes_1 5 rfl rfl)
theorem dX6_completes_30 : decode cX6_completes 30 = .ok (.lastore, 1) := dk_80 (dk_at dksX6_completes_1 6 rfl rfl)
theorem dX6_completes_31 : decode cX6_completes 31 = .ok (.aload_n 0, 1) := dk_42 (dk_at dksX6_completes_1 7 rfl rfl)
theorem dX6_completes_32 : decode cX6_completes 32 = .ok (.getfield 73, 3) := dk_180 0 73 (dk_at dksX6_completes_1 8 rfl rfl)
theorem dX6_completes_35 : decode cX6_completes 35 = .ok (.iload_n 3, 1) := dk_29 (dk_at dksX6_completes_1 11 rfl rfl)
theorem dX6_completes_36 : decode cX6_completes 36 = .ok (.ldc_w 357, 3) := dk_19 1 101 (dk_at dksX6_completes_1 12 rfl rfl)
theorem dX6_completes_39 : decode cX6_completes 39 = .ok (.iastore, 1) := dk_79 (dk_at dksX6_completes_1 15 rfl rfl)
theorem dX6_completes_40 : decode cX6_completes 40 = .ok (.aload_n 0, 1) := dk_42 (dk_at dksX6_completes_1 16 rfl rfl)
theorem dX6_completes_41 : decode cX6_completes 41 = .ok (.getfield 76, 3) := dk_180 0 76 (dk_at dksX6_completes_1 17 rfl rfl)
theorem dX6_completes_44 : decode cX6_completes 44 = .ok (.iload_n 3, 1) := dk_29 (dk_at dksX6_completes_1 20 rfl rfl)
theorem dX6_completes_45 : decode cX6_completes 45 = .ok (.bipush 63, 2) := dk_16 63 (dk_at dksX6_completes_1 21 rfl rfl)
theorem dX6_completes_47 : decode cX6_completes 47 = .ok (.iastore, 1) := dk_79 (dk_at dksX6_completes_1 23 rfl rfl)
theorem dX6_completes_48 : decode cX6_completes 48 = .ok (.aload_n 0, 1) := dk_42 (dk_at dksX6_completes_2 0 rfl rfl)
theorem dX6_completes_49 : decode cX6_completes 49 = .ok (.getfield 79, 3) := dk_180 0 79 (dk_at dksX6_completes_2 1 rfl rfl)
theorem dX6_completes_52 : decode cX6_completes 52 = .ok (.iload_n 3, 1) := dk_29 (dk_at dksX6_completes_2 4 rfl rfl)
theorem dX6_completes_53 : decode cX6_completes 53 = .ok (.iconst 0, 1) := dk_3 (dk_at dksX6_completes_2 5 rfl rfl)
theorem dX6_completes_54 : decode cX6_completes 54 = .ok (.iastore, 1) := dk_79 (dk_at dksX6_completes_2 6 rfl rfl)
theorem dX6_completes_55 : decode cX6_completes 55 = .ok (.iload_n 2, 1) := dk_28 (dk_at dksX6_completes_2 7 rfl rfl)
theorem dX6_completes_56 : decode cX6_completes 56 = .ok (.aload_n 0, 1) := dk_42 (dk_at dksX6_completes_2 8 rfl rfl)
theorem dX6_completes_57 : decode cX6_completes 57 = .ok (.getfield 13, 3) := dk_180 0 13 (dk_at dksX6_completes_2 9 rfl rfl)
theorem dX6_completes_60 : decode cX6_completes 60 = .ok (.iload_n 1, 1) := dk_27 (dk_at dksX6_completes_2 12 rfl rfl)
theorem dX6_completes_61 : decode cX6_completes 61 = .ok (.iaload, 1) := dk_46 (dk_at dksX6_completes_2 13 rfl rfl)
theorem dX6_completes_62 : decode cX6_completes 62 = .ok (.if_icmp .ne 39, 3) := dk_160 0 39 (dk_at dksX6_completes_2 14 rfl rfl)
theorem dX6_completes_65 : decode cX6_completes 65 = .ok (.aload_n 0, 1) := dk_42 (dk_at dksX6_completes_2 17 rfl rfl)
theorem dX6_completes_66 : decode cX6_completes 66 = .ok (.getfield 70, 3) := dk_180 0 70 (dk_at dksX6_completes_2 18 rfl rfl)
theorem dX6_completes_69 : decode cX6_completes 69 = .ok (.iload_n 3, 1) := dk_29 (dk_at dksX6_completes_2 21 rfl rfl)
theorem dX6_completes_70 : decode cX6_completes 70 = .ok (.lconst 1, 1) := dk_10 (dk_at dksX6_completes_2 22 rfl rfl)
theorem dX6_completes_71 : decode cX6_completes 71 = .ok (.lastore, 1) := dk_80 (dk_at dksX6_completes_2 23 rfl rfl)
theorem dX6_completes_72 : decode cX6_completes 72 = .ok (.aload_n 0, 1) := dk_42 (dk_at dksX6_completes_3 0 rfl rfl)
theorem dX6_completes_73 : decode cX6_completes 73 = .ok (.getfield 73, 3) := dk_180 0 73 (dk_at dksX6_completes_3 1 rfl rfl)
theorem dX6_completes_76 : decode cX6_completes 76 = .ok (.iload_n 3, 1) := dk_29 (dk_at dksX6_completes_3 4 rfl rfl)
theorem dX6_completes_77 : decode cX6_completes 77 = .ok (.iconst 0, 1) := dk_3 (dk_at dksX6_completes_3 5 rfl rfl)
theorem dX6_completes_78 : decode cX6_completes 78 = .ok (.iastore, 1) := dk_79 (dk_at dksX6_completes_3 6 rfl rfl)
theorem dX6_completes_79 : decode cX6_completes 79 = .ok (.aload_n 0, 1) := dk_42 (dk_at dksX6_completes_3 7 rfl rfl)
theorem dX6_completes_80 : decode cX6_completes 80 = .ok (.getfield 76, 3) := dk_180 0 76 (dk_at dksX6_completes_3 8 rfl rfl)
theorem dX6_completes_83 : decode cX6_completes 83 = .ok (.iload_n 3, 1) := dk_29 (dk_at dksX6_completes_3 11 rfl rfl)
theorem dX6_completes_84 : decode cX6_completes 84 = .ok (.aload_n 0, 1) := dk_42 (dk_at dksX6_completes_3 12 rfl rfl)
theorem dX6_completes_85 : decode cX6_completes 85 = .ok (.getfield 238, 3) := dk_180 0 238 (dk_at dksX6_completes_3 13 rfl rfl)
theorem dX6_completes_88 : decode cX6_completes 88 = .ok (.iastore, 1) := dk_79 (dk_at dksX6_completes_3 16 rfl rfl)
theorem dX6_completes_89 : decode cX6_completes 89 = .ok (.aload_n 0, 1) := dk_42 (dk_at dksX6_completes_3 17 rfl rfl)
theorem dX6_completes_90 : decode cX6_completes 90 = .ok (.getfield 79, 3) := dk_180 0 79 (dk_at dksX6_completes_3 18 rfl rfl)
theorem dX6_completes_93 : decode cX6_completes 93 = .ok (.iload_n 3, 1) := dk_29 (dk_at dksX6_completes_3 21 rfl rfl)
theorem dX6_completes_94 : decode cX6_completes 94 = .ok (.aload_n 0, 1) := dk_42 (dk_at dksX6_completes_3 22 rfl rfl)
theorem dX6_completes_95 : decode cX6_completes 95 = .ok (.getfield 238, 3) := dk_180 0 238 (dk_at dksX6_completes_4 0 rfl rfl)
theorem dX6_completes_98 : decode cX6_completes 98 = .ok (.iastore, 1) := dk_79 (dk_at dksX6_completes_4 3 rfl rfl)
theorem dX6_completes_99 : decode cX6_completes 99 = .ok (.iload_n 3, 1) := dk_29 (dk_at dksX6_completes_4 4 rfl rfl)
theorem dX6_completes_100 : decode cX6_completes 100 = .ok (.ireturn, 1) := dk_172 (dk_at dksX6_completes_4 5 rfl rfl)
theorem dX6_completes_101 : decode cX6_completes 101 = .ok (.aload_n 0, 1) := dk_42 (dk_at dksX6_completes_4 6 rfl rfl)
theorem dX6_completes_102 : decode cX6_completes 102 = .ok (.iload_n 1, 1) := dk_27 (dk_at dksX6_completes_4 7 rfl rfl)
theorem dX6_completes_103 : decode cX6_completes 103 = .ok (.iload_n 2, 1) := dk_28 (dk_at dksX6_completes_4 8 rfl rfl)
theorem dX6_completes_104 : decode cX6_completes 104 = .ok (.invokevirtual 418, 3) := dk_182 1 162 (dk_at dksX6_completes_4 9 rfl rfl)
theorem dX6_completes_107 : decode cX6_completes 107 = .ok (.ifCond .ne 5, 3) := dk_154 0 5 (dk_at dksX6_completes_4 12 rfl rfl)
theorem dX6_completes_110 : decode cX6_completes 110 = .ok (.iload_n 3, 1) := dk_29 (dk_at dksX6_completes_4 15 rfl rfl)
theorem dX6_completes_111 : decode cX6_completes 111 = .ok (.ireturn, 1) := dk_172 (dk_at dksX6_completes_4 16 rfl rfl)
theorem dX6_completes_112 : decode cX6_completes 112 = .ok (.aload_n 0, 1) := dk_42 (dk_at dksX6_completes_4 17 rfl rfl)
theorem dX6_completes_113 : decode cX6_completes 113 = .ok (.iload_n 1, 1) := dk_27 (dk_at dksX6_completes_4 18 rfl rfl)
theorem dX6_completes_114 : decode cX6_completes 114 = .ok (.iload_n 2, 1) := dk_28 (dk_at dksX6_completes_4 19 rfl rfl)
theorem dX6_completes_115 : decode cX6_completes 115 = .ok (.invokevirtual 400, 3) := dk_182 1 144 (dk_at dksX6_completes_4 20 rfl rfl)
theorem dX6_completes_118 : decode cX6_completes 118 = .ok (.ldc2_w 272, 3) := dk_20 1 16 (dk_at dksX6_completes_5 0 rfl rfl)
theorem dX6_completes_121 : decode cX6_completes 121 = .ok (.ldiv, 1) := dk_109 (dk_at dksX6_completes_5 3 rfl rfl)
theorem dX6_completes_122 : decode cX6_completes 122 = .ok (.l2i, 1) := dk_136 (dk_at dksX6_completes_5 4 rfl rfl)
theorem dX6_completes_123 : decode cX6_completes 123 = .ok (.istore 4, 2) := dk_54 4 (dk_at dksX6_completes_5 5 rfl rfl)
theorem dX6_completes_125 : decode cX6_completes 125 = .ok (.aload_n 0, 1) := dk_42 (dk_at dksX6_completes_5 7 rfl rfl)
theorem dX6_completes_126 : decode cX6_completes 126 = .ok (.iload_n 1, 1) := dk_27 (dk_at dksX6_completes_5 8 rfl rfl)
theorem dX6_completes_127 : decode cX6_completes 127 = .ok (.iload_n 2, 1) := dk_28 (dk_at dksX6_completes_5 9 rfl rfl)
theorem dX6_completes_128 : decode cX6_completes 128 = .ok (.invokevirtual 400, 3) := dk_182 1 144 (dk_at dksX6_completes_5 10 rfl rfl)
theorem dX6_completes_131 : decode cX6_completes 131 = .ok (.ldc2_w 272, 3) := dk_20 1 16 (dk_at dksX6_completes_5 13 rfl rfl)
theorem dX6_completes_134 : decode cX6_completes 134 = .ok (.lrem, 1) := dk_113 (dk_at dksX6_completes_5 16 rfl rfl)
theorem dX6_completes_135 : decode cX6_completes 135 = .ok (.l2i, 1) := dk_136 (dk_at dksX6_completes_5 17 rfl rfl)
theorem dX6_completes_136 : decode cX6_completes 136 = .ok (.istore 5, 2) := dk_54 5 (dk_at dksX6_completes_5 18 rfl rfl)
theorem dX6_completes_138 : decode cX6_completes 138 = .ok (.aload_n 0, 1) := dk_42 (dk_at dksX6_completes_5 20 rfl rfl)
theorem dX6_completes_139 : decode cX6_completes 139 = .ok (.getfield 238, 3) := dk_180 0 238 (dk_at dksX6_completes_5 21 rfl rfl)
theorem dX6_completes_142 : decode cX6_completes 142 = .ok (.istore 6, 2) := dk_54 6 (dk_at dksX6_completes_6 0 rfl rfl)
theorem dX6_completes_144 : decode cX6_completes 144 = .ok (.aload_n 0, 1) := dk_42 (dk_at dksX6_completes_6 2 rfl rfl)
theorem dX6_completes_145 : decode cX6_completes 145 = .ok (.getfield 244, 3) := dk_180 0 244 (dk_at dksX6_completes_6 3 rfl rfl)
theorem dX6_completes_148 : decode cX6_completes 148 = .ok (.istore 7, 2) := dk_54 7 (dk_at dksX6_completes_6 6 rfl rfl)
theorem dX6_completes_150 : decode cX6_completes 150 = .ok (.aload_n 0, 1) := dk_42 (dk_at dksX6_completes_6 8 rfl rfl)
theorem dX6_completes_151 : decode cX6_completes 151 = .ok (.getfield 247, 3) := dk_180 0 247 (dk_at dksX6_completes_6 9 rfl rfl)
theorem dX6_completes_154 : decode cX6_completes 154 = .ok (.istore 8, 2) := dk_54 8 (dk_at dksX6_completes_6 12 rfl rfl)
theorem dX6_completes_156 : decode cX6_completes 156 = .ok (.iconst 0, 1) := dk_3 (dk_at dksX6_completes_6 14 rfl rfl)
theorem dX6_completes_157 : decode cX6_completes 157 = .ok (.istore 9, 2) := dk_54 9 (dk_at dksX6_completes_6 15 rfl rfl)
theorem dX6_completes_159 : decode cX6_completes 159 = .ok (.iload 9, 2) := dk_21 9 (dk_at dksX6_completes_6 17 rfl rfl)
theorem dX6_completes_161 : decode cX6_completes 161 = .ok (.aload_n 0, 1) := dk_42 (dk_at dksX6_completes_6 19 rfl rfl)
theorem dX6_completes_162 : decode cX6_completes 162 = .ok (.getfield 34, 3) := dk_180 0 34 (dk_at dksX6_completes_6 20 rfl rfl)
theorem dX6_completes_165 : decode cX6_completes 165 = .ok (.iconst 2, 1) := dk_5 (dk_at dksX6_completes_6 23 rfl rfl)
theorem dX6_completes_166 : decode cX6_completes 166 = .ok (.iaload, 1) := dk_46 (dk_at dksX6_completes_7 0 rfl rfl)
theorem dX6_completes_167 : decode cX6_completes 167 = .ok (.if_icmp .ge 262, 3) := dk_162 1 6 (dk_at dksX6_completes_7 1 rfl rfl)
theorem dX6_completes_170 : decode cX6_completes 170 = .ok (.iconst (-1), 1) := dk_2 (dk_at dksX6_completes_7 4 rfl rfl)
theorem dX6_completes_171 : decode cX6_completes 171 = .ok (.istore 10, 2) := dk_54 10 (dk_at dksX6_completes_7 5 rfl rfl)
theorem dX6_completes_173 : decode cX6_completes 173 = .ok (.iload 10, 2) := dk_21 10 (dk_at dksX6_completes_7 7 rfl rfl)
theorem dX6_completes_175 : decode cX6_completes 175 = .ok (.aload_n 0, 1) := dk_42 (dk_at dksX6_completes_7 9 rfl rfl)
theorem dX6_completes_176 : decode cX6_completes 176 = .ok (.getfield 34, 3) := dk_180 0 34 (dk_at dksX6_completes_7 10 rfl rfl)
theorem dX6_completes_179 : decode cX6_completes 179 = .ok (.iconst 2, 1) := dk_5 (dk_at dksX6_completes_7 13 rfl rfl)
theorem dX6_completes_180 : decode cX6_completes 180 = .ok (.iaload, 1) := dk_46 (dk_at dksX6_completes_7 14 rfl rfl)
theorem dX6_completes_181 : decode cX6_completes 181 = .ok (.if_icmp .ge 242, 3) := dk_162 0 242 (dk_at dksX6_completes_7 15 rfl rfl)
theorem dX6_completes_184 : decode cX6_completes 184 = .ok (.aload_n 0, 1) := dk_42 (dk_at dksX6_completes_7 18 rfl rfl)
theorem dX6_completes_185 : decode cX6_completes 185 = .ok (.iload 9, 2) := dk_21 9 (dk_at dksX6_completes_7 19 rfl rfl)
theorem dX6_completes_187 : decode cX6_completes 187 = .ok (.invokevirtual 253, 3) := dk_182 0 253 (dk_at dksX6_completes_7 21 rfl rfl)
theorem dX6_completes_190 : decode cX6_completes 190 = .ok (.iload 5, 2) := dk_21 5 (dk_at dksX6_completes_8 0 rfl rfl)
theorem dX6_completes_192 : decode cX6_completes 192 = .ok (.if_icmp .ne 225, 3) := dk_160 0 225 (dk_at dksX6_completes_8 2 rfl rfl)
theorem dX6_completes_195 : decode cX6_completes 195 = .ok (.aload_n 0, 1) := dk_42 (dk_at dksX6_completes_8 5 rfl rfl)
theorem dX6_completes_196 : decode cX6_completes 196 = .ok (.getfield 34, 3) := dk_180 0 34 (dk_at dksX6_completes_8 6 rfl rfl)
theorem dX6_completes_199 : decode cX6_completes 199 = .ok (.iconst 4, 1) := dk_7 (dk_at dksX6_completes_8 9 rfl rfl)
theorem dX6_completes_200 : decode cX6_completes 200 = .ok (.iaload, 1) := dk_46 (dk_at dksX6_completes_8 10 rfl rfl)
theorem dX6_completes_201 : decode cX6_completes 201 = .ok (.iload 9, 2) := dk_21 9 (dk_at dksX6_completes_8 11 rfl rfl)
theorem dX6_completes_203 : decode cX6_completes 203 = .ok (.invokestatic 189, 3) := dk_184 0 189 (dk_at dksX6_completes_8 13 rfl rfl)
theorem dX6_completes_206 : decode cX6_completes 206 = .ok (.ifCond .ne 211, 3) := dk_154 0 211 (dk_at dksX6_completes_8 16 rfl rfl)
theorem dX6_completes_209 : decode cX6_completes 209 = .ok (.aload_n 0, 1) := dk_42 (dk_at dksX6_completes_8 19 rfl rfl)
theorem dX6_completes_210 : decode cX6_completes 210 = .ok (.iload 9, 2) := dk_21 9 (dk_at dksX6_completes_8 20 rfl rfl)
theorem dX6_completes_212 : decode cX6_completes 212 = .ok (.iload 4, 2) := dk_21 4 (dk_at dksX6_completes_8 22 rfl rfl)
theorem dX6_completes_214 : decode cX6_completes 214 = .ok (.ifCond .ne 10, 3) := dk_154 0 10 (dk_at dksX6_completes_9 0 rfl rfl)
theorem dX6_completes_217 : decode cX6_completes 217 = .ok (.aload_n 0, 1) := dk_42 (dk_at dksX6_completes_9 3 rfl rfl)
theorem dX6_completes_218 : decode cX6_completes 218 = .ok (.getfield 244, 3) := dk_180 0 244 (dk_at dksX6_completes_9 4 rfl rfl)
theorem dX6_completes_221 : decode cX6_completes 221 = .ok (.goto 7, 3) := dk_167 0 7 (dk_at dksX6_completes_9 7 rfl rfl)
theorem dX6_completes_224 : decode cX6_completes 224 = .ok (.aload_n 0, 1) := dk_42 (dk_at dksX6_completes_9 10 rfl rfl)
theorem dX6_completes_225 : decode cX6_completes 225 = .ok (.getfield 247, 3) := dk_180 0 247 (dk_at dksX6_completes_9 11 rfl rfl)
theorem dX6_completes_228 : decode cX6_completes 228 = .ok (.iload 4, 2) := dk_21 4 (dk_at dksX6_completes_9 14 rfl rfl)
theorem dX6_completes_230 : decode cX6_completes 230 = .ok (.invokevirtual 256, 3) := dk_182 1 0 (dk_at dksX6_completes_9 16 rfl rfl)
theorem dX6_completes_233 : decode cX6_completes 233 = .ok (.ifCond .ne 6, 3) := dk_154 0 6 (dk_at dksX6_completes_9 19 rfl rfl)
theorem dX6_completes_236 : decode cX6_completes 236 = .ok (.goto 181, 3) := dk_167 0 181 (dk_at dksX6_completes_10 0 rfl rfl)
theorem dX6_completes_239 : decode cX6_completes 239 = .ok (.iload 10, 2) := dk_21 10 (dk_at dksX6_completes_10 3 rfl rfl)
theorem dX6_completes_241 : decode cX6_completes 241 = .ok (.iconst (-1), 1) := dk_2 (dk_at dksX6_completes_10 5 rfl rfl)
theorem dX6_completes_242 : decode cX6_completes 242 = .ok (.if_icmp .eq 31, 3) := dk_159 0 31 (dk_at dksX6_completes_10 6 rfl rfl)
theorem dX6_completes_245 : decode cX6_completes 245 = .ok (.aload_n 0, 1) := dk_42 (dk_at dksX6_completes_10 9 rfl rfl)
theorem dX6_completes_246 : decode cX6_completes 246 = .ok (.getfield 34, 3) := dk_180 0 34 (dk_at dksX6_completes_10 10 rfl rfl)
theorem dX6_completes_249 : decode cX6_completes 249 = .ok (.iconst 4, 1) := dk_7 (dk_at dksX6_completes_10 13 rfl rfl)
theorem dX6_completes_250 : decode cX6_completes 250 = .ok (.iaload, 1) := dk_46 (dk_at dksX6_completes_10 14 rfl rfl)
theorem dX6_completes_251 : decode cX6_completes 251 = .ok (.iload 10, 2) := dk_21 10 (dk_at dksX6_completes_10 15 rfl rfl)
theorem dX6_completes_253 : decode cX6_completes 253 = .ok (.invokestatic 189, 3) := dk_184 0 189 (dk_at dksX6_completes_10 17 rfl rfl)
theorem dX6_completes_256 : decode cX6_completes 256 = .ok (.ifCond .eq 161, 3) := dk_153 0 161 (dk_at dksX6_completes_10 20 rfl rfl)
theorem dX6_completes_259 : decode cX6_completes 259 = .ok (.aload_n 0, 1) := dk_42 (dk_at dksX6_completes_10 23 rfl rfl)
theorem dX6_completes_260 : decode cX6_completes 260 = .ok (.iload 10, 2) := dk_21 10 (dk_at dksX6_completes_11 0 rfl rfl)
theorem dX6_completes_262 : decode cX6_completes 262 = .ok (.invokevirtual 253, 3) := dk_182 0 253 (dk_at dksX6_completes_11 2 rfl rfl)
theorem dX6_completes_265 : decode cX6_completes 265 = .ok (.iload 5, 2) := dk_21 5 (dk_at dksX6_completes_11 5 rfl rfl)
theorem dX6_completes_267 : decode cX6_completes 267 = .ok (.if_icmp .eq 6, 3) := dk_159 0 6 (dk_at dksX6_completes_11 7 rfl rfl)
theorem dX6_completes_270 : decode cX6_completes 270 = .ok (.goto 147, 3) := dk_167 0 147 (dk_at dksX6_completes_11 10 rfl rfl)
theorem dX6_completes_273 : decode cX6_completes 273 = .ok (.aload_n 0, 1) := dk_42 (dk_at dksX6_completes_11 13 rfl rfl)
theorem dX6_completes_274 : decode cX6_completes 274 = .ok (.iload 9, 2) := dk_21 9 (dk_at dksX6_completes_11 14 rfl rfl)
theorem dX6_completes_276 : decode cX6_completes 276 = .ok (.iload 10, 2) := dk_21 10 (dk_at dksX6_completes_11 16 rfl rfl)
theorem dX6_completes_278 : decode cX6_completes 278 = .ok (.iload 4, 2) := dk_21 4 (dk_at dksX6_completes_11 18 rfl rfl)
theorem dX6_completes_280 : decode cX6_completes 280 = .ok (.invokevirtual 278, 3) := dk_182 1 22 (dk_at dksX6_completes_11 20 rfl rfl)
theorem dX6_completes_283 : decode cX6_completes 283 = .ok (.aload_n 0, 1) := dk_42 (dk_at dksX6_completes_11 23 rfl rfl)
theorem dX6_completes_284 : decode cX6_completes 284 = .ok (.iload_n 1, 1) := dk_27 (dk_at dksX6_completes_12 0 rfl rfl)
theorem dX6_completes_285 : decode cX6_completes 285 = .ok (.iload_n 2, 1) := dk_28 (dk_at dksX6_completes_12 1 rfl rfl)
theorem dX6_completes_286 : decode cX6_completes 286 = .ok (.iconst 1, 1) := dk_4 (dk_at dksX6_completes_12 2 rfl rfl)
theorem dX6_completes_287 : decode cX6_completes 287 = .ok (.iadd, 1) := dk_96 (dk_at dksX6_completes_12 3 rfl rfl)
theorem dX6_completes_288 : decode cX6_completes 288 = .ok (.invokevirtual 421, 3) := dk_182 1 165 (dk_at dksX6_completes_12 4 rfl rfl)
theorem dX6_completes_291 : decode cX6_completes 291 = .ok (.istore 11, 2) := dk_54 11 (dk_at dksX6_completes_12 7 rfl rfl)
theorem dX6_completes_293 : decode cX6_completes 293 = .ok (.aload_n 0, 1) := dk_42 (dk_at dksX6_completes_12 9 rfl rfl)
theorem dX6_completes_294 : decode cX6_completes 294 = .ok (.getfield 70, 3) := dk_180 0 70 (dk_at dksX6_completes_12 10 rfl rfl)
theorem dX6_completes_297 : decode cX6_completes 297 = .ok (.iload 11, 2) := dk_21 11 (dk_at dksX6_completes_12 13 rfl rfl)
theorem dX6_completes_299 : decode cX6_completes 299 = .ok (.laload, 1) := dk_47 (dk_at dksX6_completes_12 15 rfl rfl)
theorem dX6_completes_300 : decode cX6_completes 300 = .ok (.lconst 0, 1) := dk_9 (dk_at dksX6_completes_12 16 rfl rfl)
theorem dX6_completes_301 : decode cX6_completes 301 = .ok (.lcmp, 1) := dk_148 (dk_at dksX6_completes_12 17 rfl rfl)
theorem dX6_completes_302 : decode cX6_completes 302 = .ok (.ifCond .le 97, 3) := dk_158 0 97 (dk_at dksX6_completes_12 18 rfl rfl)
theorem dX6_completes_305 : decode cX6_completes 305 = .ok (.aload_n 0, 1) := dk_42 (dk_at dksX6_completes_12 21 rfl rfl)
theorem dX6_completes_306 : decode cX6_completes 306 = .ok (.getfield 70, 3) := dk_180 0 70 (dk_at dksX6_completes_13 0 rfl rfl)
theorem dX6_completes_309 : decode cX6_completes 309 = .ok (.iload_n 3, 1) := dk_29 (dk_at dksX6_completes_13 3 rfl rfl)
theorem dX6_completes_310 : decode cX6_completes 310 = .ok (.dup2, 1) := dk_92 (dk_at dksX6_completes_13 4 rfl rfl)
theorem dX6_completes_311 : decode cX6_completes 311 = .ok (.laload, 1) := dk_47 (dk_at dksX6_completes_13 5 rfl rfl)
theorem dX6_completes_312 : decode cX6_completes 312 = .ok (.aload_n 0, 1) := dk_42 (dk_at dksX6_completes_13 6 rfl rfl)
theorem dX6_completes_313 : decode cX6_completes 313 = .ok (.getfield 70, 3) := dk_180 0 70 (dk_at dksX6_completes_13 7 rfl rfl)
theorem dX6_completes_316 : decode cX6_completes 316 = .ok (.iload 11, 2) := dk_21 11 (dk_at dksX6_completes_13 10 rfl rfl)
theorem dX6_completes_318 : decode cX6_completes 318 = .ok (.laload, 1) := dk_47 (dk_at dksX6_completes_13 12 rfl rfl)
theorem dX6_completes_319 : decode cX6_completes 319 = .ok (.ladd, 1) := dk_97 (dk_at dksX6_completes_13 13 rfl rfl)
theorem dX6_completes_320 : decode cX6_completes 320 = .ok (.lastore, 1) := dk_80 (dk_at dksX6_completes_13 14 rfl rfl)
theorem dX6_completes_321 : decode cX6_completes 321 = .ok (.aload_n 0, 1) := dk_42 (dk_at dksX6_completes_13 15 rfl rfl)
theorem dX6_completes_322 : decode cX6_completes 322 = .ok (.getfield 73, 3) := dk_180 0 73 (dk_at dksX6_completes_13 16 rfl rfl)
theorem dX6_completes_325 : decode cX6_completes 325 = .ok (.iload 11, 2) := dk_21 11 (dk_at dksX6_completes_13 19 rfl rfl)
theorem dX6_completes_327 : decode cX6_completes 327 = .ok (.iaload, 1) := dk_46 (dk_at dksX6_completes_13 21 rfl rfl)
theorem dX6_completes_328 : decode cX6_completes 328 = .ok (.aload_n 0, 1) := dk_42 (dk_at dksX6_completes_13 22 rfl rfl)
theorem dX6_completes_329 : decode cX6_completes 329 = .ok (.iload 9, 2) := dk_21 9 (dk_at dksX6_completes_14 0 rfl rfl)
theorem dX6_completes_331 : decode cX6_completes 331 = .ok (.iload 4, 2) := dk_21 4 (dk_at dksX6_completes_14 2 rfl rfl)
theorem dX6_completes_333 : decode cX6_completes 333 = .ok (.invokevirtual 300, 3) := dk_182 1 44 (dk_at dksX6_completes_14 4 rfl rfl)
theorem dX6_completes_336 : decode cX6_completes 336 = .ok (.iadd, 1) := dk_96 (dk_at dksX6_completes_14 7 rfl rfl)
theorem dX6_completes_337 : decode cX6_completes 337 = .ok (.istore 12, 2) := dk_54 12 (dk_at dksX6_completes_14 8 rfl rfl)
theorem dX6_completes_339 : decode cX6_completes 339 = .ok (.aload_n 0, 1) := dk_42 (dk_at dksX6_completes_14 10 rfl rfl)
theorem dX6_completes_340 : decode cX6_completes 340 = .ok (.getfield 73, 3) := dk_180 0 73 (dk_at dksX6_completes_14 11 rfl rfl)
theorem dX6_completes_343 : decode cX6_completes 343 = .ok (.iload_n 3, 1) := dk_29 (dk_at dksX6_completes_14 14 rfl rfl)
theorem dX6_completes_344 : decode cX6_completes 344 = .ok (.iload 12, 2) := dk_21 12 (dk_at dksX6_completes_14 15 rfl rfl)
theorem dX6_completes_346 : decode cX6_completes 346 = .ok (.aload_n 0, 1) := dk_42 (dk_at dksX6_completes_14 17 rfl rfl)
theorem dX6_completes_347 : decode cX6_completes 347 = .ok (.getfield 73, 3) := dk_180 0 73 (dk_at dksX6_completes_14 18 rfl rfl)
theorem dX6_completes_350 : decode cX6_completes 350 = .ok (.iload_n 3, 1) := dk_29 (dk_at dksX6_completes_14 21 rfl rfl)
theorem dX6_completes_351 : decode cX6_completes 351 = .ok (.iaload, 1) := dk_46 (dk_at dksX6_completes_14 22 rfl rfl)
theorem dX6_completes_352 : decode cX6_completes 352 = .ok (.if_icmp .ge 8, 3) := dk_162 0 8 (dk_at dksX6_completes_15 0 rfl rfl)
theorem dX6_completes_355 : decode cX6_completes 355 = .ok (.iload 12, 2) := dk_21 12 (dk_at dksX6_completes_15 3 rfl rfl)
theorem dX6_completes_357 : decode cX6_completes 357 = .ok (.goto 9, 3) := dk_167 0 9 (dk_at dksX6_completes_15 5 rfl rfl)
theorem dX6_completes_360 : decode cX6_completes 360 = .ok (.aload_n 0, 1) := dk_42 (dk_at dksX6_completes_15 8 rfl rfl)
theorem dX6_completes_361 : decode cX6_completes 361 = .ok (.getfield 73, 3) := dk_180 0 73 (dk_at dksX6_completes_15 9 rfl rfl)
theorem dX6_completes_364 : decode cX6_completes 364 = .ok (.iload_n 3, 1) := dk_29 (dk_at dksX6_completes_15 12 rfl rfl)
theorem dX6_completes_365 : decode cX6_completes 365 = .ok (.iaload, 1) := dk_46 (dk_at dksX6_completes_15 13 rfl rfl)
theorem dX6_completes_366 : decode cX6_completes 366 = .ok (.iastore, 1) := dk_79 (dk_at dksX6_completes_15 14 rfl rfl)
theorem dX6_completes_367 : decode cX6_completes 367 = .ok (.aload_n 0, 1) := dk_42 (dk_at dksX6_completes_15 15 rfl rfl)
theorem dX6_completes_368 : decode cX6_completes 368 = .ok (.getfield 76, 3) := dk_180 0 76 (dk_at dksX6_completes_15 16 rfl rfl)
theorem dX6_completes_371 : decode cX6_completes 371 = .ok (.iload_n 3, 1) := dk_29 (dk_at dksX6_completes_15 19 rfl rfl)
theorem dX6_completes_372 : decode cX6_completes 372 = .ok (.dup2, 1) := dk_92 (dk_at dksX6_completes_15 20 rfl rfl)
theorem dX6_completes_373 : decode cX6_completes 373 = .ok (.iaload, 1) := dk_46 (dk_at dksX6_completes_15 21 rfl rfl)
theorem dX6_completes_374 : decode cX6_completes 374 = .ok (.aload_n 0, 1) := dk_42 (dk_at dksX6_completes_15 22 rfl rfl)
theorem dX6_completes_375 : decode cX6_completes 375 = .ok (.getfield 76, 3) := dk_180 0 76 (dk_at dksX6_completes_16 0 rfl rfl)
theorem dX6_completes_378 : decode cX6_completes 378 = .ok (.iload 11, 2) := dk_21 11 (dk_at dksX6_completes_16 3 rfl rfl)
theorem dX6_completes_380 : decode cX6_completes 380 = .ok (.iaload, 1) := dk_46 (dk_at dksX6_completes_16 5 rfl rfl)
theorem dX6_completes_381 : decode cX6_completes 381 = .ok (.iand, 1) := dk_126 (dk_at dksX6_completes_16 6 rfl rfl)
theorem dX6_completes_382 : decode cX6_completes 382 = .ok (.iastore, 1) := dk_79 (dk_at dksX6_completes_16 7 rfl rfl)
theorem dX6_completes_383 : decode cX6_completes 383 = .ok (.aload_n 0, 1) := dk_42 (dk_at dksX6_completes_16 8 rfl rfl)
theorem dX6_completes_384 : decode cX6_completes 384 = .ok (.getfield 79, 3) := dk_180 0 79 (dk_at dksX6_completes_16 9 rfl rfl)
theorem dX6_completes_387 : decode cX6_completes 387 = .ok (.iload_n 3, 1) := dk_29 (dk_at dksX6_completes_16 12 rfl rfl)
theorem dX6_completes_388 : decode cX6_completes 388 = .ok (.dup2, 1) := dk_92 (dk_at dksX6_completes_16 13 rfl rfl)
theorem dX6_completes_389 : decode cX6_completes 389 = .ok (.iaload, 1) := dk_46 (dk_at dksX6_completes_16 14 rfl rfl)
theorem dX6_completes_390 : decode cX6_completes 390 = .ok (.aload_n 0, 1) := dk_42 (dk_at dksX6_completes_16 15 rfl rfl)
theorem dX6_completes_391 : decode cX6_completes 391 = .ok (.getfield 79, 3) := dk_180 0 79 (dk_at dksX6_completes_16 16 rfl rfl)
theorem dX6_completes_394 : decode cX6_completes 394 = .ok (.iload 11, 2) := dk_21 11 (dk_at dksX6_completes_16 19 rfl rfl)
theorem dX6_completes_396 : decode cX6_completes 396 = .ok (.iaload, 1) := dk_46 (dk_at dksX6_completes_16 21 rfl rfl)
theorem dX6_completes_397 : decode cX6_completes 397 = .ok (.ior, 1) := dk_128 (dk_at dksX6_completes_16 22 rfl rfl)
theorem dX6_completes_398 : decode cX6_completes 398 = .ok (.iastore, 1) := dk_79 (dk_at dksX6_completes_16 23 rfl rfl)
theorem dX6_completes_399 : decode cX6_completes 399 = .ok (.aload_n 0, 1) := dk_42 (dk_at dksX6_completes_17 0 rfl rfl)
theorem dX6_completes_400 : decode cX6_completes 400 = .ok (.iload 6, 2) := dk_21 6 (dk_at dksX6_completes_17 1 rfl rfl)
theorem dX6_completes_402 : decode cX6_completes 402 = .ok (.putfield 238, 3) := dk_181 0 238 (dk_at dksX6_completes_17 3 rfl rfl)
theorem dX6_completes_405 : decode cX6_completes 405 = .ok (.aload_n 0, 1) := dk_42 (dk_at dksX6_completes_17 6 rfl rfl)
theorem dX6_completes_406 : decode cX6_completes 406 = .ok (.iload 7, 2) := dk_21 7 (dk_at dksX6_completes_17 7 rfl rfl)
theorem dX6_completes_408 : decode cX6_completes 408 = .ok (.putfield 244, 3) := dk_181 0 244 (dk_at dksX6_completes_17 9 rfl rfl)
theorem dX6_completes_411 : decode cX6_completes 411 = .ok (.aload_n 0, 1) := dk_42 (dk_at dksX6_completes_17 12 rfl rfl)
theorem dX6_completes_412 : decode cX6_completes 412 = .ok (.iload 8, 2) := dk_21 8 (dk_at dksX6_completes_17 13 rfl rfl)
theorem dX6_completes_414 : decode cX6_completes 414 = .ok (.putfield 247, 3) := dk_181 0 247 (dk_at dksX6_completes_17 15 rfl rfl)
theorem dX6_completes_417 : decode cX6_completes 417 = .ok (.iinc 10 1, 3) := dk_132 10 1 (dk_at dksX6_completes_17 18 rfl rfl)
theorem dX6_completes_420 : decode cX6_completes 420 = .ok (.goto (-247), 3) := dk_167 255 9 (dk_at dksX6_completes_17 21 rfl rfl)
theorem dX6_completes_423 : decode cX6_completes 423 = .ok (.iinc 9 1, 3) := dk_132 9 1 (dk_at dksX6_completes_18 0 rfl rfl)
theorem dX6_completes_426 : decode cX6_completes 426 = .ok (.goto (-267), 3) := dk_167 254 245 (dk_at dksX6_completes_18 3 rfl rfl)
theorem dX6_completes_429 : decode cX6_completes 429 = .ok (.iload_n 3, 1) := dk_29 (dk_at dksX6_completes_18 6 rfl rfl)
theorem dX6_completes_430 : decode cX6_completes 430 = .ok (.ireturn, 1) := dk_172 (dk_at dksX6_completes_18 7 rfl rfl)
theorem gespM_0_41_X6 {p : Program} {l : Launch} {e : Env} {R : Room} {s : State} {m : MethodId} {args : Array Value} {below : List Frame} {meth : Method} {c : Code} {cc : ByteArray} {nL : Nat} {ret : Option FieldType} {D : va_G} {E : List wCell} {q : Nat → Nat} {ca : wCA} {A : Nat → Prop} {Q : State → Prop} {kc ks : Nat} {μ : wMem} {lv : List (Nat × Value)} {st : List Value} (pc : Nat) (C : wC p R s m args meth c cc "OnePassportModel" nL ret D vwCl (spM ++ E) q ca A) (hd : decode cc pc = .ok (.getfield 70, 3)) (k : wJ p l e R s m args below meth c nL D vwCl (spM ++ E) q ca A Q kc ks μ (pc + 3) lv (.ref (q 18) :: st)) : wJ p l e R s m args below meth c nL D vwCl (spM ++ E) q ca A Q kc ks μ pc lv (.ref (q 0) :: st) := wr_getR pc 41 C hd spM_0 rfl in_X6 (by decide) rfl q1440 k
theorem gespM_0_42_X6 {p : Program} {l : Launch} {e : Env} {R : Room} {s : State} {m : MethodId} {args : Array Value} {below : List Frame} {meth : Method} {c : Code} {cc : ByteArray} {nL : Nat} {ret : Option FieldType} {D : va_G} {E : List wCell} {q : Nat → Nat} {ca : wCA} {A : Nat → Prop} {Q : State → Prop} {kc ks : Nat} {μ : wMem} {lv : List (Nat × Value)} {st : List Value} (pc : Nat) (C : wC p R s m args meth c cc "OnePassportModel" nL ret D vwCl (spM ++ E) q ca A) (hd : decode cc pc = .ok (.getfield 73, 3)) (k : wJ p l e R s m args below meth c nL D vwCl (spM ++ E) q ca A Q kc ks μ (pc + 3) lv (.ref (q 19) :: st)) : wJ p l e R s m args below meth c nL D vwCl (spM ++ E) q ca A Q kc ks μ pc lv (.ref (q 0) :: st) := wr_getR pc 42 C hd spM_0 rfl in_X6 (by decide) rfl q1441 k
theorem gespM_0_43_X6 {p : Program} {l : Launch} {e : Env} {R : Room} {s : State} {m : MethodId} {args : Array Value} {below : List Frame} {meth : Method} {c : Code} {cc : ByteArray} {nL : Nat} {ret : Option FieldType} {D : va_G} {E : List wCell} {q : Nat → Nat} {ca : wCA} {A : Nat → Prop} {Q : State → Prop} {kc ks : Nat} {μ : wMem} {lv : List (Nat × Value)} {st : List Value} (pc : Nat) (C : wC p R s m args meth c cc "OnePassportModel" nL ret D vwCl (spM ++ E) q ca A) (hd : decode cc pc = .ok (.getfield 76, 3)) (k : wJ p l e R s m args below meth c nL D vwCl (spM ++ E) q ca A Q kc ks μ (pc + 3) lv (.ref (q 20) :: st)) : wJ p l e R s m args below meth c nL D vwCl (spM ++ E) q ca A Q kc ks μ pc lv (.ref (q 0) :: st) := wr_getR pc 43 C hd spM_0 rfl in_X6 (by decide) rfl q1442 k
theorem gespM_0_44_X6 {p : Program} {l : Launch} {e : Env} {R : Room} {s : State} {m : MethodId} {args : Array Value} {below : List Frame} {meth : Method} {c : Code} {cc : ByteArray} {nL : Nat} {ret : Option FieldType} {D : va_G} {E : List wCell} {q : Nat → Nat} {ca : wCA} {A : Nat → Prop} {Q : State → Prop} {kc ks : Nat} {μ : wMem} {lv : List (Nat × Value)} {st : List Value} (pc : Nat) (C : wC p R s m args meth c cc "OnePassportModel" nL ret D vwCl (spM ++ E) q ca A) (hd : decode cc pc = .ok (.getfield 79, 3)) (k : wJ p l e R s m args below meth c nL D vwCl (spM ++ E) q ca A Q kc ks μ (pc + 3) lv (.ref (q 21) :: st)) : wJ p l e R s m args below meth c nL D vwCl (spM ++ E) q ca A Q kc ks μ pc lv (.ref (q 0) :: st) := wr_getR pc 44 C hd spM_0 rfl in_X6 (by decide) rfl q1443 k
theorem okX6_completes : wOkV yX6_completes cX6_completes 13 (some .int) 2 := ⟨q2000, qs127, q145, q2001, by decide, by decide, by decide +kernel⟩
def gbX6_completes_173 (N : Nat) (recF : (Int32 → Int32 → wMem → Option (Int32 × wMem)))  (x1_ : Int32) (x2_ : Int32) (x3_ : Int32) (x4_ : Int32) (x5_ : Int32) (x6_ : Int32) (x7_ : Int32) (x8_ : Int32) (x9_ : Int32) (K : (wMem → Option (Int32 × wMem))) (rec : (Int32 → wMem → Option (Int32 × wMem))) (x10_ : Int32) (μ : wMem) : Option (Int32 × wMem) :=
  wG (ok_in (2 : Int32) 35) (if (μ.1 7 (Int32.toNatClampNeg (2 : Int32))) ≤ x10_ then K  μ else wBind (fX6_sideOf N  x9_ μ) fun v38 μ37 => wLet (fun  (μ39 : wMem) => wLet (x10_ + 1 : Int32) fun x40 => rec x40 μ39) fun Jcompletes417 => if v38 = x5_ then wG (ok_in (4 : Int32) 35) (wBind (fX6_isBit N  (μ37.1 7 (Int32.toNatClampNeg (4 : Int32))) x9_ μ37) fun v45 μ44 => if v45 = 0 then wLet (fun (v48 : Int32) (v49 : Int32) (μ47 : wMem) => wBind (fX6_noses N  v49 v48 x4_ μ47) fun v52 μ51 => if v52 = 0 then Jcompletes417  μ51 else wLet (fun  (μ54 : wMem) => wBindV (fX6_crosses N  x9_ x10_ x4_ μ54) fun μ56 => wBind (recF x1_ (x2_ + (1 : Int32)) μ56) fun v59 μ58 => wG (ok_in v59 40768) (if (μ58.2 18 (Int32.toNatClampNeg v59)) ≤ (0 : Int64) then wLet (wSI μ58 0 23 x6_) fun μ62 => wLet (wSI μ62 0 25 x7_) fun μ63 => wLet (wSI μ63 0 26 x8_) fun μ64 => Jcompletes417  μ64 else wG (ok_in x3_ 40768) (wG (ok_in v59 40768) (wG (ok_in x3_ 40768) (wLet (wSL μ58 18 (Int32.toNatClampNeg x3_) ((μ58.2 18 (Int32.toNatClampNeg x3_)) + (μ58.2 18 (Int32.toNatClampNeg v59)))) fun μ68 => wG (ok_in v59 40768) (wBind (fX6_riskOf N  x9_ x4_ μ68) fun v72 μ71 => wLet ((μ68.1 19 (Int32.toNatClampNeg v59)) + v72 : Int32) fun x73 => wG (ok_in x3_ 40768) (wLet (fun (v76 : Int32) (v77 : Int32) (μ75 : wMem) => wG (ok_in v77 40768) (wLet (wSI μ75 19 (Int32.toNatClampNeg v77) v76) fun μ79 => wG (ok_in x3_ 40768) (wG (ok_in v59 40768) (wG (ok_in x3_ 40768) (wLet (wSI μ79 20 (Int32.toNatClampNeg x3_) ((μ79.1 20 (Int32.toNatClampNeg x3_)) &&& (μ79.1 20 (Int32.toNatClampNeg v59)))) fun μ83 => wG (ok_in x3_ 40768) (wG (ok_in v59 40768) (wG (ok_in x3_ 40768) (wLet (wSI μ83 21 (Int32.toNatClampNeg x3_) ((μ83.1 21 (Int32.toNatClampNeg x3_)) ||| (μ83.1 21 (Int32.toNatClampNeg v59)))) fun μ87 => wLet (wSI μ87 0 23 x6_) fun μ88 => wLet (wSI μ88 0 25 x7_) fun μ89 => wLet (wSI μ89 0 26 x8_) fun μ90 => Jcompletes417  μ90)))))))) fun Jcompletes366 => if (μ71.1 19 (Int32.toNatClampNeg x3_)) ≤ x73 then wG (ok_in x3_ 40768) (Jcompletes366 (μ71.1 19 (Int32.toNatClampNeg x3_)) x3_ μ71) else Jcompletes366 x73 x3_ μ71))))))) fun Jcompletes273 => if x10_ = (-1 : Int32) then Jcompletes273  μ51 else wG (ok_in (4 : Int32) 35) (wBind (fX6_isBit N  (μ51.1 7 (Int32.toNatClampNeg (4 : Int32))) x10_ μ51) fun v97 μ96 => if v97 = 0 then Jcompletes417  μ96 else wBind (fX6_sideOf N  x10_ μ96) fun v101 μ100 => if v101 = x5_ then Jcompletes273  μ100 else Jcompletes417  μ100)) fun Jcompletes228 => if x4_ = 0 then Jcompletes228 (μ44.1 0 25) x9_ μ44 else Jcompletes228 (μ44.1 0 26) x9_ μ44 else Jcompletes417  μ44) else Jcompletes417  μ37)
def gX6_completes_173 (N : Nat) (recF : (Int32 → Int32 → wMem → Option (Int32 × wMem)))  (x1_ : Int32) (x2_ : Int32) (x3_ : Int32) (x4_ : Int32) (x5_ : Int32) (x6_ : Int32) (x7_ : Int32) (x8_ : Int32) (x9_ : Int32) (K : (wMem → Option (Int32 × wMem))) : Nat → (Int32 → wMem → Option (Int32 × wMem))
  | 0 => fun _ _ => none
  | k + 1 => gbX6_completes_173 N recF  x1_ x2_ x3_ x4_ x5_ x6_ x7_ x8_ x9_ K (gX6_completes_173 N recF  x1_ x2_ x3_ x4_ x5_ x6_ x7_ x8_ x9_ K k)
set_option maxHeartbeats 4000000 in
set_option maxRecDepth 100000 in
theorem tX6_completes_173 {p : Program} {l : Launch} {e : Env} {s : State} {m : MethodId} {args : Array Value} {below : List Frame} {meth : Method} {c : Code} {D : va_G} {E : List wCell} {q : Nat → Nat} {ca : wCA} {A : Nat → Prop} {d : Nat} {recF : (Int32 → Int32 → wMem → Option (Int32 × wMem))} (hrec : ∀ (a0 : Int32) (a1 : Int32) (μ : wMem) (r : (Int32 × wMem)), recF a0 a1 μ = some r → wMi l yX6_completes cX6_completes 13 (some .int) ({ frames := d + 2, cells := 0, slots := 0, locals := d * 32 + 49 } : Room) D vwCl (spM ++ E) q ca [.ref (q 0), .int a0, .int a1] μ r) (C : wC p ({ frames := d + 1 + 2, cells := 0, slots := 0, locals := (d + 1) * 32 + 49 } : Room) s m args meth c cX6_completes yX6_completes.cls 13 (some .int) D vwCl (spM ++ E) q ca A) (N : Nat)   (x1_ : Int32) (x2_ : Int32) (x3_ : Int32) (x4_ : Int32) (x5_ : Int32) (x6_ : Int32) (x7_ : Int32) (x8_ : Int32) (x9_ : Int32) (K : (wMem → Option (Int32 × wMem))) (r0 : (Int32 × wMem)) (hK : ∀  (μ : wMem), K  μ = some r0 → wJ p l e ({ frames := d + 1 + 2, cells := 0, slots := 0, locals := (d + 1) * 32 + 49 } : Room) s m args below meth c 13 D vwCl (spM ++ E) q ca A (wQi ({ frames := d + 1 + 2, cells := 0, slots := 0, locals := (d + 1) * 32 + 49 } : Room) D vwCl (spM ++ E) q ca below args s A r0) 0 0 μ 423 [(0, .ref (q 0)), (1, .int x1_), (2, .int x2_), (3, .int x3_), (4, .int x4_), (5, .int x5_), (6, .int x6_), (7, .int x7_), (8, .int x8_), (9, .int x9_)] []) : ∀ (k : Nat) (x10_ : Int32) (μ : wMem), gX6_completes_173 N recF  x1_ x2_ x3_ x4_ x5_ x6_ x7_ x8_ x9_ K k x10_ μ = some r0 → wJ p l e ({ frames := d + 1 + 2, cells := 0, slots := 0, locals := (d + 1) * 32 + 49 } : Room) s m args below meth c 13 D vwCl (spM ++ E) q ca A (wQi ({ frames := d + 1 + 2, cells := 0, slots := 0, locals := (d + 1) * 32 + 49 } : Room) D vwCl (spM ++ E) q ca below args s A r0) 0 0 μ 173 [(0, .ref (q 0)), (1, .int x1_), (2, .int x2_), (3, .int x3_), (4, .int x4_), (5, .int x5_), (6, .int x6_), (7, .int x7_), (8, .int x8_), (9, .int x9_), (10, .int x10_)] [] := by
  intro k
  induction k with
  | zero =>
    intro x10_ μ hf
    cases hf
  | succ k ih =>
    intro x10_ μ hf
    replace hf : gbX6_completes_173 N recF  x1_ x2_ x3_ x4_ x5_ x6_ x7_ x8_ x9_ K (gX6_completes_173 N recF  x1_ x2_ x3_ x4_ x5_ x6_ x7_ x8_ x9_ K k) x10_ μ = some r0 := hf
    unfold gbX6_completes_173 at hf
    refine wr_iload 173 C dX6_completes_173 10 rfl ?_
    refine wr_aload_n 175 C dX6_completes_175 0 rfl rfl ?_
    refine gespM_0_17_X6 176 C dX6_completes_176 ?_
    refine wr_iconst 179 C dX6_completes_179 (v := 2) rfl ?_
    obtain ⟨g34, hf⟩ := o_g hf
    refine wr_iald 180 C dX6_completes_180 spM_7 g34 ?_
    refine wr_icmp_ge 181 423 C dX6_completes_181 (by decide) (fun c35 => ?_) (fun c35 => ?_)
    · replace hf := o_pos c35 hf
      refine wr_sub [(0, .ref (q 0)), (1, .int x1_), (2, .int x2_), (3, .int x3_), (4, .int x4_), (5, .int x5_), (6, .int x6_), (7, .int x7_), (8, .int x8_), (9, .int x9_)] [0, 1, 2, 3, 4, 5, 6, 7, 8, 9] rfl ?_
      exact hK  μ hf
    · replace hf := o_neg c35 hf
      refine wr_aload_n 184 C dX6_completes_184 0 rfl rfl ?_
      refine wr_iload 185 C dX6_completes_185 9 rfl ?_
      obtain ⟨v38, μ37, h36, hf⟩ := o_bind hf
      refine wr_Vi (kc1 := 0) (ks1 := 0) 187 [] C dX6_completes_187 (tX6_sideOf l N   x9_ μ (v38, μ37) h36) okX6_sideOf q1718 (b := 0) spM_0 rfl ⟨rfl, rfl, by dsimp only; omega, by dsimp only; omega, Nat.zero_le _, Nat.zero_le _⟩ (Nat.le_of_ble_eq_true rfl) rfl ?_
      refine wr_iload 190 C dX6_completes_190 5 rfl ?_
      obtain ⟨Jcompletes417, eJcompletes417, hf⟩ := o_let hf
      have hJcompletes417 : ∀  (μ39 : wMem), Jcompletes417  μ39 = some r0 → wJ p l e ({ frames := d + 1 + 2, cells := 0, slots := 0, locals := (d + 1) * 32 + 49 } : Room) s m args below meth c 13 D vwCl (spM ++ E) q ca A (wQi ({ frames := d + 1 + 2, cells := 0, slots := 0, locals := (d + 1) * 32 + 49 } : Room) D vwCl (spM ++ E) q ca below args s A r0) 0 0 μ39 417 [(0, .ref (q 0)), (1, .int x1_), (2, .int x2_), (3, .int x3_), (4, .int x4_), (5, .int x5_), (6, .int x6_), (7, .int x7_), (8, .int x8_), (9, .int x9_), (10, .int x10_)] [] := by
        intro  μ39 hf
        rw [eJcompletes417] at hf
        obtain ⟨x40, ex40, hf⟩ := o_let hf
        refine wr_iinc 417 [(10, .int x40), (0, .ref (q 0)), (1, .int x1_), (2, .int x2_), (3, .int x3_), (4, .int x4_), (5, .int x5_), (6, .int x6_), (7, .int x7_), (8, .int x8_), (9, .int x9_)] C dX6_completes_417 10 rfl (ex40.trans rfl) (Nat.le_of_ble_eq_true rfl) rfl ?_
        refine wr_goto 420 C dX6_completes_420 (tgt := 173) (by decide) ?_
        refine wr_sub [(0, .ref (q 0)), (1, .int x1_), (2, .int x2_), (3, .int x3_), (4, .int x4_), (5, .int x5_), (6, .int x6_), (7, .int x7_), (8, .int x8_), (9, .int x9_), (10, .int x40)] [1, 2, 3, 4, 5, 6, 7, 8, 9, 10, 0] rfl ?_
        exact ih x40 μ39 hf
      refine wr_icmp_ne 192 417 C dX6_completes_192 (by decide) (fun c41 => ?_) (fun c41 => ?_)
      · replace hf := o_neg c41 hf
        exact hJcompletes417  μ37 hf
      · replace hf := o_pos c41 hf
        refine wr_aload_n 195 C dX6_completes_195 0 rfl rfl ?_
        refine gespM_0_17_X6 196 C dX6_completes_196 ?_
        refine wr_iconst 199 C dX6_completes_199 (v := 4) rfl ?_
        obtain ⟨g42, hf⟩ := o_g hf
        refine wr_iald 200 C dX6_completes_200 spM_7 g42 ?_
        refine wr_iload 201 C dX6_completes_201 9 rfl ?_
        obtain ⟨v45, μ44, h43, hf⟩ := o_bind hf
        refine wr_Si (kc1 := 0) (ks1 := 0) 203 [] C dX6_completes_203 (tX6_isBit l N   (μ37.1 7 (Int32.toNatClampNeg (4 : Int32))) x9_ μ37 (v45, μ44) h43) okX6_isBit q1660 ⟨rfl, rfl, by dsimp only; omega, by dsimp only; omega, Nat.zero_le _, Nat.zero_le _⟩ (Nat.le_of_ble_eq_true rfl) rfl ?_
        refine wr_if_ne 206 417 C dX6_completes_206 (by decide) (fun c46 => ?_) (fun c46 => ?_)
        · replace hf := o_neg c46 hf
          exact hJcompletes417  μ44 hf
        · replace hf := o_pos c46 hf
          refine wr_aload_n 209 C dX6_completes_209 0 rfl rfl ?_
          refine wr_iload 210 C dX6_completes_210 9 rfl ?_
          refine wr_iload 212 C dX6_completes_212 4 rfl ?_
          obtain ⟨Jcompletes228, eJcompletes228, hf⟩ := o_let hf
          have hJcompletes228 : ∀ (v48 : Int32) (v49 : Int32) (μ47 : wMem), Jcompletes228 v48 v49 μ47 = some r0 → wJ p l e ({ frames := d + 1 + 2, cells := 0, slots := 0, locals := (d + 1) * 32 + 49 } : Room) s m args below meth c 13 D vwCl (spM ++ E) q ca A (wQi ({ frames := d + 1 + 2, cells := 0, slots := 0, locals := (d + 1) * 32 + 49 } : Room) D vwCl (spM ++ E) q ca below args s A r0) 0 0 μ47 228 [(0, .ref (q 0)), (1, .int x1_), (2, .int x2_), (3, .int x3_), (4, .int x4_), (5, .int x5_), (6, .int x6_), (7, .int x7_), (8, .int x8_), (9, .int x9_), (10, .int x10_)] [.int v48, .int v49, .ref (q 0)] := by
            intro v48 v49 μ47 hf
            rw [eJcompletes228] at hf
            refine wr_iload 228 C dX6_completes_228 4 rfl ?_
            obtain ⟨v52, μ51, h50, hf⟩ := o_bind hf
            refine wr_Vi (kc1 := 0) (ks1 := 0) 230 [] C dX6_completes_230 (tX6_noses l N   v49 v48 x4_ μ47 (v52, μ51) h50) okX6_noses q1742 (b := 0) spM_0 rfl ⟨rfl, rfl, by dsimp only; omega, by dsimp only; omega, Nat.zero_le _, Nat.zero_le _⟩ (Nat.le_of_ble_eq_true rfl) rfl ?_
            refine wr_if_ne 233 239 C dX6_completes_233 (by decide) (fun c53 => ?_) (fun c53 => ?_)
            · replace hf := o_neg c53 hf
              refine wr_iload 239 C dX6_completes_239 10 rfl ?_
              refine wr_iconst 241 C dX6_completes_241 (v := (-1)) rfl ?_
              obtain ⟨Jcompletes273, eJcompletes273, hf⟩ := o_let hf
              have hJcompletes273 : ∀  (μ54 : wMem), Jcompletes273  μ54 = some r0 → wJ p l e ({ frames := d + 1 + 2, cells := 0, slots := 0, locals := (d + 1) * 32 + 49 } : Room) s m args below meth c 13 D vwCl (spM ++ E) q ca A (wQi ({ frames := d + 1 + 2, cells := 0, slots := 0, locals := (d + 1) * 32 + 49 } : Room) D vwCl (spM ++ E) q ca below args s A r0) 0 0 μ54 273 [(0, .ref (q 0)), (1, .int x1_), (2, .int x2_), (3, .int x3_), (4, .int x4_), (5, .int x5_), (6, .int x6_), (7, .int x7_), (8, .int x8_), (9, .int x9_), (10, .int x10_)] [] := by
                intro  μ54 hf
                rw [eJcompletes273] at hf
                refine wr_aload_n 273 C dX6_completes_273 0 rfl rfl ?_
                refine wr_iload 274 C dX6_completes_274 9 rfl ?_
                refine wr_iload 276 C dX6_completes_276 10 rfl ?_
                refine wr_iload 278 C dX6_completes_278 4 rfl ?_
                obtain ⟨μ56, h55, hf⟩ := o_bindV hf
                refine wr_Vv (kc1 := 0) (ks1 := 0) 280 [] C dX6_completes_280 (tX6_crosses l N   x9_ x10_ x4_ μ54 μ56 h55) okX6_crosses q1714 (b := 0) spM_0 rfl ⟨rfl, rfl, by dsimp only; omega, by dsimp only; omega, Nat.zero_le _, Nat.zero_le _⟩ (Nat.le_of_ble_eq_true rfl) rfl ?_
                refine wr_aload_n 283 C dX6_completes_283 0 rfl rfl ?_
                refine wr_iload_n 284 C dX6_completes_284 1 rfl rfl ?_
                refine wr_iload_n 285 C dX6_completes_285 2 rfl rfl ?_
                refine wr_iconst 286 C dX6_completes_286 (v := 1) rfl ?_
                refine wr_iadd 287 C dX6_completes_287 ?_
                obtain ⟨v59, μ58, h57, hf⟩ := o_bind hf
                refine wr_Vi (kc1 := 0) (ks1 := 0) 288 [] C dX6_completes_288 (hrec x1_ (x2_ + (1 : Int32)) μ56 (v59, μ58) h57) okX6_completes q1998 (b := 0) spM_0 rfl ⟨rfl, rfl, by dsimp only; omega, by dsimp only; omega, Nat.zero_le _, Nat.zero_le _⟩ (Nat.le_of_ble_eq_true rfl) rfl ?_
                refine wr_istore 291 [(11, .int v59), (0, .ref (q 0)), (1, .int x1_), (2, .int x2_), (3, .int x3_), (4, .int x4_), (5, .int x5_), (6, .int x6_), (7, .int x7_), (8, .int x8_), (9, .int x9_), (10, .int x10_)] C dX6_completes_291 rfl (Nat.le_of_ble_eq_true rfl) rfl ?_
                refine wr_aload_n 293 C dX6_completes_293 1 rfl rfl ?_
                refine gespM_0_41_X6 294 C dX6_completes_294 ?_
                refine wr_iload 297 C dX6_completes_297 0 rfl ?_
                obtain ⟨g60, hf⟩ := o_g hf
                refine wr_lald 299 C dX6_completes_299 spM_18 g60 ?_
                refine wr_lconst 300 C dX6_completes_300 (v := 0) rfl ?_
                refine wr_lcmp_le 301 399 C dX6_completes_301 dX6_completes_302 (by decide) (fun c61 => ?_) (fun c61 => ?_)
                · replace hf := o_pos c61 hf
                  refine wr_aload_n 399 C dX6_completes_399 1 rfl rfl ?_
                  refine wr_iload 400 C dX6_completes_400 7 rfl ?_
                  obtain ⟨μ62, eμ62, hf⟩ := o_let hf
                  refine puspM_0_23_X6 402 C dX6_completes_402 eμ62 ?_
                  refine wr_aload_n 405 C dX6_completes_405 1 rfl rfl ?_
                  refine wr_iload 406 C dX6_completes_406 8 rfl ?_
                  obtain ⟨μ63, eμ63, hf⟩ := o_let hf
                  refine puspM_0_25_X6 408 C dX6_completes_408 eμ63 ?_
                  refine wr_aload_n 411 C dX6_completes_411 1 rfl rfl ?_
                  refine wr_iload 412 C dX6_completes_412 9 rfl ?_
                  obtain ⟨μ64, eμ64, hf⟩ := o_let hf
                  refine puspM_0_26_X6 414 C dX6_completes_414 eμ64 ?_
                  refine wr_sub [(0, .ref (q 0)), (1, .int x1_), (2, .int x2_), (3, .int x3_), (4, .int x4_), (5, .int x5_), (6, .int x6_), (7, .int x7_), (8, .int x8_), (9, .int x9_), (10, .int x10_)] [1, 2, 3, 4, 5, 6, 7, 8, 9, 10, 11] rfl ?_
                  exact hJcompletes417  μ64 hf
                · replace hf := o_neg c61 hf
                  refine wr_aload_n 305 C dX6_completes_305 1 rfl rfl ?_
                  refine gespM_0_41_X6 306 C dX6_completes_306 ?_
                  refine wr_iload_n 309 C dX6_completes_309 4 rfl rfl ?_
                  refine wr_dup2 310 C dX6_completes_310 rfl rfl ?_
                  obtain ⟨g65, hf⟩ := o_g hf
                  refine wr_lald 311 C dX6_completes_311 spM_18 g65 ?_
                  refine wr_aload_n 312 C dX6_completes_312 1 rfl rfl ?_
                  refine gespM_0_41_X6 313 C dX6_completes_313 ?_
                  refine wr_iload 316 C dX6_completes_316 0 rfl ?_
                  obtain ⟨g66, hf⟩ := o_g hf
                  refine wr_lald 318 C dX6_completes_318 spM_18 g66 ?_
                  refine wr_ladd 319 C dX6_completes_319 ?_
                  obtain ⟨g67, hf⟩ := o_g hf
                  obtain ⟨μ68, eμ68, hf⟩ := o_let hf
                  refine wr_last 320 C dX6_completes_320 spM_18 g67 eμ68 ?_
                  refine wr_aload_n 321 C dX6_completes_321 1 rfl rfl ?_
                  refine gespM_0_42_X6 322 C dX6_completes_322 ?_
                  refine wr_iload 325 C dX6_completes_325 0 rfl ?_
                  obtain ⟨g69, hf⟩ := o_g hf
                  refine wr_iald 327 C dX6_completes_327 spM_19 g69 ?_
                  refine wr_aload_n 328 C dX6_completes_328 1 rfl rfl ?_
                  refine wr_iload 329 C dX6_completes_329 10 rfl ?_
                  refine wr_iload 331 C dX6_completes_331 5 rfl ?_
                  obtain ⟨v72, μ71, h70, hf⟩ := o_bind hf
                  refine wr_Vi (kc1 := 0) (ks1 := 0) 333 [.int (μ68.1 19 (Int32.toNatClampNeg v59))] C dX6_completes_333 (tX6_riskOf l N   x9_ x4_ μ68 (v72, μ71) h70) okX6_riskOf q1706 (b := 0) spM_0 rfl ⟨rfl, rfl, by dsimp only; omega, by dsimp only; omega, Nat.zero_le _, Nat.zero_le _⟩ (Nat.le_of_ble_eq_true rfl) rfl ?_
                  refine wr_iadd 336 C dX6_completes_336 ?_
                  obtain ⟨x73, ex73, hf⟩ := o_let hf
                  refine wr_istore 337 [(12, .int x73), (11, .int v59), (0, .ref (q 0)), (1, .int x1_), (2, .int x2_), (3, .int x3_), (4, .int x4_), (5, .int x5_), (6, .int x6_), (7, .int x7_), (8, .int x8_), (9, .int x9_), (10, .int x10_)] C dX6_completes_337 ex73 (Nat.le_of_ble_eq_true rfl) rfl ?_
                  refine wr_aload_n 339 C dX6_completes_339 2 rfl rfl ?_
                  refine gespM_0_42_X6 340 C dX6_completes_340 ?_
                  refine wr_iload_n 343 C dX6_completes_343 5 rfl rfl ?_
                  refine wr_iload 344 C dX6_completes_344 0 rfl ?_
                  refine wr_aload_n 346 C dX6_completes_346 2 rfl rfl ?_
                  refine gespM_0_42_X6 347 C dX6_completes_347 ?_
                  refine wr_iload_n 350 C dX6_completes_350 5 rfl rfl ?_
                  obtain ⟨g74, hf⟩ := o_g hf
                  refine wr_iald 351 C dX6_completes_351 spM_19 g74 ?_
                  obtain ⟨Jcompletes366, eJcompletes366, hf⟩ := o_let hf
                  have hJcompletes366 : ∀ (v76 : Int32) (v77 : Int32) (μ75 : wMem), Jcompletes366 v76 v77 μ75 = some r0 → wJ p l e ({ frames := d + 1 + 2, cells := 0, slots := 0, locals := (d + 1) * 32 + 49 } : Room) s m args below meth c 13 D vwCl (spM ++ E) q ca A (wQi ({ frames := d + 1 + 2, cells := 0, slots := 0, locals := (d + 1) * 32 + 49 } : Room) D vwCl (spM ++ E) q ca below args s A r0) 0 0 μ75 366 [(0, .ref (q 0)), (1, .int x1_), (2, .int x2_), (3, .int x3_), (4, .int x4_), (5, .int x5_), (6, .int x6_), (7, .int x7_), (8, .int x8_), (9, .int x9_), (10, .int x10_), (11, .int v59)] [.int v76, .int v77, .ref (q 19)] := by
                    intro v76 v77 μ75 hf
                    rw [eJcompletes366] at hf
                    obtain ⟨g78, hf⟩ := o_g hf
                    obtain ⟨μ79, eμ79, hf⟩ := o_let hf
                    refine wr_iast 366 C dX6_completes_366 spM_19 g78 eμ79 ?_
                    refine wr_aload_n 367 C dX6_completes_367 0 rfl rfl ?_
                    refine gespM_0_43_X6 368 C dX6_completes_368 ?_
                    refine wr_iload_n 371 C dX6_completes_371 3 rfl rfl ?_
                    refine wr_dup2 372 C dX6_completes_372 rfl rfl ?_
                    obtain ⟨g80, hf⟩ := o_g hf
                    refine wr_iald 373 C dX6_completes_373 spM_20 g80 ?_
                    refine wr_aload_n 374 C dX6_completes_374 0 rfl rfl ?_
                    refine gespM_0_43_X6 375 C dX6_completes_375 ?_
                    refine wr_iload 378 C dX6_completes_378 11 rfl ?_
                    obtain ⟨g81, hf⟩ := o_g hf
                    refine wr_iald 380 C dX6_completes_380 spM_20 g81 ?_
                    refine wr_iand 381 C dX6_completes_381 ?_
                    obtain ⟨g82, hf⟩ := o_g hf
                    obtain ⟨μ83, eμ83, hf⟩ := o_let hf
                    refine wr_iast 382 C dX6_completes_382 spM_20 g82 eμ83 ?_
                    refine wr_aload_n 383 C dX6_completes_383 0 rfl rfl ?_
                    refine gespM_0_44_X6 384 C dX6_completes_384 ?_
                    refine wr_iload_n 387 C dX6_completes_387 3 rfl rfl ?_
                    refine wr_dup2 388 C dX6_completes_388 rfl rfl ?_
                    obtain ⟨g84, hf⟩ := o_g hf
                    refine wr_iald 389 C dX6_completes_389 spM_21 g84 ?_
                    refine wr_aload_n 390 C dX6_completes_390 0 rfl rfl ?_
                    refine gespM_0_44_X6 391 C dX6_completes_391 ?_
                    refine wr_iload 394 C dX6_completes_394 11 rfl ?_
                    obtain ⟨g85, hf⟩ := o_g hf
                    refine wr_iald 396 C dX6_completes_396 spM_21 g85 ?_
                    refine wr_ior 397 C dX6_completes_397 ?_
                    obtain ⟨g86, hf⟩ := o_g hf
                    obtain ⟨μ87, eμ87, hf⟩ := o_let hf
                    refine wr_iast 398 C dX6_completes_398 spM_21 g86 eμ87 ?_
                    refine wr_aload_n 399 C dX6_completes_399 0 rfl rfl ?_
                    refine wr_iload 400 C dX6_completes_400 6 rfl ?_
                    obtain ⟨μ88, eμ88, hf⟩ := o_let hf
                    refine puspM_0_23_X6 402 C dX6_completes_402 eμ88 ?_
                    refine wr_aload_n 405 C dX6_completes_405 0 rfl rfl ?_
                    refine wr_iload 406 C dX6_completes_406 7 rfl ?_
                    obtain ⟨μ89, eμ89, hf⟩ := o_let hf
                    refine puspM_0_25_X6 408 C dX6_completes_408 eμ89 ?_
                    refine wr_aload_n 411 C dX6_completes_411 0 rfl rfl ?_
                    refine wr_iload 412 C dX6_completes_412 8 rfl ?_
                    obtain ⟨μ90, eμ90, hf⟩ := o_let hf
                    refine puspM_0_26_X6 414 C dX6_completes_414 eμ90 ?_
                    refine wr_sub [(0, .ref (q 0)), (1, .int x1_), (2, .int x2_), (3, .int x3_), (4, .int x4_), (5, .int x5_), (6, .int x6_), (7, .int x7_), (8, .int x8_), (9, .int x9_), (10, .int x10_)] [0, 1, 2, 3, 4, 5, 6, 7, 8, 9, 10] rfl ?_
                    exact hJcompletes417  μ90 hf
                  refine wr_icmp_ge 352 360 C dX6_completes_352 (by decide) (fun c91 => ?_) (fun c91 => ?_)
                  · replace hf := o_pos c91 hf
                    refine wr_aload_n 360 C dX6_completes_360 2 rfl rfl ?_
                    refine gespM_0_42_X6 361 C dX6_completes_361 ?_
                    refine wr_iload_n 364 C dX6_completes_364 5 rfl rfl ?_
                    obtain ⟨g92, hf⟩ := o_g hf
                    refine wr_iald 365 C dX6_completes_365 spM_19 g92 ?_
                    refine wr_sub [(0, .ref (q 0)), (1, .int x1_), (2, .int x2_), (3, .int x3_), (4, .int x4_), (5, .int x5_), (6, .int x6_), (7, .int x7_), (8, .int x8_), (9, .int x9_), (10, .int x10_), (11, .int v59)] [2, 3, 4, 5, 6, 7, 8, 9, 10, 11, 12, 1] rfl ?_
                    exact hJcompletes366 (μ71.1 19 (Int32.toNatClampNeg x3_)) x3_ μ71 hf
                  · replace hf := o_neg c91 hf
                    refine wr_iload 355 C dX6_completes_355 0 rfl ?_
                    refine wr_goto 357 C dX6_completes_357 (tgt := 366) (by decide) ?_
                    refine wr_sub [(0, .ref (q 0)), (1, .int x1_), (2, .int x2_), (3, .int x3_), (4, .int x4_), (5, .int x5_), (6, .int x6_), (7, .int x7_), (8, .int x8_), (9, .int x9_), (10, .int x10_), (11, .int v59)] [2, 3, 4, 5, 6, 7, 8, 9, 10, 11, 12, 1] rfl ?_
                    exact hJcompletes366 x73 x3_ μ71 hf
              refine wr_icmp_eq 242 273 C dX6_completes_242 (by decide) (fun c93 => ?_) (fun c93 => ?_)
              · replace hf := o_pos c93 hf
                exact hJcompletes273  μ51 hf
              · replace hf := o_neg c93 hf
                refine wr_aload_n 245 C dX6_completes_245 0 rfl rfl ?_
                refine gespM_0_17_X6 246 C dX6_completes_246 ?_
                refine wr_iconst 249 C dX6_completes_249 (v := 4) rfl ?_
                obtain ⟨g94, hf⟩ := o_g hf
                refine wr_iald 250 C dX6_completes_250 spM_7 g94 ?_
                refine wr_iload 251 C dX6_completes_251 10 rfl ?_
                obtain ⟨v97, μ96, h95, hf⟩ := o_bind hf
                refine wr_Si (kc1 := 0) (ks1 := 0) 253 [] C dX6_completes_253 (tX6_isBit l N   (μ51.1 7 (Int32.toNatClampNeg (4 : Int32))) x10_ μ51 (v97, μ96) h95) okX6_isBit q1660 ⟨rfl, rfl, by dsimp only; omega, by dsimp only; omega, Nat.zero_le _, Nat.zero_le _⟩ (Nat.le_of_ble_eq_true rfl) rfl ?_
                refine wr_if_eq 256 417 C dX6_completes_256 (by decide) (fun c98 => ?_) (fun c98 => ?_)
                · replace hf := o_pos c98 hf
                  exact hJcompletes417  μ96 hf
                · replace hf := o_neg c98 hf
                  refine wr_aload_n 259 C dX6_completes_259 0 rfl rfl ?_
                  refine wr_iload 260 C dX6_completes_260 10 rfl ?_
                  obtain ⟨v101, μ100, h99, hf⟩ := o_bind hf
                  refine wr_Vi (kc1 := 0) (ks1 := 0) 262 [] C dX6_completes_262 (tX6_sideOf l N   x10_ μ96 (v101, μ100) h99) okX6_sideOf q1718 (b := 0) spM_0 rfl ⟨rfl, rfl, by dsimp only; omega, by dsimp only; omega, Nat.zero_le _, Nat.zero_le _⟩ (Nat.le_of_ble_eq_true rfl) rfl ?_
                  refine wr_iload 265 C dX6_completes_265 5 rfl ?_
                  refine wr_icmp_eq 267 273 C dX6_completes_267 (by decide) (fun c102 => ?_) (fun c102 => ?_)
                  · replace hf := o_pos c102 hf
                    exact hJcompletes273  μ100 hf
                  · replace hf := o_neg c102 hf
                    refine wr_goto 270 C dX6_completes_270 (tgt := 417) (by decide) ?_
                    exact hJcompletes417  μ100 hf
            · replace hf := o_pos c53 hf
              refine wr_goto 236 C dX6_completes_236 (tgt := 417) (by decide) ?_
              exact hJcompletes417  μ51 hf
          refine wr_if_ne 214 224 C dX6_completes_214 (by decide) (fun c103 => ?_) (fun c103 => ?_)
          · replace hf := o_neg c103 hf
            refine wr_aload_n 224 C dX6_completes_224 0 rfl rfl ?_
            refine gespM_0_26_X6 225 C dX6_completes_225 ?_
            exact hJcompletes228 (μ44.1 0 26) x9_ μ44 hf
          · replace hf := o_pos c103 hf
            refine wr_aload_n 217 C dX6_completes_217 0 rfl rfl ?_
            refine gespM_0_25_X6 218 C dX6_completes_218 ?_
            refine wr_goto 221 C dX6_completes_221 (tgt := 228) (by decide) ?_
            exact hJcompletes228 (μ44.1 0 25) x9_ μ44 hf
def gbX6_completes_159 (N : Nat) (recF : (Int32 → Int32 → wMem → Option (Int32 × wMem)))  (x1_ : Int32) (x2_ : Int32) (x3_ : Int32) (x4_ : Int32) (x5_ : Int32) (x6_ : Int32) (x7_ : Int32) (x8_ : Int32) (K : (wMem → Option (Int32 × wMem))) (rec : (Int32 → wMem → Option (Int32 × wMem))) (x9_ : Int32) (μ : wMem) : Option (Int32 × wMem) :=
  wG (ok_in (2 : Int32) 35) (if (μ.1 7 (Int32.toNatClampNeg (2 : Int32))) ≤ x9_ then K  μ else gX6_completes_173 N recF  x1_ x2_ x3_ x4_ x5_ x6_ x7_ x8_ x9_ (fun  (μ104 : wMem) => wLet (x9_ + 1 : Int32) fun x105 => rec x105 μ104) N (-1) μ)
def gX6_completes_159 (N : Nat) (recF : (Int32 → Int32 → wMem → Option (Int32 × wMem)))  (x1_ : Int32) (x2_ : Int32) (x3_ : Int32) (x4_ : Int32) (x5_ : Int32) (x6_ : Int32) (x7_ : Int32) (x8_ : Int32) (K : (wMem → Option (Int32 × wMem))) : Nat → (Int32 → wMem → Option (Int32 × wMem))
  | 0 => fun _ _ => none
  | k + 1 => gbX6_completes_159 N recF  x1_ x2_ x3_ x4_ x5_ x6_ x7_ x8_ K (gX6_completes_159 N recF  x1_ x2_ x3_ x4_ x5_ x6_ x7_ x8_ K k)
set_option maxHeartbeats 4000000 in
set_option maxRecDepth 100000 in
theorem tX6_completes_159 {p : Program} {l : Launch} {e : Env} {s : State} {m : MethodId} {args : Array Value} {below : List Frame} {meth : Method} {c : Code} {D : va_G} {E : List wCell} {q : Nat → Nat} {ca : wCA} {A : Nat → Prop} {d : Nat} {recF : (Int32 → Int32 → wMem → Option (Int32 × wMem))} (hrec : ∀ (a0 : Int32) (a1 : Int32) (μ : wMem) (r : (Int32 × wMem)), recF a0 a1 μ = some r → wMi l yX6_completes cX6_completes 13 (some .int) ({ frames := d + 2, cells := 0, slots := 0, locals := d * 32 + 49 } : Room) D vwCl (spM ++ E) q ca [.ref (q 0), .int a0, .int a1] μ r) (C : wC p ({ frames := d + 1 + 2, cells := 0, slots := 0, locals := (d + 1) * 32 + 49 } : Room) s m args meth c cX6_completes yX6_completes.cls 13 (some .int) D vwCl (spM ++ E) q ca A) (N : Nat)   (x1_ : Int32) (x2_ : Int32) (x3_ : Int32) (x4_ : Int32) (x5_ : Int32) (x6_ : Int32) (x7_ : Int32) (x8_ : Int32) (K : (wMem → Option (Int32 × wMem))) (r0 : (Int32 × wMem)) (hK : ∀  (μ : wMem), K  μ = some r0 → wJ p l e ({ frames := d + 1 + 2, cells := 0, slots := 0, locals := (d + 1) * 32 + 49 } : Room) s m args below meth c 13 D vwCl (spM ++ E) q ca A (wQi ({ frames := d + 1 + 2, cells := 0, slots := 0, locals := (d + 1) * 32 + 49 } : Room) D vwCl (spM ++ E) q ca below args s A r0) 0 0 μ 429 [(3, .int x3_)] []) : ∀ (k : Nat) (x9_ : Int32) (μ : wMem), gX6_completes_159 N recF  x1_ x2_ x3_ x4_ x5_ x6_ x7_ x8_ K k x9_ μ = some r0 → wJ p l e ({ frames := d + 1 + 2, cells := 0, slots := 0, locals := (d + 1) * 32 + 49 } : Room) s m args below meth c 13 D vwCl (spM ++ E) q ca A (wQi ({ frames := d + 1 + 2, cells := 0, slots := 0, locals := (d + 1) * 32 + 49 } : Room) D vwCl (spM ++ E) q ca below args s A r0) 0 0 μ 159 [(0, .ref (q 0)), (1, .int x1_), (2, .int x2_), (3, .int x3_), (4, .int x4_), (5, .int x5_), (6, .int x6_), (7, .int x7_), (8, .int x8_), (9, .int x9_)] [] := by
  intro k
  induction k with
  | zero =>
    intro x9_ μ hf
    cases hf
  | succ k ih =>
    intro x9_ μ hf
    replace hf : gbX6_completes_159 N recF  x1_ x2_ x3_ x4_ x5_ x6_ x7_ x8_ K (gX6_completes_159 N recF  x1_ x2_ x3_ x4_ x5_ x6_ x7_ x8_ K k) x9_ μ = some r0 := hf
    unfold gbX6_completes_159 at hf
    refine wr_iload 159 C dX6_completes_159 9 rfl ?_
    refine wr_aload_n 161 C dX6_completes_161 0 rfl rfl ?_
    refine gespM_0_17_X6 162 C dX6_completes_162 ?_
    refine wr_iconst 165 C dX6_completes_165 (v := 2) rfl ?_
    obtain ⟨g32, hf⟩ := o_g hf
    refine wr_iald 166 C dX6_completes_166 spM_7 g32 ?_
    refine wr_icmp_ge 167 429 C dX6_completes_167 (by decide) (fun c33 => ?_) (fun c33 => ?_)
    · replace hf := o_pos c33 hf
      refine wr_sub [(3, .int x3_)] [3] rfl ?_
      exact hK  μ hf
    · replace hf := o_neg c33 hf
      refine wr_iconst 170 C dX6_completes_170 (v := (-1)) rfl ?_
      refine wr_istore 171 [(10, .int ((-1))), (0, .ref (q 0)), (1, .int x1_), (2, .int x2_), (3, .int x3_), (4, .int x4_), (5, .int x5_), (6, .int x6_), (7, .int x7_), (8, .int x8_), (9, .int x9_)] C dX6_completes_171 rfl (Nat.le_of_ble_eq_true rfl) rfl ?_
      refine wr_sub [(0, .ref (q 0)), (1, .int x1_), (2, .int x2_), (3, .int x3_), (4, .int x4_), (5, .int x5_), (6, .int x6_), (7, .int x7_), (8, .int x8_), (9, .int x9_), (10, .int ((-1)))] [1, 2, 3, 4, 5, 6, 7, 8, 9, 10, 0] rfl ?_
      refine tX6_completes_173 hrec C N   x1_ x2_ x3_ x4_ x5_ x6_ x7_ x8_ x9_ _ r0 (fun  μ104 hf => ?_) N (-1) μ hf
      · replace hf := hf
        obtain ⟨x105, ex105, hf⟩ := o_let hf
        refine wr_iinc 423 [(9, .int x105), (0, .ref (q 0)), (1, .int x1_), (2, .int x2_), (3, .int x3_), (4, .int x4_), (5, .int x5_), (6, .int x6_), (7, .int x7_), (8, .int x8_)] C dX6_completes_423 9 rfl (ex105.trans rfl) (Nat.le_of_ble_eq_true rfl) rfl ?_
        refine wr_goto 426 C dX6_completes_426 (tgt := 159) (by decide) ?_
        refine wr_sub [(0, .ref (q 0)), (1, .int x1_), (2, .int x2_), (3, .int x3_), (4, .int x4_), (5, .int x5_), (6, .int x6_), (7, .int x7_), (8, .int x8_), (9, .int x105)] [1, 2, 3, 4, 5, 6, 7, 8, 9, 0] rfl ?_
        exact ih x105 μ104 hf
def fbX6_completes (N : Nat) (recF : (Int32 → Int32 → wMem → Option (Int32 × wMem))) (a1 : Int32) (a2 : Int32) (μ : wMem) : Option (Int32 × wMem) :=
  wBind (fX6_kindOf N   μ) fun v3 μ2 => wLet (((3136 : Int32) * a2) + v3 : Int32) fun x4 => wG (ok_in x4 40768) (if (μ2.2 18 (Int32.toNatClampNeg x4)) < (0 : Int64) then wG (ok_in x4 40768) (wLet (wSL μ2 18 (Int32.toNatClampNeg x4) (0 : Int64)) fun μ8 => wG (ok_in x4 40768) (wLet (wSI μ8 19 (Int32.toNatClampNeg x4) (2000000000 : Int32)) fun μ10 => wG (ok_in x4 40768) (wLet (wSI μ10 20 (Int32.toNatClampNeg x4) (63 : Int32)) fun μ12 => wG (ok_in x4 40768) (wLet (wSI μ12 21 (Int32.toNatClampNeg x4) (0 : Int32)) fun μ14 => wG (ok_in a1 4) (if a2 = (μ14.1 2 (Int32.toNatClampNeg a1)) then wG (ok_in x4 40768) (wLet (wSL μ14 18 (Int32.toNatClampNeg x4) (1 : Int64)) fun μ108 => wG (ok_in x4 40768) (wLet (wSI μ108 19 (Int32.toNatClampNeg x4) (0 : Int32)) fun μ110 => wG (ok_in x4 40768) (wLet (wSI μ110 20 (Int32.toNatClampNeg x4) (μ110.1 0 23)) fun μ112 => wG (ok_in x4 40768) (wLet (wSI μ112 21 (Int32.toNatClampNeg x4) (μ112.1 0 23)) fun μ114 => some (x4, μ114))))) else wBind (fX6_looksAt N  a1 a2 μ14) fun v19 μ18 => if v19 = 0 then some (x4, μ18) else wBind (fX6_cellOf N  a1 a2 μ18) fun v23 μ22 => wLet (Int64.toInt32 (v23 / (10 : Int64)) : Int32) fun x24 => wBind (fX6_cellOf N  a1 a2 μ22) fun v27 μ26 => wLet (Int64.toInt32 (v27 - v27 / (10 : Int64) * (10 : Int64)) : Int32) fun x28 => wLet (μ26.1 0 23 : Int32) fun x29 => wLet (μ26.1 0 25 : Int32) fun x30 => wLet (μ26.1 0 26 : Int32) fun x31 => gX6_completes_159 N recF  a1 a2 x4 x24 x28 x29 x30 x31 (fun  (μ106 : wMem) => some (x4, μ106)) N 0 μ26))))) else some (x4, μ2))
def fX6_completes (N : Nat) : Nat → (Int32 → Int32 → wMem → Option (Int32 × wMem))
  | 0 => fun _ _ _ => none
  | d + 1 => fbX6_completes N (fX6_completes N d)
set_option maxHeartbeats 4000000 in
set_option maxRecDepth 100000 in
theorem tX6_completes (l : Launch) {D : va_G} {E : List wCell} {q : Nat → Nat} {ca : wCA} (N : Nat) : ∀ (d : Nat) (a1 : Int32) (a2 : Int32) (μ : wMem) (r0 : (Int32 × wMem)), fX6_completes N d a1 a2 μ = some r0 → wMi l yX6_completes cX6_completes 13 (some .int) ({ frames := d + 2, cells := 0, slots := 0, locals := d * 32 + 49 } : Room) D vwCl (spM ++ E) q ca [.ref (q 0), .int a1, .int a2] μ r0 := by
  intro d
  induction d with
  | zero =>
    intro a1 a2 μ r0 hf
    cases hf
  | succ d hrec =>
  intro a1 a2 μ r0 hf
  replace hf : fbX6_completes N (fX6_completes N d) a1 a2 μ = some r0 := hf
  refine wMi_intro (by decide) (Nat.le_of_ble_eq_true rfl) ?_
  intro p e s m args below meth c A C
  unfold fbX6_completes at hf
  refine wr_sub [(0, .ref (q 0)), (1, .int a1), (2, .int a2)] [0, 1, 2] rfl ?_
  refine wr_sipush 0 C dX6_completes_0 (v := 3136) rfl ?_
  refine wr_iload_n 3 C dX6_completes_3 2 rfl rfl ?_
  refine wr_imul 4 C dX6_completes_4 ?_
  refine wr_aload_n 5 C dX6_completes_5 0 rfl rfl ?_
  obtain ⟨v3, μ2, h1, hf⟩ := o_bind hf
  refine wr_Vi (kc1 := 0) (ks1 := 0) 6 [.int ((3136 : Int32) * a2)] C dX6_completes_6 (tX6_kindOf l N    μ (v3, μ2) h1) okX6_kindOf q2002 (b := 0) spM_0 rfl ⟨rfl, rfl, by dsimp only; omega, by dsimp only; omega, Nat.zero_le _, Nat.zero_le _⟩ (Nat.le_of_ble_eq_true rfl) rfl ?_
  refine wr_iadd 9 C dX6_completes_9 ?_
  obtain ⟨x4, ex4, hf⟩ := o_let hf
  refine wr_istore_n 10 [(3, .int x4), (0, .ref (q 0)), (1, .int a1), (2, .int a2)] C dX6_completes_10 ex4 rfl (Nat.le_of_ble_eq_true rfl) rfl ?_
  refine wr_aload_n 11 C dX6_completes_11 1 rfl rfl ?_
  refine gespM_0_41_X6 12 C dX6_completes_12 ?_
  refine wr_iload_n 15 C dX6_completes_15 0 rfl rfl ?_
  obtain ⟨g5, hf⟩ := o_g hf
  refine wr_lald 16 C dX6_completes_16 spM_18 g5 ?_
  refine wr_lconst 17 C dX6_completes_17 (v := 0) rfl ?_
  refine wr_lcmp_lt 18 24 C dX6_completes_18 dX6_completes_19 (by decide) (fun c6 => ?_) (fun c6 => ?_)
  · replace hf := o_pos c6 hf
    refine wr_aload_n 24 C dX6_completes_24 1 rfl rfl ?_
    refine gespM_0_41_X6 25 C dX6_completes_25 ?_
    refine wr_iload_n 28 C dX6_completes_28 0 rfl rfl ?_
    refine wr_lconst 29 C dX6_completes_29 (v := 0) rfl ?_
    obtain ⟨g7, hf⟩ := o_g hf
    obtain ⟨μ8, eμ8, hf⟩ := o_let hf
    refine wr_last 30 C dX6_completes_30 spM_18 g7 eμ8 ?_
    refine wr_aload_n 31 C dX6_completes_31 1 rfl rfl ?_
    refine gespM_0_42_X6 32 C dX6_completes_32 ?_
    refine wr_iload_n 35 C dX6_completes_35 0 rfl rfl ?_
    refine wr_ldcw 36 C dX6_completes_36 q1857 ?_
    obtain ⟨g9, hf⟩ := o_g hf
    obtain ⟨μ10, eμ10, hf⟩ := o_let hf
    refine wr_iast 39 C dX6_completes_39 spM_19 g9 eμ10 ?_
    refine wr_aload_n 40 C dX6_completes_40 1 rfl rfl ?_
    refine gespM_0_43_X6 41 C dX6_completes_41 ?_
    refine wr_iload_n 44 C dX6_completes_44 0 rfl rfl ?_
    refine wr_bipush 45 C dX6_completes_45 (v := 63) rfl ?_
    obtain ⟨g11, hf⟩ := o_g hf
    obtain ⟨μ12, eμ12, hf⟩ := o_let hf
    refine wr_iast 47 C dX6_completes_47 spM_20 g11 eμ12 ?_
    refine wr_aload_n 48 C dX6_completes_48 1 rfl rfl ?_
    refine gespM_0_44_X6 49 C dX6_completes_49 ?_
    refine wr_iload_n 52 C dX6_completes_52 0 rfl rfl ?_
    refine wr_iconst 53 C dX6_completes_53 (v := 0) rfl ?_
    obtain ⟨g13, hf⟩ := o_g hf
    obtain ⟨μ14, eμ14, hf⟩ := o_let hf
    refine wr_iast 54 C dX6_completes_54 spM_21 g13 eμ14 ?_
    refine wr_iload_n 55 C dX6_completes_55 3 rfl rfl ?_
    refine wr_aload_n 56 C dX6_completes_56 1 rfl rfl ?_
    refine gespM_0_2_X6 57 C dX6_completes_57 ?_
    refine wr_iload_n 60 C dX6_completes_60 2 rfl rfl ?_
    obtain ⟨g15, hf⟩ := o_g hf
    refine wr_iald 61 C dX6_completes_61 spM_2 g15 ?_
    refine wr_icmp_ne 62 101 C dX6_completes_62 (by decide) (fun c16 => ?_) (fun c16 => ?_)
    · replace hf := o_neg c16 hf
      refine wr_aload_n 101 C dX6_completes_101 1 rfl rfl ?_
      refine wr_iload_n 102 C dX6_completes_102 2 rfl rfl ?_
      refine wr_iload_n 103 C dX6_completes_103 3 rfl rfl ?_
      obtain ⟨v19, μ18, h17, hf⟩ := o_bind hf
      refine wr_Vi (kc1 := 0) (ks1 := 0) 104 [] C dX6_completes_104 (tX6_looksAt l N   a1 a2 μ14 (v19, μ18) h17) okX6_looksAt q2006 (b := 0) spM_0 rfl ⟨rfl, rfl, by dsimp only; omega, by dsimp only; omega, Nat.zero_le _, Nat.zero_le _⟩ (Nat.le_of_ble_eq_true rfl) rfl ?_
      refine wr_if_ne 107 112 C dX6_completes_107 (by decide) (fun c20 => ?_) (fun c20 => ?_)
      · replace hf := o_neg c20 hf
        refine wr_aload_n 112 C dX6_completes_112 1 rfl rfl ?_
        refine wr_iload_n 113 C dX6_completes_113 2 rfl rfl ?_
        refine wr_iload_n 114 C dX6_completes_114 3 rfl rfl ?_
        obtain ⟨v23, μ22, h21, hf⟩ := o_bind hf
        refine wr_Vl (kc1 := 0) (ks1 := 0) 115 [] C dX6_completes_115 (tX6_cellOf l N   a1 a2 μ18 (v23, μ22) h21) okX6_cellOf q1957 (b := 0) spM_0 rfl ⟨rfl, rfl, by dsimp only; omega, by dsimp only; omega, Nat.zero_le _, Nat.zero_le _⟩ (Nat.le_of_ble_eq_true rfl) rfl ?_
        refine wr_ldc2 118 C dX6_completes_118 q1824 ?_
        refine wr_ldiv 121 C dX6_completes_121 (by decide) ?_
        refine wr_l2i 122 C dX6_completes_122 ?_
        obtain ⟨x24, ex24, hf⟩ := o_let hf
        refine wr_istore 123 [(4, .int x24), (3, .int x4), (0, .ref (q 0)), (1, .int a1), (2, .int a2)] C dX6_completes_123 ex24 (Nat.le_of_ble_eq_true rfl) rfl ?_
        refine wr_aload_n 125 C dX6_completes_125 2 rfl rfl ?_
        refine wr_iload_n 126 C dX6_completes_126 3 rfl rfl ?_
        refine wr_iload_n 127 C dX6_completes_127 4 rfl rfl ?_
        obtain ⟨v27, μ26, h25, hf⟩ := o_bind hf
        refine wr_Vl (kc1 := 0) (ks1 := 0) 128 [] C dX6_completes_128 (tX6_cellOf l N   a1 a2 μ22 (v27, μ26) h25) okX6_cellOf q1957 (b := 0) spM_0 rfl ⟨rfl, rfl, by dsimp only; omega, by dsimp only; omega, Nat.zero_le _, Nat.zero_le _⟩ (Nat.le_of_ble_eq_true rfl) rfl ?_
        refine wr_ldc2 131 C dX6_completes_131 q1824 ?_
        refine wr_lrem 134 C dX6_completes_134 (by decide) ?_
        refine wr_l2i 135 C dX6_completes_135 ?_
        obtain ⟨x28, ex28, hf⟩ := o_let hf
        refine wr_istore 136 [(5, .int x28), (4, .int x24), (3, .int x4), (0, .ref (q 0)), (1, .int a1), (2, .int a2)] C dX6_completes_136 ex28 (Nat.le_of_ble_eq_true rfl) rfl ?_
        refine wr_aload_n 138 C dX6_completes_138 3 rfl rfl ?_
        refine gespM_0_23_X6 139 C dX6_completes_139 ?_
        obtain ⟨x29, ex29, hf⟩ := o_let hf
        refine wr_istore 142 [(6, .int x29), (5, .int x28), (4, .int x24), (3, .int x4), (0, .ref (q 0)), (1, .int a1), (2, .int a2)] C dX6_completes_142 ex29 (Nat.le_of_ble_eq_true rfl) rfl ?_
        refine wr_aload_n 144 C dX6_completes_144 4 rfl rfl ?_
        refine gespM_0_25_X6 145 C dX6_completes_145 ?_
        obtain ⟨x30, ex30, hf⟩ := o_let hf
        refine wr_istore 148 [(7, .int x30), (6, .int x29), (5, .int x28), (4, .int x24), (3, .int x4), (0, .ref (q 0)), (1, .int a1), (2, .int a2)] C dX6_completes_148 ex30 (Nat.le_of_ble_eq_true rfl) rfl ?_
        refine wr_aload_n 150 C dX6_completes_150 5 rfl rfl ?_
        refine gespM_0_26_X6 151 C dX6_completes_151 ?_
        obtain ⟨x31, ex31, hf⟩ := o_let hf
        refine wr_istore 154 [(8, .int x31), (7, .int x30), (6, .int x29), (5, .int x28), (4, .int x24), (3, .int x4), (0, .ref (q 0)), (1, .int a1), (2, .int a2)] C dX6_completes_154 ex31 (Nat.le_of_ble_eq_true rfl) rfl ?_
        refine wr_iconst 156 C dX6_completes_156 (v := 0) rfl ?_
        refine wr_istore 157 [(9, .int 0), (8, .int x31), (7, .int x30), (6, .int x29), (5, .int x28), (4, .int x24), (3, .int x4), (0, .ref (q 0)), (1, .int a1), (2, .int a2)] C dX6_completes_157 rfl (Nat.le_of_ble_eq_true rfl) rfl ?_
        refine wr_sub [(0, .ref (q 0)), (1, .int a1), (2, .int a2), (3, .int x4), (4, .int x24), (5, .int x28), (6, .int x29), (7, .int x30), (8, .int x31), (9, .int 0)] [7, 8, 9, 6, 5, 4, 3, 2, 1, 0] rfl ?_
        refine tX6_completes_159 hrec C N   a1 a2 x4 x24 x28 x29 x30 x31 _ r0 (fun  μ106 hf => ?_) N 0 μ26 hf
        · replace hf := hf
          refine wr_iload_n 429 C dX6_completes_429 0 rfl rfl ?_
          exact wr_iret 430 C dX6_completes_430 ⟨Nat.zero_le _, Nat.zero_le _⟩ (Option.some.inj hf)
      · replace hf := o_pos c20 hf
        refine wr_iload_n 110 C dX6_completes_110 0 rfl rfl ?_
        exact wr_iret 111 C dX6_completes_111 ⟨Nat.zero_le _, Nat.zero_le _⟩ (Option.some.inj hf)
    · replace hf := o_pos c16 hf
      refine wr_aload_n 65 C dX6_completes_65 1 rfl rfl ?_
      refine gespM_0_41_X6 66 C dX6_completes_66 ?_
      refine wr_iload_n 69 C dX6_completes_69 0 rfl rfl ?_
      refine wr_lconst 70 C dX6_completes_70 (v := 1) rfl ?_
      obtain ⟨g107, hf⟩ := o_g hf
      obtain ⟨μ108, eμ108, hf⟩ := o_let hf
      refine wr_last 71 C dX6_completes_71 spM_18 g107 eμ108 ?_
      refine wr_aload_n 72 C dX6_completes_72 1 rfl rfl ?_
      refine gespM_0_42_X6 73 C dX6_completes_73 ?_
      refine wr_iload_n 76 C dX6_completes_76 0 rfl rfl ?_
      refine wr_iconst 77 C dX6_completes_77 (v := 0) rfl ?_
      obtain ⟨g109, hf⟩ := o_g hf
      obtain ⟨μ110, eμ110, hf⟩ := o_let hf
      refine wr_iast 78 C dX6_completes_78 spM_19 g109 eμ110 ?_
      refine wr_aload_n 79 C dX6_completes_79 1 rfl rfl ?_
      refine gespM_0_43_X6 80 C dX6_completes_80 ?_
      refine wr_iload_n 83 C dX6_completes_83 0 rfl rfl ?_
      refine wr_aload_n 84 C dX6_completes_84 1 rfl rfl ?_
      refine gespM_0_23_X6 85 C dX6_completes_85 ?_
      obtain ⟨g111, hf⟩ := o_g hf
      obtain ⟨μ112, eμ112, hf⟩ := o_let hf
      refine wr_iast 88 C dX6_completes_88 spM_20 g111 eμ112 ?_
      refine wr_aload_n 89 C dX6_completes_89 1 rfl rfl ?_
      refine gespM_0_44_X6 90 C dX6_completes_90 ?_
      refine wr_iload_n 93 C dX6_completes_93 0 rfl rfl ?_
      refine wr_aload_n 94 C dX6_completes_94 1 rfl rfl ?_
      refine gespM_0_23_X6 95 C dX6_completes_95 ?_
      obtain ⟨g113, hf⟩ := o_g hf
      obtain ⟨μ114, eμ114, hf⟩ := o_let hf
      refine wr_iast 98 C dX6_completes_98 spM_21 g113 eμ114 ?_
      refine wr_iload_n 99 C dX6_completes_99 0 rfl rfl ?_
      exact wr_iret 100 C dX6_completes_100 ⟨Nat.zero_le _, Nat.zero_le _⟩ (Option.some.inj hf)
  · replace hf := o_neg c6 hf
    refine wr_iload_n 22 C dX6_completes_22 0 rfl rfl ?_
    exact wr_iret 23 C dX6_completes_23 ⟨Nat.zero_le _, Nat.zero_le _⟩ (Option.some.inj hf)
abbrev cX6_laysStamps : ByteArray := prog_11_method_113_code
def yX6_laysStamps : MethodName := ⟨RX6, "laysStamps", "(I)V"⟩
def dkwX6_laysStamps_1 : List UInt8 := [3, 182, 1, 32, 42, 27, 3, 182, 1, 165, 87, 177]
abbrev dktX6_laysStamps_1 : List UInt8 := dkwX6_laysStamps_1 ++ []
def dkwX6_laysStamps_0 : List UInt8 := [3, 61, 28, 18, 69, 162, 0, 18, 42, 180, 0, 70, 28, 20, 0, 132, 80, 132, 2, 1, 167, 255, 238, 42]
abbrev dktX6_laysStamps_0 : List UInt8 := dkwX6_laysStamps_0 ++ dktX6_laysStamps_1
theorem dksX6_laysStamps_0 : cX6_laysStamps.data.toList.drop 0 = dktX6_laysStamps_0 := by decide +kernel
theorem dksX6_laysStamps_1 : cX6_laysStamps.data.toList.drop 24 = dktX6_laysStamps_1 := dk_seg dksX6_laysStamps_0 24 rfl rfl
theorem dX6_laysStamps_0 : decode cX6_laysStamps 0 = .ok (.iconst 0, 1) := dk_3 (dk_at dksX6_laysStamps_0 0 rfl rfl)
theorem dX6_laysStamps_1 : decode cX6_laysStamps 1 = .ok (.istore_n 2, 1) := dk_61 (dk_at dksX6_laysStamps_0 1 rfl rfl)
theorem dX6_laysStamps_2 : decode cX6_laysStamps 2 = .ok (.iload_n 2, 1) := dk_28 (dk_at dksX6_laysStamps_0 2 rfl rfl)
theorem dX6_laysStamps_3 : decode cX6_laysStamps 3 = .ok (.ldc 69, 2) := dk_18 69 (dk_at dksX6_laysStamps_0 3 rfl rfl)
theorem dX6_laysStamps_5 : decode cX6_laysStamps 5 = .ok (.if_icmp .ge 18, 3) := dk_162 0 18 (dk_at dksX6_laysStamps_0 5 rfl rfl)
theorem dX6_laysStamps_8 : decode cX6_laysStamps 8 = .ok (.aload_n 0, 1) := dk_42 (dk_at dksX6_laysStamps_0 8 rfl rfl)
theorem dX6_laysStamps_9 : decode cX6_laysStamps 9 = .ok (.getfield 70, 3) := dk_180 0 70 (dk_at dksX6_laysStamps_0 9 rfl rfl)
theorem dX6_laysStamps_12 : decode cX6_laysStamps 12 = .ok (.iload_n 2, 1) := dk_28 (dk_at dksX6_laysStamps_0 12 rfl rfl)
theorem dX6_laysStamps_13 : decode cX6_laysStamps 13 = .ok (.ldc2_w 132, 3) := dk_20 0 132 (dk_at dksX6_laysStamps_0 13 rfl rfl)
theorem dX6_laysStamps_16 : decode cX6_laysStamps 16 = .ok (.lastore, 1) := dk_80 (dk_at dksX6_laysStamps_0 16 rfl rfl)
theorem dX6_laysStamps_17 : decode cX6_laysStamps 17 = .ok (.iinc 2 1, 3) := dk_132 2 1 (dk_at dksX6_laysStamps_0 17 rfl rfl)
theorem dX6_laysStamps_20 : decode cX6_laysStamps 20 = .ok (.goto (-18), 3) := dk_167 255 238 (dk_at dksX6_laysStamps_0 20 rfl rfl)
theorem dX6_laysStamps_23 : decode cX6_laysStamps 23 = .ok (.aload_n 0, 1) := dk_42 (dk_at dksX6_laysStamps_0 23 rfl rfl)
theorem dX6_laysStamps_24 : decode cX6_laysStamps 24 = .ok (.iconst 0, 1) := dk_3 (dk_at dksX6_laysStamps_1 0 rfl rfl)
theorem dX6_laysStamps_25 : decode cX6_laysStamps 25 = .ok (.invokevirtual 288, 3) := dk_182 1 32 (dk_at dksX6_laysStamps_1 1 rfl rfl)
theorem dX6_laysStamps_28 : decode cX6_laysStamps 28 = .ok (.aload_n 0, 1) := dk_42 (dk_at dksX6_laysStamps_1 4 rfl rfl)
theorem dX6_laysStamps_29 : decode cX6_laysStamps 29 = .ok (.iload_n 1, 1) := dk_27 (dk_at dksX6_laysStamps_1 5 rfl rfl)
theorem dX6_laysStamps_30 : decode cX6_laysStamps 30 = .ok (.iconst 0, 1) := dk_3 (dk_at dksX6_laysStamps_1 6 rfl rfl)
theorem dX6_laysStamps_31 : decode cX6_laysStamps 31 = .ok (.invokevirtual 421, 3) := dk_182 1 165 (dk_at dksX6_laysStamps_1 7 rfl rfl)
theorem dX6_laysStamps_34 : decode cX6_laysStamps 34 = .ok (.pop, 1) := dk_87 (dk_at dksX6_laysStamps_1 10 rfl rfl)
theorem dX6_laysStamps_35 : decode cX6_laysStamps 35 = .ok (.return_, 1) := dk_177 (dk_at dksX6_laysStamps_1 11 rfl rfl)

theorem okX6_laysStamps : wOkV yX6_laysStamps cX6_laysStamps 3 none 1 := ⟨q1996, qs126, q145, q1997, by decide, by decide, by decide +kernel⟩
def gbX6_laysStamps_2 (N : Nat)  (x1_ : Int32) (K : (wMem → Option wMem)) (rec : (Int32 → wMem → Option wMem)) (x2_ : Int32) (μ : wMem) : Option wMem :=
  if (40768 : Int32) ≤ x2_ then K  μ else wG (ok_in x2_ 40768) (wLet (wSL μ 18 (Int32.toNatClampNeg x2_) (-1 : Int64)) fun μ3 => wLet (x2_ + 1 : Int32) fun x4 => rec x4 μ3)
def gX6_laysStamps_2 (N : Nat)  (x1_ : Int32) (K : (wMem → Option wMem)) : Nat → (Int32 → wMem → Option wMem)
  | 0 => fun _ _ => none
  | k + 1 => gbX6_laysStamps_2 N  x1_ K (gX6_laysStamps_2 N  x1_ K k)
set_option maxHeartbeats 4000000 in
set_option maxRecDepth 100000 in
theorem tX6_laysStamps_2 {p : Program} {l : Launch} {e : Env} {s : State} {m : MethodId} {args : Array Value} {below : List Frame} {meth : Method} {c : Code} {D : va_G} {E : List wCell} {q : Nat → Nat} {ca : wCA} {A : Nat → Prop} (C : wC p ({ frames := 19, cells := 0, slots := 0, locals := 593 } : Room) s m args meth c cX6_laysStamps yX6_laysStamps.cls 3 none D vwCl (spM ++ E) q ca A) (N : Nat)   (x1_ : Int32) (K : (wMem → Option wMem)) (r0 : wMem) (hK : ∀  (μ : wMem), K  μ = some r0 → wJ p l e ({ frames := 19, cells := 0, slots := 0, locals := 593 } : Room) s m args below meth c 3 D vwCl (spM ++ E) q ca A (wQv ({ frames := 19, cells := 0, slots := 0, locals := 593 } : Room) D vwCl (spM ++ E) q ca below args s A r0) 0 0 μ 23 [(0, .ref (q 0)), (1, .int x1_)] []) : ∀ (k : Nat) (x2_ : Int32) (μ : wMem), gX6_laysStamps_2 N  x1_ K k x2_ μ = some r0 → wJ p l e ({ frames := 19, cells := 0, slots := 0, locals := 593 } : Room) s m args below meth c 3 D vwCl (spM ++ E) q ca A (wQv ({ frames := 19, cells := 0, slots := 0, locals := 593 } : Room) D vwCl (spM ++ E) q ca below args s A r0) 0 0 μ 2 [(0, .ref (q 0)), (1, .int x1_), (2, .int x2_)] [] := by
  intro k
  induction k with
  | zero =>
    intro x2_ μ hf
    cases hf
  | succ k ih =>
    intro x2_ μ hf
    replace hf : gbX6_laysStamps_2 N  x1_ K (gX6_laysStamps_2 N  x1_ K k) x2_ μ = some r0 := hf
    unfold gbX6_laysStamps_2 at hf
    refine wr_iload_n 2 C dX6_laysStamps_2 2 rfl rfl ?_
    refine wr_ldc 3 C dX6_laysStamps_3 q1398 ?_
    refine wr_icmp_ge 5 23 C dX6_laysStamps_5 (by decide) (fun c1 => ?_) (fun c1 => ?_)
    · replace hf := o_pos c1 hf
      refine wr_sub [(0, .ref (q 0)), (1, .int x1_)] [0, 1] rfl ?_
      exact hK  μ hf
    · replace hf := o_neg c1 hf
      refine wr_aload_n 8 C dX6_laysStamps_8 0 rfl rfl ?_
      refine gespM_0_41_X6 9 C dX6_laysStamps_9 ?_
      refine wr_iload_n 12 C dX6_laysStamps_12 2 rfl rfl ?_
      refine wr_ldc2 13 C dX6_laysStamps_13 q1606 ?_
      obtain ⟨g2, hf⟩ := o_g hf
      obtain ⟨μ3, eμ3, hf⟩ := o_let hf
      refine wr_last 16 C dX6_laysStamps_16 spM_18 g2 eμ3 ?_
      obtain ⟨x4, ex4, hf⟩ := o_let hf
      refine wr_iinc 17 [(2, .int x4), (0, .ref (q 0)), (1, .int x1_)] C dX6_laysStamps_17 2 rfl (ex4.trans rfl) (Nat.le_of_ble_eq_true rfl) rfl ?_
      refine wr_goto 20 C dX6_laysStamps_20 (tgt := 2) (by decide) ?_
      refine wr_sub [(0, .ref (q 0)), (1, .int x1_), (2, .int x4)] [1, 2, 0] rfl ?_
      exact ih x4 μ3 hf
def fX6_laysStamps (N : Nat)  (a1 : Int32) (μ : wMem) : Option wMem :=
  gX6_laysStamps_2 N  a1 (fun  (μ5 : wMem) => wBindV (fX6_begin N  0 μ5) fun μ7 => wBind (fX6_completes N 16  a1 0 μ7) fun v10 μ9 => some μ9) N 0 μ
set_option maxHeartbeats 4000000 in
set_option maxRecDepth 100000 in
theorem tX6_laysStamps (l : Launch) {D : va_G} {E : List wCell} {q : Nat → Nat} {ca : wCA} (N : Nat)   (a1 : Int32) (μ : wMem) (r0 : wMem) (hf : fX6_laysStamps N  a1 μ = some r0) : wMv l yX6_laysStamps cX6_laysStamps 3 none ({ frames := 19, cells := 0, slots := 0, locals := 593 } : Room) D vwCl (spM ++ E) q ca [.ref (q 0), .int a1] μ r0 := by
  refine wMv_intro (by decide) (Nat.le_of_ble_eq_true rfl) ?_
  intro p e s m args below meth c A C
  unfold fX6_laysStamps at hf
  refine wr_sub [(0, .ref (q 0)), (1, .int a1)] [0, 1] rfl ?_
  refine wr_iconst 0 C dX6_laysStamps_0 (v := 0) rfl ?_
  refine wr_istore_n 1 [(2, .int 0), (0, .ref (q 0)), (1, .int a1)] C dX6_laysStamps_1 rfl rfl (Nat.le_of_ble_eq_true rfl) rfl ?_
  refine wr_sub [(0, .ref (q 0)), (1, .int a1), (2, .int 0)] [1, 2, 0] rfl ?_
  refine tX6_laysStamps_2 C N   a1 _ r0 (fun  μ5 hf => ?_) N 0 μ hf
  · replace hf := hf
    refine wr_aload_n 23 C dX6_laysStamps_23 0 rfl rfl ?_
    refine wr_iconst 24 C dX6_laysStamps_24 (v := 0) rfl ?_
    obtain ⟨μ7, h6, hf⟩ := o_bindV hf
    refine wr_Vv (kc1 := 0) (ks1 := 0) 25 [] C dX6_laysStamps_25 (tX6_begin l N   0 μ5 μ7 h6) okX6_begin q1698 (b := 0) spM_0 rfl ⟨rfl, rfl, Nat.le_of_ble_eq_true rfl, Nat.le_of_ble_eq_true rfl, Nat.zero_le _, Nat.zero_le _⟩ (Nat.le_of_ble_eq_true rfl) rfl ?_
    refine wr_aload_n 28 C dX6_laysStamps_28 0 rfl rfl ?_
    refine wr_iload_n 29 C dX6_laysStamps_29 1 rfl rfl ?_
    refine wr_iconst 30 C dX6_laysStamps_30 (v := 0) rfl ?_
    obtain ⟨v10, μ9, h8, hf⟩ := o_bind hf
    refine wr_Vi (kc1 := 0) (ks1 := 0) 31 [] C dX6_laysStamps_31 (tX6_completes l N 16   a1 0 μ7 (v10, μ9) h8) okX6_completes q1998 (b := 0) spM_0 rfl ⟨rfl, rfl, Nat.le_of_ble_eq_true rfl, Nat.le_of_ble_eq_true rfl, Nat.zero_le _, Nat.zero_le _⟩ (Nat.le_of_ble_eq_true rfl) rfl ?_
    refine wr_pop 34 C dX6_laysStamps_34 rfl ?_
    exact wr_vret 35 C dX6_laysStamps_35 ⟨Nat.zero_le _, Nat.zero_le _⟩ (Option.some.inj hf)
abbrev cX6_stamped : ByteArray := prog_11_method_114_code
def yX6_stamped : MethodName := ⟨RX6, "stamped", "(I)J"⟩
def dkwX6_stamped_1 : List UInt8 := [180, 0, 70, 3, 47, 173]
abbrev dktX6_stamped_1 : List UInt8 := dkwX6_stamped_1 ++ []
def dkwX6_stamped_0 : List UInt8 := [42, 3, 181, 0, 88, 42, 27, 182, 1, 168, 61, 28, 153, 0, 6, 28, 133, 173, 42, 27, 182, 1, 171, 42]
abbrev dktX6_stamped_0 : List UInt8 := dkwX6_stamped_0 ++ dktX6_stamped_1
theorem dksX6_stamped_0 : cX6_stamped.data.toList.drop 0 = dktX6_stamped_0 := by decide +kernel
theorem dksX6_stamped_1 : cX6_stamped.data.toList.drop 24 = dktX6_stamped_1 := dk_seg dksX6_stamped_0 24 rfl rfl
theorem dX6_stamped_0 : decode cX6_stamped 0 = .ok (.aload_n 0, 1) := dk_42 (dk_at dksX6_stamped_0 0 rfl rfl)
theorem dX6_stamped_1 : decode cX6_stamped 1 = .ok (.iconst 0, 1) := dk_3 (dk_at dksX6_stamped_0 1 rfl rfl)
theorem dX6_stamped_2 : decode cX6_stamped 2 = .ok (.putfield 88, 3) := dk_181 0 88 (dk_at dksX6_stamped_0 2 rfl rfl)
theorem dX6_stamped_5 : decode cX6_stamped 5 = .ok (.aload_n 0, 1) := dk_42 (dk_at dksX6_stamped_0 5 rfl rfl)
theorem dX6_stamped_6 : decode cX6_stamped 6 = .ok (.iload_n 1, 1) := dk_27 (dk_at dksX6_stamped_0 6 rfl rfl)
theorem dX6_stamped_7 : decode cX6_stamped 7 = .ok (.invokevirtual 424, 3) := dk_182 1 168 (dk_at dksX6_stamped_0 7 rfl rfl)
theorem dX6_stamped_10 : decode cX6_stamped 10 = .ok (.istore_n 2, 1) := dk_61 (dk_at dksX6_stamped_0 10 rfl rfl)
theorem dX6_stamped_11 : decode cX6_stamped 11 = .ok (.iload_n 2, 1) := dk_28 (dk_at dksX6_stamped_0 11 rfl rfl)
theorem dX6_stamped_12 : decode cX6_stamped 12 = .ok (.ifCond .eq 6, 3) := dk_153 0 6 (dk_at dksX6_stamped_0 12 rfl rfl)
theorem dX6_stamped_15 : decode cX6_stamped 15 = .ok (.iload_n 2, 1) := dk_28 (dk_at dksX6_stamped_0 15 rfl rfl)
theorem dX6_stamped_16 : decode cX6_stamped 16 = .ok (.i2l, 1) := dk_133 (dk_at dksX6_stamped_0 16 rfl rfl)
theorem dX6_stamped_17 : decode cX6_stamped 17 = .ok (.lreturn, 1) := dk_173 (dk_at dksX6_stamped_0 17 rfl rfl)
theorem dX6_stamped_18 : decode cX6_stamped 18 = .ok (.aload_n 0, 1) := dk_42 (dk_at dksX6_stamped_0 18 rfl rfl)
theorem dX6_stamped_19 : decode cX6_stamped 19 = .ok (.iload_n 1, 1) := dk_27 (dk_at dksX6_stamped_0 19 rfl rfl)
theorem dX6_stamped_20 : decode cX6_stamped 20 = .ok (.invokevirtual 427, 3) := dk_182 1 171 (dk_at dksX6_stamped_0 20 rfl rfl)
theorem dX6_stamped_23 : decode cX6_stamped 23 = .ok (.aload_n 0, 1) := dk_42 (dk_at dksX6_stamped_0 23 rfl rfl)
theorem dX6_stamped_24 : decode cX6_stamped 24 = .ok (.getfield 70, 3) := dk_180 0 70 (dk_at dksX6_stamped_1 0 rfl rfl)
theorem dX6_stamped_27 : decode cX6_stamped 27 = .ok (.iconst 0, 1) := dk_3 (dk_at dksX6_stamped_1 3 rfl rfl)
theorem dX6_stamped_28 : decode cX6_stamped 28 = .ok (.laload, 1) := dk_47 (dk_at dksX6_stamped_1 4 rfl rfl)
theorem dX6_stamped_29 : decode cX6_stamped 29 = .ok (.lreturn, 1) := dk_173 (dk_at dksX6_stamped_1 5 rfl rfl)

theorem okX6_stamped : wOkV yX6_stamped cX6_stamped 3 (some .long) 1 := ⟨q1986, q1987, q145, q1988, by decide, by decide, by decide +kernel⟩
def fX6_stamped (N : Nat)  (a1 : Int32) (μ : wMem) : Option (Int64 × wMem) :=
  wLet (wSI μ 0 0 (0 : Int32)) fun μ1 => wBind (fX6_whyNoStamps N  a1 μ1) fun v4 μ3 => if v4 = 0 then wBindV (fX6_laysStamps N  a1 μ3) fun μ7 => wG (ok_in (0 : Int32) 40768) (some (μ7.2 18 (Int32.toNatClampNeg (0 : Int32)), μ7)) else some (Int32.toInt64 v4, μ3)
set_option maxHeartbeats 4000000 in
set_option maxRecDepth 100000 in
theorem tX6_stamped (l : Launch) {D : va_G} {E : List wCell} {q : Nat → Nat} {ca : wCA} (N : Nat)   (a1 : Int32) (μ : wMem) (r0 : (Int64 × wMem)) (hf : fX6_stamped N  a1 μ = some r0) : wMl l yX6_stamped cX6_stamped 3 (some .long) ({ frames := 20, cells := 0, slots := 0, locals := 615 } : Room) D vwCl (spM ++ E) q ca [.ref (q 0), .int a1] μ r0 := by
  refine wMl_intro (by decide) (Nat.le_of_ble_eq_true rfl) ?_
  intro p e s m args below meth c A C
  unfold fX6_stamped at hf
  refine wr_sub [(0, .ref (q 0)), (1, .int a1)] [0, 1] rfl ?_
  refine wr_aload_n 0 C dX6_stamped_0 0 rfl rfl ?_
  refine wr_iconst 1 C dX6_stamped_1 (v := 0) rfl ?_
  obtain ⟨μ1, eμ1, hf⟩ := o_let hf
  refine puspM_0_0_X6 2 C dX6_stamped_2 eμ1 ?_
  refine wr_aload_n 5 C dX6_stamped_5 0 rfl rfl ?_
  refine wr_iload_n 6 C dX6_stamped_6 1 rfl rfl ?_
  obtain ⟨v4, μ3, h2, hf⟩ := o_bind hf
  refine wr_Vi (kc1 := 0) (ks1 := 0) 7 [] C dX6_stamped_7 (tX6_whyNoStamps l N   a1 μ1 (v4, μ3) h2) okX6_whyNoStamps q1989 (b := 0) spM_0 rfl ⟨rfl, rfl, Nat.le_of_ble_eq_true rfl, Nat.le_of_ble_eq_true rfl, Nat.zero_le _, Nat.zero_le _⟩ (Nat.le_of_ble_eq_true rfl) rfl ?_
  refine wr_istore_n 10 [(2, .int v4), (0, .ref (q 0)), (1, .int a1)] C dX6_stamped_10 rfl rfl (Nat.le_of_ble_eq_true rfl) rfl ?_
  refine wr_iload_n 11 C dX6_stamped_11 0 rfl rfl ?_
  refine wr_if_eq 12 18 C dX6_stamped_12 (by decide) (fun c5 => ?_) (fun c5 => ?_)
  · replace hf := o_pos c5 hf
    refine wr_aload_n 18 C dX6_stamped_18 1 rfl rfl ?_
    refine wr_iload_n 19 C dX6_stamped_19 2 rfl rfl ?_
    obtain ⟨μ7, h6, hf⟩ := o_bindV hf
    refine wr_Vv (kc1 := 0) (ks1 := 0) 20 [] C dX6_stamped_20 (tX6_laysStamps l N   a1 μ3 μ7 h6) okX6_laysStamps q1994 (b := 0) spM_0 rfl ⟨rfl, rfl, Nat.le_of_ble_eq_true rfl, Nat.le_of_ble_eq_true rfl, Nat.zero_le _, Nat.zero_le _⟩ (Nat.le_of_ble_eq_true rfl) rfl ?_
    refine wr_aload_n 23 C dX6_stamped_23 1 rfl rfl ?_
    refine gespM_0_41_X6 24 C dX6_stamped_24 ?_
    refine wr_iconst 27 C dX6_stamped_27 (v := 0) rfl ?_
    obtain ⟨g8, hf⟩ := o_g hf
    refine wr_lald 28 C dX6_stamped_28 spM_18 g8 ?_
    exact wr_lret 29 C dX6_stamped_29 ⟨Nat.zero_le _, Nat.zero_le _⟩ (Option.some.inj hf)
  · replace hf := o_neg c5 hf
    refine wr_iload_n 15 C dX6_stamped_15 0 rfl rfl ?_
    refine wr_i2l 16 C dX6_stamped_16 ?_
    exact wr_lret 17 C dX6_stamped_17 ⟨Nat.zero_le _, Nat.zero_le _⟩ (Option.some.inj hf)
abbrev cX6_goesOn : ByteArray := prog_11_method_116_code
def yX6_goesOn : MethodName := ⟨RX6, "goesOn", "(IIII)V"⟩
def dkwX6_goesOn_9 : List UInt8 := [177]
abbrev dktX6_goesOn_9 : List UInt8 := dkwX6_goesOn_9 ++ []
def dkwX6_goesOn_8 : List UInt8 := [180, 0, 82, 27, 92, 46, 4, 21, 5, 120, 128, 79, 132, 6, 1, 167, 255, 69, 132, 5, 1, 167, 255, 49]
abbrev dktX6_goesOn_8 : List UInt8 := dkwX6_goesOn_8 ++ dktX6_goesOn_9
def dkwX6_goesOn_7 : List UInt8 := [180, 0, 70, 21, 7, 47, 9, 148, 157, 0, 6, 167, 0, 24, 42, 180, 0, 85, 21, 7, 4, 84, 42]
abbrev dktX6_goesOn_7 : List UInt8 := dkwX6_goesOn_7 ++ dktX6_goesOn_8
def dkwX6_goesOn_6 : List UInt8 := [21, 5, 21, 6, 29, 182, 1, 22, 17, 12, 64, 27, 4, 96, 104, 42, 182, 1, 159, 96, 54, 7, 42]
abbrev dktX6_goesOn_6 : List UInt8 := dkwX6_goesOn_6 ++ dktX6_goesOn_7
def dkwX6_goesOn_5 : List UInt8 := [46, 21, 6, 184, 0, 189, 153, 0, 76, 42, 21, 6, 182, 0, 253, 21, 4, 159, 0, 6, 167, 0, 62, 42]
abbrev dktX6_goesOn_5 : List UInt8 := dkwX6_goesOn_5 ++ dktX6_goesOn_6
def dkwX6_goesOn_4 : List UInt8 := [180, 0, 247, 29, 182, 1, 0, 154, 0, 6, 167, 0, 96, 21, 6, 2, 159, 0, 31, 42, 180, 0, 34, 7]
abbrev dktX6_goesOn_4 : List UInt8 := dkwX6_goesOn_4 ++ dktX6_goesOn_5
def dkwX6_goesOn_3 : List UInt8 := [21, 5, 184, 0, 189, 154, 0, 124, 42, 21, 5, 29, 154, 0, 10, 42, 180, 0, 244, 167, 0, 7, 42]
abbrev dktX6_goesOn_3 : List UInt8 := dkwX6_goesOn_3 ++ dktX6_goesOn_4
def dkwX6_goesOn_2 : List UInt8 := [28, 16, 7, 112, 181, 0, 247, 42, 21, 5, 182, 0, 253, 21, 4, 160, 0, 138, 42, 180, 0, 34, 7, 46]
abbrev dktX6_goesOn_2 : List UInt8 := dkwX6_goesOn_2 ++ dktX6_goesOn_3
def dkwX6_goesOn_1 : List UInt8 := [46, 162, 0, 182, 42, 28, 16, 49, 108, 181, 0, 238, 42, 28, 16, 7, 108, 16, 7, 112, 181, 0, 244, 42]
abbrev dktX6_goesOn_1 : List UInt8 := dkwX6_goesOn_1 ++ dktX6_goesOn_2
def dkwX6_goesOn_0 : List UInt8 := [3, 54, 5, 21, 5, 42, 180, 0, 34, 5, 46, 162, 0, 202, 2, 54, 6, 21, 6, 42, 180, 0, 34, 5]
abbrev dktX6_goesOn_0 : List UInt8 := dkwX6_goesOn_0 ++ dktX6_goesOn_1
theorem dksX6_goesOn_0 : cX6_goesOn.data.toList.drop 0 = dktX6_goesOn_0 := by decide +kernel
theorem dksX6_goesOn_1 : cX6_goesOn.data.toList.drop 24 = dktX6_goesOn_1 := dk_seg dksX6_goesOn_0 24 rfl rfl
theorem dksX6_goesOn_2 : cX6_goesOn.data.toList.drop 48 = dktX6_goesOn_2 := dk_seg dksX6_goesOn_1 24 rfl rfl
theorem dksX6_goesOn_3 : cX6_goesOn.data.toList.drop 72 = dktX6_goesOn_3 := dk_seg dksX6_goesOn_2 24 rfl rfl
theorem dksX6_goesOn_4 : cX6_goesOn.data.toList.drop 95 = dktX6_goesOn_4 := dk_seg dksX6_goesOn_3 23 rfl rfl
theorem dksX6_goesOn_5 : cX6_goesOn.data.toList.drop 119 = dktX6_goesOn_5 := dk_seg dksX6_goesOn_4 24 rfl rfl
theorem dksX6_goesOn_6 : cX6_goesOn.data.toList.drop 143 = dktX6_goesOn_6 := dk_seg dksX6_goesOn_5 24 rfl rfl
theorem dksX6_goesOn_7 : cX6_goesOn.data.toList.drop 166 = dktX6_goesOn_7 := dk_seg dksX6_goesOn_6 23 rfl rfl
theorem dksX6_goesOn_8 : cX6_goesOn.data.toList.drop 189 = dktX6_goesOn_8 := dk_seg dksX6_goesOn_7 23 rfl rfl
theorem dksX6_goesOn_9 : cX6_goesOn.data.toList.drop 213 = dktX6_goesOn_9 := dk_seg dksX6_goesOn_8 24 rfl rfl
theorem dX6_goesOn_0 : decode cX6_goesOn 0 = .ok (.iconst 0, 1) := dk_3 (dk_at dksX6_goesOn_0 0 rfl rfl)
theorem dX6_goesOn_1 : decode cX6_goesOn 1 = .ok (.istore 5, 2) := dk_54 5 (dk_at dksX6_goesOn_0 1 rfl rfl)
theorem dX6_goesOn_3 : decode cX6_goesOn 3 = .ok (.iload 5, 2) := dk_21 5 (dk_at dksX6_goesOn_0 3 rfl rfl)
theorem dX6_goesOn_5 : decode cX6_goesOn 5 = .ok (.aload_n 0, 1) := dk_42 (dk_at dksX6_goesOn_0 5 rfl rfl)
theorem dX6_goesOn_6 : decode cX6_goesOn 6 = .ok (.getfield 34, 3) := dk_180 0 34 (dk_at dksX6_goesOn_0 6 rfl rfl)
theorem dX6_goesOn_9 : decode cX6_goesOn 9 = .ok (.iconst 2, 1) := dk_5 (dk_at dksX6_goesOn_0 9 rfl rfl)
theorem dX6_goesOn_10 : decode cX6_goesOn 10 = .ok (.iaload, 1) := dk_46 (dk_at dksX6_goesOn_0 10 rfl rfl)
theorem dX6_goesOn_11 : decode cX6_goesOn 11 = .ok (.if_icmp .ge 202, 3) := dk_162 0 202 (dk_at dksX6_goesOn_0 11 rfl rfl)
theorem dX6_goesOn_14 : decode cX6_goesOn 14 = .ok (.iconst (-1), 1) := dk_2 (dk_at dksX6_goesOn_0 14 rfl rfl)
theorem dX6_goesOn_15 : decode cX6_goesOn 15 = .ok (.istore 6, 2) := dk_54 6 (dk_at dksX6_goesOn_0 15 rfl rfl)
theorem dX6_goesOn_17 : decode cX6_goesOn 17 = .ok (.iload 6, 2) := dk_21 6 (dk_at dksX6_goesOn_0 17 rfl rfl)
theorem dX6_goesOn_19 : decode cX6_goesOn 19 = .ok (.aload_n 0, 1) := dk_42 (dk_at dksX6_goesOn_0 19 rfl rfl)
theorem dX6_goesOn_20 : decode cX6_goesOn 20 = .ok (.getfield 34, 3) := dk_180 0 34 (dk_at dksX6_goesOn_0 20 rfl rfl)
theorem dX6_goesOn_23 : decode cX6_goesOn 23 = .ok (.iconst 2, 1) := dk_5 (dk_at dksX6_goesOn_0 23 rfl rfl)
theorem dX6_goesOn_24 : decode cX6_goesOn 24 = .ok (.iaload, 1) := dk_46 (dk_at dksX6_goesOn_1 0 rfl rfl)
theorem dX6_goesOn_25 : decode cX6_goesOn 25 = .ok (.if_icmp .ge 182, 3) := dk_162 0 182 (dk_at dksX6_goesOn_1 1 rfl rfl)
theorem dX6_goesOn_28 : decode cX6_goesOn 28 = .ok (.aload_n 0, 1) := dk_42 (dk_at dksX6_goesOn_1 4 rfl rfl)
theorem dX6_goesOn_29 : decode cX6_goesOn 29 = .ok (.iload_n 2, 1) := dk_28 (dk_at dksX6_goesOn_1 5 rfl rfl)
theorem dX6_goesOn_30 : decode cX6_goesOn 30 = .ok (.bipush 49, 2) := dk_16 49 (dk_at dksX6_goesOn_1 6 rfl rfl)
theorem dX6_goesOn_32 : decode cX6_goesOn 32 = .ok (.idiv, 1) := dk_108 (dk_at dksX6_goesOn_1 8 rfl rfl)
theorem dX6_goesOn_33 : decode cX6_goesOn 33 = .ok (.putfield 238, 3) := dk_181 0 238 (dk_at dksX6_goesOn_1 9 rfl rfl)
theorem dX6_goesOn_36 : decode cX6_goesOn 36 = .ok (.aload_n 0, 1) := dk_42 (dk_at dksX6_goesOn_1 12 rfl rfl)
theorem dX6_goesOn_37 : decode cX6_goesOn 37 = .ok (.iload_n 2, 1) := dk_28 (dk_at dksX6_goesOn_1 13 rfl rfl)
theorem dX6_goesOn_38 : decode cX6_goesOn 38 = .ok (.bipush 7, 2) := dk_16 7 (dk_at dksX6_goesOn_1 14 rfl rfl)
theorem dX6_goesOn_40 : decode cX6_goesOn 40 = .ok (.idiv, 1) := dk_108 (dk_at dksX6_goesOn_1 16 rfl rfl)
theorem dX6_goesOn_41 : decode cX6_goesOn 41 = .ok (.bipush 7, 2) := dk_16 7 (dk_at dksX6_goesOn_1 17 rfl rfl)
theorem dX6_goesOn_43 : decode cX6_goesOn 43 = .ok (.irem, 1) := dk_112 (dk_at dksX6_goesOn_1 19 rfl rfl)
theorem dX6_goesOn_44 : decode cX6_goesOn 44 = .ok (.putfield 244, 3) := dk_181 0 244 (dk_at dksX6_goesOn_1 20 rfl rfl)
theorem dX6_goesOn_47 : decode cX6_goesOn 47 = .ok (.aload_n 0, 1) := dk_42 (dk_at dksX6_goesOn_1 23 rfl rfl)
theorem dX6_goesOn_48 : decode cX6_goesOn 48 = .ok (.iload_n 2, 1) := dk_28 (dk_at dksX6_goesOn_2 0 rfl rfl)
theorem dX6_goesOn_49 : decode cX6_goesOn 49 = .ok (.bipush 7, 2) := dk_16 7 (dk_at dksX6_goesOn_2 1 rfl rfl)
theorem dX6_goesOn_51 : decode cX6_goesOn 51 = .ok (.irem, 1) := dk_112 (dk_at dksX6_goesOn_2 3 rfl rfl)
theorem dX6_goesOn_52 : decode cX6_goesOn 52 = .ok (.putfield 247, 3) := dk_181 0 247 (dk_at dksX6_goesOn_2 4 rfl rfl)
theorem dX6_goesOn_55 : decode cX6_goesOn 55 = .ok (.aload_n 0, 1) := dk_42 (dk_at dksX6_goesOn_2 7 rfl rfl)
theorem dX6_goesOn_56 : decode cX6_goesOn 56 = .ok (.iload 5, 2) := dk_21 5 (dk_at dksX6_goesOn_2 8 rfl rfl)
theorem dX6_goesOn_58 : decode cX6_goesOn 58 = .ok (.invokevirtual 253, 3) := dk_182 0 253 (dk_at dksX6_goesOn_2 10 rfl rfl)
theorem dX6_goesOn_61 : decode cX6_goesOn 61 = .ok (.iload 4, 2) := dk_21 4 (dk_at dksX6_goesOn_2 13 rfl rfl)
theorem dX6_goesOn_63 : decode cX6_goesOn 63 = .ok (.if_icmp .ne 138, 3) := dk_160 0 138 (dk_at dksX6_goesOn_2 15 rfl rfl)
theorem dX6_goesOn_66 : decode cX6_goesOn 66 = .ok (.aload_n 0, 1) := dk_42 (dk_at dksX6_goesOn_2 18 rfl rfl)
theorem dX6_goesOn_67 : decode cX6_goesOn 67 = .ok (.getfield 34, 3) := dk_180 0 34 (dk_at dksX6_goesOn_2 19 rfl rfl)
theorem dX6_goesOn_70 : decode cX6_goesOn 70 = .ok (.iconst 4, 1) := dk_7 (dk_at dksX6_goesOn_2 22 rfl rfl)
theorem dX6_goesOn_71 : decode cX6_goesOn 71 = .ok (.iaload, 1) := dk_46 (dk_at dksX6_goesOn_2 23 rfl rfl)
theorem dX6_goesOn_72 : decode cX6_goesOn 72 = .ok (.iload 5, 2) := dk_21 5 (dk_at dksX6_goesOn_3 0 rfl rfl)
theorem dX6_goesOn_74 : decode cX6_goesOn 74 = .ok (.invokestatic 189, 3) := dk_184 0 189 (dk_at dksX6_goesOn_3 2 rfl rfl)
theorem dX6_goesOn_77 : decode cX6_goesOn 77 = .ok (.ifCond .ne 124, 3) := dk_154 0 124 (dk_at dksX6_goesOn_3 5 rfl rfl)
theorem dX6_goesOn_80 : decode cX6_goesOn 80 = .ok (.aload_n 0, 1) := dk_42 (dk_at dksX6_goesOn_3 8 rfl rfl)
theorem dX6_goesOn_81 : decode cX6_goesOn 81 = .ok (.iload 5, 2) := dk_21 5 (dk_at dksX6_goesOn_3 9 rfl rfl)
theorem dX6_goesOn_83 : decode cX6_goesOn 83 = .ok (.iload_n 3, 1) := dk_29 (dk_at dksX6_goesOn_3 11 rfl rfl)
theorem dX6_goesOn_84 : decode cX6_goesOn 84 = .ok (.ifCond .ne 10, 3) := dk_154 0 10 (dk_at dksX6_goesOn_3 12 rfl rfl)
theorem dX6_goesOn_87 : decode cX6_goesOn 87 = .ok (.aload_n 0, 1) := dk_42 (dk_at dksX6_goesOn_3 15 rfl rfl)
theorem dX6_goesOn_88 : decode cX6_goesOn 88 = .ok (.getfield 244, 3) := dk_180 0 244 (dk_at dksX6_goesOn_3 16 rfl rfl)
theorem dX6_goesOn_91 : decode cX6_goesOn 91 = .ok (.goto 7, 3) := dk_167 0 7 (dk_at dksX6_goesOn_3 19 rfl rfl)
theorem dX6_goesOn_94 : decode cX6_goesOn 94 = .ok (.aload_n 0, 1) := dk_42 (dk_at dksX6_goesOn_3 22 rfl rfl)
theorem dX6_goesOn_95 : decode cX6_goesOn 95 = .ok (.getfield 247, 3) := dk_180 0 247 (dk_at dksX6_goesOn_4 0 rfl rfl)
theorem dX6_goesOn_98 : decode cX6_goesOn 98 = .ok (.iload_n 3, 1) := dk_29 (dk_at dksX6_goesOn_4 3 rfl rfl)
theorem dX6_goesOn_99 : decode cX6_goesOn 99 = .ok (.invokevirtual 256, 3) := dk_182 1 0 (dk_at dksX6_goesOn_4 4 rfl rfl)
theorem dX6_goesOn_102 : decode cX6_goesOn 102 = .ok (.ifCond .ne 6, 3) := dk_154 0 6 (dk_at dksX6_goesOn_4 7 rfl rfl)
theorem dX6_goesOn_105 : decode cX6_goesOn 105 = .ok (.goto 96, 3) := dk_167 0 96 (dk_at dksX6_goesOn_4 10 rfl rfl)
theorem dX6_goesOn_108 : decode cX6_goesOn 108 = .ok (.iload 6, 2) := dk_21 6 (dk_at dksX6_goesOn_4 13 rfl rfl)
theorem dX6_goesOn_110 : decode cX6_goesOn 110 = .ok (.iconst (-1), 1) := dk_2 (dk_at dksX6_goesOn_4 15 rfl rfl)
theorem dX6_goesOn_111 : decode cX6_goesOn 111 = .ok (.if_icmp .eq 31, 3) := dk_159 0 31 (dk_at dksX6_goesOn_4 16 rfl rfl)
theorem dX6_goesOn_114 : decode cX6_goesOn 114 = .ok (.aload_n 0, 1) := dk_42 (dk_at dksX6_goesOn_4 19 rfl rfl)
theorem dX6_goesOn_115 : decode cX6_goesOn 115 = .ok (.getfield 34, 3) := dk_180 0 34 (dk_at dksX6_goesOn_4 20 rfl rfl)
theorem dX6_goesOn_118 : decode cX6_goesOn 118 = .ok (.iconst 4, 1) := dk_7 (dk_at dksX6_goesOn_4 23 rfl rfl)
theorem dX6_goesOn_119 : decode cX6_goesOn 119 = .ok (.iaload, 1) := dk_46 (dk_at dksX6_goesOn_5 0 rfl rfl)
theorem dX6_goesOn_120 : decode cX6_goesOn 120 = .ok (.iload 6, 2) := dk_21 6 (dk_at dksX6_goesOn_5 1 rfl rfl)
theorem dX6_goesOn_122 : decode cX6_goesOn 122 = .ok (.invokestatic 189, 3) := dk_184 0 189 (dk_at dksX6_goesOn_5 3 rfl rfl)
theorem dX6_goesOn_125 : decode cX6_goesOn 125 = .ok (.ifCond .eq 76, 3) := dk_153 0 76 (dk_at dksX6_goesOn_5 6 rfl rfl)
theorem dX6_goesOn_128 : decode cX6_goesOn 128 = .ok (.aload_n 0, 1) := dk_42 (dk_at dksX6_goesOn_5 9 rfl rfl)
theorem dX6_goesOn_129 : decode cX6_goesOn 129 = .ok (.iload 6, 2) := dk_21 6 (dk_at dksX6_goesOn_5 10 rfl rfl)
theorem dX6_goesOn_131 : decode cX6_goesOn 131 = .ok (.invokevirtual 253, 3) := dk_182 0 253 (dk_at dksX6_goesOn_5 12 rfl rfl)
theorem dX6_goesOn_134 : decode cX6_goesOn 134 = .ok (.iload 4, 2) := dk_21 4 (dk_at dksX6_goesOn_5 15 rfl rfl)
theorem dX6_goesOn_136 : decode cX6_goesOn 136 = .ok (.if_icmp .eq 6, 3) := dk_159 0 6 (dk_at dksX6_goesOn_5 17 rfl rfl)
theorem dX6_goesOn_139 : decode cX6_goesOn 139 = .ok (.goto 62, 3) := dk_167 0 62 (dk_at dksX6_goesOn_5 20 rfl rfl)
theorem dX6_goesOn_142 : decode cX6_goesOn 142 = .ok (.aload_n 0, 1) := dk_42 (dk_at dksX6_goesOn_5 23 rfl rfl)
theorem dX6_goesOn_143 : decode cX6_goesOn 143 = .ok (.iload 5, 2) := dk_21 5 (dk_at dksX6_goesOn_6 0 rfl rfl)
theorem dX6_goesOn_145 : decode cX6_goesOn 145 = .ok (.iload 6, 2) := dk_21 6 (dk_at dksX6_goesOn_6 2 rfl rfl)
theorem dX6_goesOn_147 : decode cX6_goesOn 147 = .ok (.iload_n 3, 1) := dk_29 (dk_at dksX6_goesOn_6 4 rfl rfl)
theorem dX6_goesOn_148 : decode cX6_goesOn 148 = .ok (.invokevirtual 278, 3) := dk_182 1 22 (dk_at dksX6_goesOn_6 5 rfl rfl)
theorem dX6_goesOn_151 : decode cX6_goesOn 151 = .ok (.sipush 3136, 3) := dk_17 12 64 (dk_at dksX6_goesOn_6 8 rfl rfl)
theorem dX6_goesOn_154 : decode cX6_goesOn 154 = .ok (.iload_n 1, 1) := dk_27 (dk_at dksX6_goesOn_6 11 rfl rfl)
theorem dX6_goesOn_155 : decode cX6_goesOn 155 = .ok (.iconst 1, 1) := dk_4 (dk_at dksX6_goesOn_6 12 rfl rfl)
theorem dX6_goesOn_156 : decode cX6_goesOn 156 = .ok (.iadd, 1) := dk_96 (dk_at dksX6_goesOn_6 13 rfl rfl)
theorem dX6_goesOn_157 : decode cX6_goesOn 157 = .ok (.imul, 1) := dk_104 (dk_at dksX6_goesOn_6 14 rfl rfl)
theorem dX6_goesOn_158 : decode cX6_goesOn 158 = .ok (.aload_n 0, 1) := dk_42 (dk_at dksX6_goesOn_6 15 rfl rfl)
theorem dX6_goesOn_159 : decode cX6_goesOn 159 = .ok (.invokevirtual 415, 3) := dk_182 1 159 (dk_at dksX6_goesOn_6 16 rfl rfl)
theorem dX6_goesOn_162 : decode cX6_goesOn 162 = .ok (.iadd, 1) := dk_96 (dk_at dksX6_goesOn_6 19 rfl rfl)
theorem dX6_goesOn_163 : decode cX6_goesOn 163 = .ok (.istore 7, 2) := dk_54 7 (dk_at dksX6_goesOn_6 20 rfl rfl)
theorem dX6_goesOn_165 : decode cX6_goesOn 165 = .ok (.aload_n 0, 1) := dk_42 (dk_at dksX6_goesOn_6 22 rfl rfl)
theorem dX6_goesOn_166 : decode cX6_goesOn 166 = .ok (.getfield 70, 3) := dk_180 0 70 (dk_at dksX6_goesOn_7 0 rfl rfl)
theorem dX6_goesOn_169 : decode cX6_goesOn 169 = .ok (.iload 7, 2) := dk_21 7 (dk_at dksX6_goesOn_7 3 rfl rfl)
theorem dX6_goesOn_171 : decode cX6_goesOn 171 = .ok (.laload, 1) := dk_47 (dk_at dksX6_goesOn_7 5 rfl rfl)
theorem dX6_goesOn_172 : decode cX6_goesOn 172 = .ok (.lconst 0, 1) := dk_9 (dk_at dksX6_goesOn_7 6 rfl rfl)
theorem dX6_goesOn_173 : decode cX6_goesOn 173 = .ok (.lcmp, 1) := dk_148 (dk_at dksX6_goesOn_7 7 rfl rfl)
theorem dX6_goesOn_174 : decode cX6_goesOn 174 = .ok (.ifCond .gt 6, 3) := dk_157 0 6 (dk_at dksX6_goesOn_7 8 rfl rfl)
theorem dX6_goesOn_177 : decode cX6_goesOn 177 = .ok (.goto 24, 3) := dk_167 0 24 (dk_at dksX6_goesOn_7 11 rfl rfl)
theorem dX6_goesOn_180 : decode cX6_goesOn 180 = .ok (.aload_n 0, 1) := dk_42 (dk_at dksX6_goesOn_7 14 rfl rfl)
theorem dX6_goesOn_181 : decode cX6_goesOn 181 = .ok (.getfield 85, 3) := dk_180 0 85 (dk_at dksX6_goesOn_7 15 rfl rfl)
theorem dX6_goesOn_184 : decode cX6_goesOn 184 = .ok (.iload 7, 2) := dk_21 7 (dk_at dksX6_goesOn_7 18 rfl rfl)
theorem dX6_goesOn_186 : decode cX6_goesOn 186 = .ok (.iconst 1, 1) := dk_4 (dk_at dksX6_goesOn_7 20 rfl rfl)
theorem dX6_goesOn_187 : decode cX6_goesOn 187 = .ok (.bastore, 1) := dk_84 (dk_at dksX6_goesOn_7 21 rfl rfl)
theorem dX6_goesOn_188 : decode cX6_goesOn 188 = .ok (.aload_n 0, 1) := dk_42 (dk_at dksX6_goesOn_7 22 rfl rfl)
theorem dX6_goesOn_189 : decode cX6_goesOn 189 = .ok (.getfield 82, 3) := dk_180 0 82 (dk_at dksX6_goesOn_8 0 rfl rfl)
theorem dX6_goesOn_192 : decode cX6_goesOn 192 = .ok (.iload_n 1, 1) := dk_27 (dk_at dksX6_goesOn_8 3 rfl rfl)
theorem dX6_goesOn_193 : decode cX6_goesOn 193 = .ok (.dup2, 1) := dk_92 (dk_at dksX6_goesOn_8 4 rfl rfl)
theorem dX6_goesOn_194 : decode cX6_goesOn 194 = .ok (.iaload, 1) := dk_46 (dk_at dksX6_goesOn_8 5 rfl rfl)
theorem dX6_goesOn_195 : decode cX6_goesOn 195 = .ok (.iconst 1, 1) := dk_4 (dk_at dksX6_goesOn_8 6 rfl rfl)
theorem dX6_goesOn_196 : decode cX6_goesOn 196 = .ok (.iload 5, 2) := dk_21 5 (dk_at dksX6_goesOn_8 7 rfl rfl)
theorem dX6_goesOn_198 : decode cX6_goesOn 198 = .ok (.ishl, 1) := dk_120 (dk_at dksX6_goesOn_8 9 rfl rfl)
theorem dX6_goesOn_199 : decode cX6_goesOn 199 = .ok (.ior, 1) := dk_128 (dk_at dksX6_goesOn_8 10 rfl rfl)
theorem dX6_goesOn_200 : decode cX6_goesOn 200 = .ok (.iastore, 1) := dk_79 (dk_at dksX6_goesOn_8 11 rfl rfl)
theorem dX6_goesOn_201 : decode cX6_goesOn 201 = .ok (.iinc 6 1, 3) := dk_132 6 1 (dk_at dksX6_goesOn_8 12 rfl rfl)
theorem dX6_goesOn_204 : decode cX6_goesOn 204 = .ok (.goto (-187), 3) := dk_167 255 69 (dk_at dksX6_goesOn_8 15 rfl rfl)
theorem dX6_goesOn_207 : decode cX6_goesOn 207 = .ok (.iinc 5 1, 3) := dk_132 5 1 (dk_at dksX6_goesOn_8 18 rfl rfl)
theorem dX6_goesOn_210 : decode cX6_goesOn 210 = .ok (.goto (-207), 3) := dk_167 255 49 (dk_at dksX6_goesOn_8 21 rfl rfl)
theorem dX6_goesOn_213 : decode cX6_goesOn 213 = .ok (.return_, 1) := dk_177 (dk_at dksX6_goesOn_9 0 rfl rfl)
theorem gespM_0_45_X6 {p : Program} {l : Launch} {e : Env} {R : Room} {s : State} {m : MethodId} {args : Array Value} {below : List Frame} {meth : Method} {c : Code} {cc : ByteArray} {nL : Nat} {ret : Option FieldType} {D : va_G} {E : List wCell} {q : Nat → Nat} {ca : wCA} {A : Nat → Prop} {Q : State → Prop} {kc ks : Nat} {μ : wMem} {lv : List (Nat × Value)} {st : List Value} (pc : Nat) (C : wC p R s m args meth c cc "OnePassportModel" nL ret D vwCl (spM ++ E) q ca A) (hd : decode cc pc = .ok (.getfield 82, 3)) (k : wJ p l e R s m args below meth c nL D vwCl (spM ++ E) q ca A Q kc ks μ (pc + 3) lv (.ref (q 22) :: st)) : wJ p l e R s m args below meth c nL D vwCl (spM ++ E) q ca A Q kc ks μ pc lv (.ref (q 0) :: st) := wr_getR pc 45 C hd spM_0 rfl in_X6 (by decide) rfl q1444 k
theorem gespM_0_46_X6 {p : Program} {l : Launch} {e : Env} {R : Room} {s : State} {m : MethodId} {args : Array Value} {below : List Frame} {meth : Method} {c : Code} {cc : ByteArray} {nL : Nat} {ret : Option FieldType} {D : va_G} {E : List wCell} {q : Nat → Nat} {ca : wCA} {A : Nat → Prop} {Q : State → Prop} {kc ks : Nat} {μ : wMem} {lv : List (Nat × Value)} {st : List Value} (pc : Nat) (C : wC p R s m args meth c cc "OnePassportModel" nL ret D vwCl (spM ++ E) q ca A) (hd : decode cc pc = .ok (.getfield 85, 3)) (k : wJ p l e R s m args below meth c nL D vwCl (spM ++ E) q ca A Q kc ks μ (pc + 3) lv (.ref (q 23) :: st)) : wJ p l e R s m args below meth c nL D vwCl (spM ++ E) q ca A Q kc ks μ pc lv (.ref (q 0) :: st) := wr_getR pc 46 C hd spM_0 rfl in_X6 (by decide) rfl q1445 k
theorem okX6_goesOn : wOkV yX6_goesOn cX6_goesOn 8 none 4 := ⟨q2020, qs131, q145, q2021, by decide, by decide, by decide +kernel⟩
def gbX6_goesOn_17 (N : Nat)  (x1_ : Int32) (x2_ : Int32) (x3_ : Int32) (x4_ : Int32) (x5_ : Int32) (K : (wMem → Option wMem)) (rec : (Int32 → wMem → Option wMem)) (x6_ : Int32) (μ : wMem) : Option wMem :=
  wG (ok_in (2 : Int32) 35) (if (μ.1 7 (Int32.toNatClampNeg (2 : Int32))) ≤ x6_ then K  μ else wLet (wSI μ 0 23 (x2_ / (49 : Int32))) fun μ5 => wLet (wSI μ5 0 25 ((x2_ / (7 : Int32)) - (x2_ / (7 : Int32)) / (7 : Int32) * (7 : Int32))) fun μ6 => wLet (wSI μ6 0 26 (x2_ - x2_ / (7 : Int32) * (7 : Int32))) fun μ7 => wBind (fX6_sideOf N  x5_ μ7) fun v10 μ9 => wLet (fun  (μ11 : wMem) => wLet (x6_ + 1 : Int32) fun x12 => rec x12 μ11) fun JgoesOn201 => if v10 = x4_ then wG (ok_in (4 : Int32) 35) (wBind (fX6_isBit N  (μ9.1 7 (Int32.toNatClampNeg (4 : Int32))) x5_ μ9) fun v17 μ16 => if v17 = 0 then wLet (fun (v20 : Int32) (v21 : Int32) (μ19 : wMem) => wBind (fX6_noses N  v21 v20 x3_ μ19) fun v24 μ23 => if v24 = 0 then JgoesOn201  μ23 else wLet (fun  (μ26 : wMem) => wBindV (fX6_crosses N  x5_ x6_ x3_ μ26) fun μ28 => wBind (fX6_kindOf N   μ28) fun v31 μ30 => wLet (((3136 : Int32) * (x1_ + (1 : Int32))) + v31 : Int32) fun x32 => wG (ok_in x32 40768) (if (0 : Int64) < (μ30.2 18 (Int32.toNatClampNeg x32)) then wG (ok_in x32 40768) (wLet (wSI μ30 23 (Int32.toNatClampNeg x32) (1 : Int32)) fun μ36 => wG (ok_in x1_ 12) (wG (ok_in x1_ 12) (wLet (wSI μ36 22 (Int32.toNatClampNeg x1_) ((μ36.1 22 (Int32.toNatClampNeg x1_)) ||| ((1 : Int32) <<< (x5_ &&& 31)))) fun μ39 => JgoesOn201  μ39))) else JgoesOn201  μ30)) fun JgoesOn142 => if x6_ = (-1 : Int32) then JgoesOn142  μ23 else wG (ok_in (4 : Int32) 35) (wBind (fX6_isBit N  (μ23.1 7 (Int32.toNatClampNeg (4 : Int32))) x6_ μ23) fun v44 μ43 => if v44 = 0 then JgoesOn201  μ43 else wBind (fX6_sideOf N  x6_ μ43) fun v48 μ47 => if v48 = x4_ then JgoesOn142  μ47 else JgoesOn201  μ47)) fun JgoesOn98 => if x3_ = 0 then JgoesOn98 (μ16.1 0 25) x5_ μ16 else JgoesOn98 (μ16.1 0 26) x5_ μ16 else JgoesOn201  μ16) else JgoesOn201  μ9)
def gX6_goesOn_17 (N : Nat)  (x1_ : Int32) (x2_ : Int32) (x3_ : Int32) (x4_ : Int32) (x5_ : Int32) (K : (wMem → Option wMem)) : Nat → (Int32 → wMem → Option wMem)
  | 0 => fun _ _ => none
  | k + 1 => gbX6_goesOn_17 N  x1_ x2_ x3_ x4_ x5_ K (gX6_goesOn_17 N  x1_ x2_ x3_ x4_ x5_ K k)
set_option maxHeartbeats 4000000 in
set_option maxRecDepth 100000 in
theorem tX6_goesOn_17 {p : Program} {l : Launch} {e : Env} {s : State} {m : MethodId} {args : Array Value} {below : List Frame} {meth : Method} {c : Code} {D : va_G} {E : List wCell} {q : Nat → Nat} {ca : wCA} {A : Nat → Prop} (C : wC p ({ frames := 2, cells := 0, slots := 0, locals := 49 } : Room) s m args meth c cX6_goesOn yX6_goesOn.cls 8 none D vwCl (spM ++ E) q ca A) (N : Nat)   (x1_ : Int32) (x2_ : Int32) (x3_ : Int32) (x4_ : Int32) (x5_ : Int32) (K : (wMem → Option wMem)) (r0 : wMem) (hK : ∀  (μ : wMem), K  μ = some r0 → wJ p l e ({ frames := 2, cells := 0, slots := 0, locals := 49 } : Room) s m args below meth c 8 D vwCl (spM ++ E) q ca A (wQv ({ frames := 2, cells := 0, slots := 0, locals := 49 } : Room) D vwCl (spM ++ E) q ca below args s A r0) 0 0 μ 207 [(0, .ref (q 0)), (1, .int x1_), (2, .int x2_), (3, .int x3_), (4, .int x4_), (5, .int x5_)] []) : ∀ (k : Nat) (x6_ : Int32) (μ : wMem), gX6_goesOn_17 N  x1_ x2_ x3_ x4_ x5_ K k x6_ μ = some r0 → wJ p l e ({ frames := 2, cells := 0, slots := 0, locals := 49 } : Room) s m args below meth c 8 D vwCl (spM ++ E) q ca A (wQv ({ frames := 2, cells := 0, slots := 0, locals := 49 } : Room) D vwCl (spM ++ E) q ca below args s A r0) 0 0 μ 17 [(0, .ref (q 0)), (1, .int x1_), (2, .int x2_), (3, .int x3_), (4, .int x4_), (5, .int x5_), (6, .int x6_)] [] := by
  intro k
  induction k with
  | zero =>
    intro x6_ μ hf
    cases hf
  | succ k ih =>
    intro x6_ μ hf
    replace hf : gbX6_goesOn_17 N  x1_ x2_ x3_ x4_ x5_ K (gX6_goesOn_17 N  x1_ x2_ x3_ x4_ x5_ K k) x6_ μ = some r0 := hf
    unfold gbX6_goesOn_17 at hf
    refine wr_iload 17 C dX6_goesOn_17 6 rfl ?_
    refine wr_aload_n 19 C dX6_goesOn_19 0 rfl rfl ?_
    refine gespM_0_17_X6 20 C dX6_goesOn_20 ?_
    refine wr_iconst 23 C dX6_goesOn_23 (v := 2) rfl ?_
    obtain ⟨g3, hf⟩ := o_g hf
    refine wr_iald 24 C dX6_goesOn_24 spM_7 g3 ?_
    refine wr_icmp_ge 25 207 C dX6_goesOn_25 (by decide) (fun c4 => ?_) (fun c4 => ?_)
    · replace hf := o_pos c4 hf
      refine wr_sub [(0, .ref (q 0)), (1, .int x1_), (2, .int x2_), (3, .int x3_), (4, .int x4_), (5, .int x5_)] [0, 1, 2, 3, 4, 5] rfl ?_
      exact hK  μ hf
    · replace hf := o_neg c4 hf
      refine wr_aload_n 28 C dX6_goesOn_28 0 rfl rfl ?_
      refine wr_iload_n 29 C dX6_goesOn_29 2 rfl rfl ?_
      refine wr_bipush 30 C dX6_goesOn_30 (v := 49) rfl ?_
      refine wr_idiv 32 C dX6_goesOn_32 (by decide) ?_
      obtain ⟨μ5, eμ5, hf⟩ := o_let hf
      refine puspM_0_23_X6 33 C dX6_goesOn_33 eμ5 ?_
      refine wr_aload_n 36 C dX6_goesOn_36 0 rfl rfl ?_
      refine wr_iload_n 37 C dX6_goesOn_37 2 rfl rfl ?_
      refine wr_bipush 38 C dX6_goesOn_38 (v := 7) rfl ?_
      refine wr_idiv 40 C dX6_goesOn_40 (by decide) ?_
      refine wr_bipush 41 C dX6_goesOn_41 (v := 7) rfl ?_
      refine wr_irem 43 C dX6_goesOn_43 (by decide) ?_
      obtain ⟨μ6, eμ6, hf⟩ := o_let hf
      refine puspM_0_25_X6 44 C dX6_goesOn_44 eμ6 ?_
      refine wr_aload_n 47 C dX6_goesOn_47 0 rfl rfl ?_
      refine wr_iload_n 48 C dX6_goesOn_48 2 rfl rfl ?_
      refine wr_bipush 49 C dX6_goesOn_49 (v := 7) rfl ?_
      refine wr_irem 51 C dX6_goesOn_51 (by decide) ?_
      obtain ⟨μ7, eμ7, hf⟩ := o_let hf
      refine puspM_0_26_X6 52 C dX6_goesOn_52 eμ7 ?_
      refine wr_aload_n 55 C dX6_goesOn_55 0 rfl rfl ?_
      refine wr_iload 56 C dX6_goesOn_56 5 rfl ?_
      obtain ⟨v10, μ9, h8, hf⟩ := o_bind hf
      refine wr_Vi (kc1 := 0) (ks1 := 0) 58 [] C dX6_goesOn_58 (tX6_sideOf l N   x5_ μ7 (v10, μ9) h8) okX6_sideOf q1718 (b := 0) spM_0 rfl ⟨rfl, rfl, Nat.le_of_ble_eq_true rfl, Nat.le_of_ble_eq_true rfl, Nat.zero_le _, Nat.zero_le _⟩ (Nat.le_of_ble_eq_true rfl) rfl ?_
      refine wr_iload 61 C dX6_goesOn_61 4 rfl ?_
      obtain ⟨JgoesOn201, eJgoesOn201, hf⟩ := o_let hf
      have hJgoesOn201 : ∀  (μ11 : wMem), JgoesOn201  μ11 = some r0 → wJ p l e ({ frames := 2, cells := 0, slots := 0, locals := 49 } : Room) s m args below meth c 8 D vwCl (spM ++ E) q ca A (wQv ({ frames := 2, cells := 0, slots := 0, locals := 49 } : Room) D vwCl (spM ++ E) q ca below args s A r0) 0 0 μ11 201 [(0, .ref (q 0)), (1, .int x1_), (2, .int x2_), (3, .int x3_), (4, .int x4_), (5, .int x5_), (6, .int x6_)] [] := by
        intro  μ11 hf
        rw [eJgoesOn201] at hf
        obtain ⟨x12, ex12, hf⟩ := o_let hf
        refine wr_iinc 201 [(6, .int x12), (0, .ref (q 0)), (1, .int x1_), (2, .int x2_), (3, .int x3_), (4, .int x4_), (5, .int x5_)] C dX6_goesOn_201 6 rfl (ex12.trans rfl) (Nat.le_of_ble_eq_true rfl) rfl ?_
        refine wr_goto 204 C dX6_goesOn_204 (tgt := 17) (by decide) ?_
        refine wr_sub [(0, .ref (q 0)), (1, .int x1_), (2, .int x2_), (3, .int x3_), (4, .int x4_), (5, .int x5_), (6, .int x12)] [1, 2, 3, 4, 5, 6, 0] rfl ?_
        exact ih x12 μ11 hf
      refine wr_icmp_ne 63 201 C dX6_goesOn_63 (by decide) (fun c13 => ?_) (fun c13 => ?_)
      · replace hf := o_neg c13 hf
        exact hJgoesOn201  μ9 hf
      · replace hf := o_pos c13 hf
        refine wr_aload_n 66 C dX6_goesOn_66 0 rfl rfl ?_
        refine gespM_0_17_X6 67 C dX6_goesOn_67 ?_
        refine wr_iconst 70 C dX6_goesOn_70 (v := 4) rfl ?_
        obtain ⟨g14, hf⟩ := o_g hf
        refine wr_iald 71 C dX6_goesOn_71 spM_7 g14 ?_
        refine wr_iload 72 C dX6_goesOn_72 5 rfl ?_
        obtain ⟨v17, μ16, h15, hf⟩ := o_bind hf
        refine wr_Si (kc1 := 0) (ks1 := 0) 74 [] C dX6_goesOn_74 (tX6_isBit l N   (μ9.1 7 (Int32.toNatClampNeg (4 : Int32))) x5_ μ9 (v17, μ16) h15) okX6_isBit q1660 ⟨rfl, rfl, Nat.le_of_ble_eq_true rfl, Nat.le_of_ble_eq_true rfl, Nat.zero_le _, Nat.zero_le _⟩ (Nat.le_of_ble_eq_true rfl) rfl ?_
        refine wr_if_ne 77 201 C dX6_goesOn_77 (by decide) (fun c18 => ?_) (fun c18 => ?_)
        · replace hf := o_neg c18 hf
          exact hJgoesOn201  μ16 hf
        · replace hf := o_pos c18 hf
          refine wr_aload_n 80 C dX6_goesOn_80 0 rfl rfl ?_
          refine wr_iload 81 C dX6_goesOn_81 5 rfl ?_
          refine wr_iload_n 83 C dX6_goesOn_83 3 rfl rfl ?_
          obtain ⟨JgoesOn98, eJgoesOn98, hf⟩ := o_let hf
          have hJgoesOn98 : ∀ (v20 : Int32) (v21 : Int32) (μ19 : wMem), JgoesOn98 v20 v21 μ19 = some r0 → wJ p l e ({ frames := 2, cells := 0, slots := 0, locals := 49 } : Room) s m args below meth c 8 D vwCl (spM ++ E) q ca A (wQv ({ frames := 2, cells := 0, slots := 0, locals := 49 } : Room) D vwCl (spM ++ E) q ca below args s A r0) 0 0 μ19 98 [(0, .ref (q 0)), (1, .int x1_), (2, .int x2_), (3, .int x3_), (4, .int x4_), (5, .int x5_), (6, .int x6_)] [.int v20, .int v21, .ref (q 0)] := by
            intro v20 v21 μ19 hf
            rw [eJgoesOn98] at hf
            refine wr_iload_n 98 C dX6_goesOn_98 3 rfl rfl ?_
            obtain ⟨v24, μ23, h22, hf⟩ := o_bind hf
            refine wr_Vi (kc1 := 0) (ks1 := 0) 99 [] C dX6_goesOn_99 (tX6_noses l N   v21 v20 x3_ μ19 (v24, μ23) h22) okX6_noses q1742 (b := 0) spM_0 rfl ⟨rfl, rfl, Nat.le_of_ble_eq_true rfl, Nat.le_of_ble_eq_true rfl, Nat.zero_le _, Nat.zero_le _⟩ (Nat.le_of_ble_eq_true rfl) rfl ?_
            refine wr_if_ne 102 108 C dX6_goesOn_102 (by decide) (fun c25 => ?_) (fun c25 => ?_)
            · replace hf := o_neg c25 hf
              refine wr_iload 108 C dX6_goesOn_108 6 rfl ?_
              refine wr_iconst 110 C dX6_goesOn_110 (v := (-1)) rfl ?_
              obtain ⟨JgoesOn142, eJgoesOn142, hf⟩ := o_let hf
              have hJgoesOn142 : ∀  (μ26 : wMem), JgoesOn142  μ26 = some r0 → wJ p l e ({ frames := 2, cells := 0, slots := 0, locals := 49 } : Room) s m args below meth c 8 D vwCl (spM ++ E) q ca A (wQv ({ frames := 2, cells := 0, slots := 0, locals := 49 } : Room) D vwCl (spM ++ E) q ca below args s A r0) 0 0 μ26 142 [(0, .ref (q 0)), (1, .int x1_), (2, .int x2_), (3, .int x3_), (4, .int x4_), (5, .int x5_), (6, .int x6_)] [] := by
                intro  μ26 hf
                rw [eJgoesOn142] at hf
                refine wr_aload_n 142 C dX6_goesOn_142 0 rfl rfl ?_
                refine wr_iload 143 C dX6_goesOn_143 5 rfl ?_
                refine wr_iload 145 C dX6_goesOn_145 6 rfl ?_
                refine wr_iload_n 147 C dX6_goesOn_147 3 rfl rfl ?_
                obtain ⟨μ28, h27, hf⟩ := o_bindV hf
                refine wr_Vv (kc1 := 0) (ks1 := 0) 148 [] C dX6_goesOn_148 (tX6_crosses l N   x5_ x6_ x3_ μ26 μ28 h27) okX6_crosses q1714 (b := 0) spM_0 rfl ⟨rfl, rfl, Nat.le_of_ble_eq_true rfl, Nat.le_of_ble_eq_true rfl, Nat.zero_le _, Nat.zero_le _⟩ (Nat.le_of_ble_eq_true rfl) rfl ?_
                refine wr_sipush 151 C dX6_goesOn_151 (v := 3136) rfl ?_
                refine wr_iload_n 154 C dX6_goesOn_154 1 rfl rfl ?_
                refine wr_iconst 155 C dX6_goesOn_155 (v := 1) rfl ?_
                refine wr_iadd 156 C dX6_goesOn_156 ?_
                refine wr_imul 157 C dX6_goesOn_157 ?_
                refine wr_aload_n 158 C dX6_goesOn_158 0 rfl rfl ?_
                obtain ⟨v31, μ30, h29, hf⟩ := o_bind hf
                refine wr_Vi (kc1 := 0) (ks1 := 0) 159 [.int ((3136 : Int32) * (x1_ + (1 : Int32)))] C dX6_goesOn_159 (tX6_kindOf l N    μ28 (v31, μ30) h29) okX6_kindOf q2002 (b := 0) spM_0 rfl ⟨rfl, rfl, Nat.le_of_ble_eq_true rfl, Nat.le_of_ble_eq_true rfl, Nat.zero_le _, Nat.zero_le _⟩ (Nat.le_of_ble_eq_true rfl) rfl ?_
                refine wr_iadd 162 C dX6_goesOn_162 ?_
                obtain ⟨x32, ex32, hf⟩ := o_let hf
                refine wr_istore 163 [(7, .int x32), (0, .ref (q 0)), (1, .int x1_), (2, .int x2_), (3, .int x3_), (4, .int x4_), (5, .int x5_), (6, .int x6_)] C dX6_goesOn_163 ex32 (Nat.le_of_ble_eq_true rfl) rfl ?_
                refine wr_aload_n 165 C dX6_goesOn_165 1 rfl rfl ?_
                refine gespM_0_41_X6 166 C dX6_goesOn_166 ?_
                refine wr_iload 169 C dX6_goesOn_169 0 rfl ?_
                obtain ⟨g33, hf⟩ := o_g hf
                refine wr_lald 171 C dX6_goesOn_171 spM_18 g33 ?_
                refine wr_lconst 172 C dX6_goesOn_172 (v := 0) rfl ?_
                refine wr_lcmp_gt 173 180 C dX6_goesOn_173 dX6_goesOn_174 (by decide) (fun c34 => ?_) (fun c34 => ?_)
                · replace hf := o_pos c34 hf
                  refine wr_aload_n 180 C dX6_goesOn_180 1 rfl rfl ?_
                  refine gespM_0_46_X6 181 C dX6_goesOn_181 ?_
                  refine wr_iload 184 C dX6_goesOn_184 0 rfl ?_
                  refine wr_iconst 186 C dX6_goesOn_186 (v := 1) rfl ?_
                  obtain ⟨g35, hf⟩ := o_g hf
                  obtain ⟨μ36, eμ36, hf⟩ := o_let hf
                  refine wr_zast 187 C dX6_goesOn_187 spM_23 g35 rfl eμ36 ?_
                  refine wr_aload_n 188 C dX6_goesOn_188 1 rfl rfl ?_
                  refine gespM_0_45_X6 189 C dX6_goesOn_189 ?_
                  refine wr_iload_n 192 C dX6_goesOn_192 2 rfl rfl ?_
                  refine wr_dup2 193 C dX6_goesOn_193 rfl rfl ?_
                  obtain ⟨g37, hf⟩ := o_g hf
                  refine wr_iald 194 C dX6_goesOn_194 spM_22 g37 ?_
                  refine wr_iconst 195 C dX6_goesOn_195 (v := 1) rfl ?_
                  refine wr_iload 196 C dX6_goesOn_196 6 rfl ?_
                  refine wr_ishl 198 C dX6_goesOn_198 ?_
                  refine wr_ior 199 C dX6_goesOn_199 ?_
                  obtain ⟨g38, hf⟩ := o_g hf
                  obtain ⟨μ39, eμ39, hf⟩ := o_let hf
                  refine wr_iast 200 C dX6_goesOn_200 spM_22 g38 eμ39 ?_
                  refine wr_sub [(0, .ref (q 0)), (1, .int x1_), (2, .int x2_), (3, .int x3_), (4, .int x4_), (5, .int x5_), (6, .int x6_)] [1, 2, 3, 4, 5, 6, 7] rfl ?_
                  exact hJgoesOn201  μ39 hf
                · replace hf := o_neg c34 hf
                  refine wr_goto 177 C dX6_goesOn_177 (tgt := 201) (by decide) ?_
                  refine wr_sub [(0, .ref (q 0)), (1, .int x1_), (2, .int x2_), (3, .int x3_), (4, .int x4_), (5, .int x5_), (6, .int x6_)] [1, 2, 3, 4, 5, 6, 7] rfl ?_
                  exact hJgoesOn201  μ30 hf
              refine wr_icmp_eq 111 142 C dX6_goesOn_111 (by decide) (fun c40 => ?_) (fun c40 => ?_)
              · replace hf := o_pos c40 hf
                exact hJgoesOn142  μ23 hf
              · replace hf := o_neg c40 hf
                refine wr_aload_n 114 C dX6_goesOn_114 0 rfl rfl ?_
                refine gespM_0_17_X6 115 C dX6_goesOn_115 ?_
                refine wr_iconst 118 C dX6_goesOn_118 (v := 4) rfl ?_
                obtain ⟨g41, hf⟩ := o_g hf
                refine wr_iald 119 C dX6_goesOn_119 spM_7 g41 ?_
                refine wr_iload 120 C dX6_goesOn_120 6 rfl ?_
                obtain ⟨v44, μ43, h42, hf⟩ := o_bind hf
                refine wr_Si (kc1 := 0) (ks1 := 0) 122 [] C dX6_goesOn_122 (tX6_isBit l N   (μ23.1 7 (Int32.toNatClampNeg (4 : Int32))) x6_ μ23 (v44, μ43) h42) okX6_isBit q1660 ⟨rfl, rfl, Nat.le_of_ble_eq_true rfl, Nat.le_of_ble_eq_true rfl, Nat.zero_le _, Nat.zero_le _⟩ (Nat.le_of_ble_eq_true rfl) rfl ?_
                refine wr_if_eq 125 201 C dX6_goesOn_125 (by decide) (fun c45 => ?_) (fun c45 => ?_)
                · replace hf := o_pos c45 hf
                  exact hJgoesOn201  μ43 hf
                · replace hf := o_neg c45 hf
                  refine wr_aload_n 128 C dX6_goesOn_128 0 rfl rfl ?_
                  refine wr_iload 129 C dX6_goesOn_129 6 rfl ?_
                  obtain ⟨v48, μ47, h46, hf⟩ := o_bind hf
                  refine wr_Vi (kc1 := 0) (ks1 := 0) 131 [] C dX6_goesOn_131 (tX6_sideOf l N   x6_ μ43 (v48, μ47) h46) okX6_sideOf q1718 (b := 0) spM_0 rfl ⟨rfl, rfl, Nat.le_of_ble_eq_true rfl, Nat.le_of_ble_eq_true rfl, Nat.zero_le _, Nat.zero_le _⟩ (Nat.le_of_ble_eq_true rfl) rfl ?_
                  refine wr_iload 134 C dX6_goesOn_134 4 rfl ?_
                  refine wr_icmp_eq 136 142 C dX6_goesOn_136 (by decide) (fun c49 => ?_) (fun c49 => ?_)
                  · replace hf := o_pos c49 hf
                    exact hJgoesOn142  μ47 hf
                  · replace hf := o_neg c49 hf
                    refine wr_goto 139 C dX6_goesOn_139 (tgt := 201) (by decide) ?_
                    exact hJgoesOn201  μ47 hf
            · replace hf := o_pos c25 hf
              refine wr_goto 105 C dX6_goesOn_105 (tgt := 201) (by decide) ?_
              exact hJgoesOn201  μ23 hf
          refine wr_if_ne 84 94 C dX6_goesOn_84 (by decide) (fun c50 => ?_) (fun c50 => ?_)
          · replace hf := o_neg c50 hf
            refine wr_aload_n 94 C dX6_goesOn_94 0 rfl rfl ?_
            refine gespM_0_26_X6 95 C dX6_goesOn_95 ?_
            exact hJgoesOn98 (μ16.1 0 26) x5_ μ16 hf
          · replace hf := o_pos c50 hf
            refine wr_aload_n 87 C dX6_goesOn_87 0 rfl rfl ?_
            refine gespM_0_25_X6 88 C dX6_goesOn_88 ?_
            refine wr_goto 91 C dX6_goesOn_91 (tgt := 98) (by decide) ?_
            exact hJgoesOn98 (μ16.1 0 25) x5_ μ16 hf
def gbX6_goesOn_3 (N : Nat)  (x1_ : Int32) (x2_ : Int32) (x3_ : Int32) (x4_ : Int32) (K : (wMem → Option wMem)) (rec : (Int32 → wMem → Option wMem)) (x5_ : Int32) (μ : wMem) : Option wMem :=
  wG (ok_in (2 : Int32) 35) (if (μ.1 7 (Int32.toNatClampNeg (2 : Int32))) ≤ x5_ then K  μ else gX6_goesOn_17 N  x1_ x2_ x3_ x4_ x5_ (fun  (μ51 : wMem) => wLet (x5_ + 1 : Int32) fun x52 => rec x52 μ51) N (-1) μ)
def gX6_goesOn_3 (N : Nat)  (x1_ : Int32) (x2_ : Int32) (x3_ : Int32) (x4_ : Int32) (K : (wMem → Option wMem)) : Nat → (Int32 → wMem → Option wMem)
  | 0 => fun _ _ => none
  | k + 1 => gbX6_goesOn_3 N  x1_ x2_ x3_ x4_ K (gX6_goesOn_3 N  x1_ x2_ x3_ x4_ K k)
set_option maxHeartbeats 4000000 in
set_option maxRecDepth 100000 in
theorem tX6_goesOn_3 {p : Program} {l : Launch} {e : Env} {s : State} {m : MethodId} {args : Array Value} {below : List Frame} {meth : Method} {c : Code} {D : va_G} {E : List wCell} {q : Nat → Nat} {ca : wCA} {A : Nat → Prop} (C : wC p ({ frames := 2, cells := 0, slots := 0, locals := 49 } : Room) s m args meth c cX6_goesOn yX6_goesOn.cls 8 none D vwCl (spM ++ E) q ca A) (N : Nat)   (x1_ : Int32) (x2_ : Int32) (x3_ : Int32) (x4_ : Int32) (K : (wMem → Option wMem)) (r0 : wMem) (hK : ∀  (μ : wMem), K  μ = some r0 → wJ p l e ({ frames := 2, cells := 0, slots := 0, locals := 49 } : Room) s m args below meth c 8 D vwCl (spM ++ E) q ca A (wQv ({ frames := 2, cells := 0, slots := 0, locals := 49 } : Room) D vwCl (spM ++ E) q ca below args s A r0) 0 0 μ 213 [] []) : ∀ (k : Nat) (x5_ : Int32) (μ : wMem), gX6_goesOn_3 N  x1_ x2_ x3_ x4_ K k x5_ μ = some r0 → wJ p l e ({ frames := 2, cells := 0, slots := 0, locals := 49 } : Room) s m args below meth c 8 D vwCl (spM ++ E) q ca A (wQv ({ frames := 2, cells := 0, slots := 0, locals := 49 } : Room) D vwCl (spM ++ E) q ca below args s A r0) 0 0 μ 3 [(0, .ref (q 0)), (1, .int x1_), (2, .int x2_), (3, .int x3_), (4, .int x4_), (5, .int x5_)] [] := by
  intro k
  induction k with
  | zero =>
    intro x5_ μ hf
    cases hf
  | succ k ih =>
    intro x5_ μ hf
    replace hf : gbX6_goesOn_3 N  x1_ x2_ x3_ x4_ K (gX6_goesOn_3 N  x1_ x2_ x3_ x4_ K k) x5_ μ = some r0 := hf
    unfold gbX6_goesOn_3 at hf
    refine wr_iload 3 C dX6_goesOn_3 5 rfl ?_
    refine wr_aload_n 5 C dX6_goesOn_5 0 rfl rfl ?_
    refine gespM_0_17_X6 6 C dX6_goesOn_6 ?_
    refine wr_iconst 9 C dX6_goesOn_9 (v := 2) rfl ?_
    obtain ⟨g1, hf⟩ := o_g hf
    refine wr_iald 10 C dX6_goesOn_10 spM_7 g1 ?_
    refine wr_icmp_ge 11 213 C dX6_goesOn_11 (by decide) (fun c2 => ?_) (fun c2 => ?_)
    · replace hf := o_pos c2 hf
      refine wr_sub [] [] rfl ?_
      exact hK  μ hf
    · replace hf := o_neg c2 hf
      refine wr_iconst 14 C dX6_goesOn_14 (v := (-1)) rfl ?_
      refine wr_istore 15 [(6, .int ((-1))), (0, .ref (q 0)), (1, .int x1_), (2, .int x2_), (3, .int x3_), (4, .int x4_), (5, .int x5_)] C dX6_goesOn_15 rfl (Nat.le_of_ble_eq_true rfl) rfl ?_
      refine wr_sub [(0, .ref (q 0)), (1, .int x1_), (2, .int x2_), (3, .int x3_), (4, .int x4_), (5, .int x5_), (6, .int ((-1)))] [1, 2, 3, 4, 5, 6, 0] rfl ?_
      refine tX6_goesOn_17 C N   x1_ x2_ x3_ x4_ x5_ _ r0 (fun  μ51 hf => ?_) N (-1) μ hf
      · replace hf := hf
        obtain ⟨x52, ex52, hf⟩ := o_let hf
        refine wr_iinc 207 [(5, .int x52), (0, .ref (q 0)), (1, .int x1_), (2, .int x2_), (3, .int x3_), (4, .int x4_)] C dX6_goesOn_207 5 rfl (ex52.trans rfl) (Nat.le_of_ble_eq_true rfl) rfl ?_
        refine wr_goto 210 C dX6_goesOn_210 (tgt := 3) (by decide) ?_
        refine wr_sub [(0, .ref (q 0)), (1, .int x1_), (2, .int x2_), (3, .int x3_), (4, .int x4_), (5, .int x52)] [1, 2, 3, 4, 5, 0] rfl ?_
        exact ih x52 μ51 hf
def fX6_goesOn (N : Nat)  (a1 : Int32) (a2 : Int32) (a3 : Int32) (a4 : Int32) (μ : wMem) : Option wMem :=
  gX6_goesOn_3 N  a1 a2 a3 a4 (fun  (μ53 : wMem) => some μ53) N 0 μ
set_option maxHeartbeats 4000000 in
set_option maxRecDepth 100000 in
theorem tX6_goesOn (l : Launch) {D : va_G} {E : List wCell} {q : Nat → Nat} {ca : wCA} (N : Nat)   (a1 : Int32) (a2 : Int32) (a3 : Int32) (a4 : Int32) (μ : wMem) (r0 : wMem) (hf : fX6_goesOn N  a1 a2 a3 a4 μ = some r0) : wMv l yX6_goesOn cX6_goesOn 8 none ({ frames := 2, cells := 0, slots := 0, locals := 49 } : Room) D vwCl (spM ++ E) q ca [.ref (q 0), .int a1, .int a2, .int a3, .int a4] μ r0 := by
  refine wMv_intro (by decide) (Nat.le_of_ble_eq_true rfl) ?_
  intro p e s m args below meth c A C
  unfold fX6_goesOn at hf
  refine wr_sub [(0, .ref (q 0)), (1, .int a1), (2, .int a2), (3, .int a3), (4, .int a4)] [0, 1, 2, 3, 4] rfl ?_
  refine wr_iconst 0 C dX6_goesOn_0 (v := 0) rfl ?_
  refine wr_istore 1 [(5, .int 0), (0, .ref (q 0)), (1, .int a1), (2, .int a2), (3, .int a3), (4, .int a4)] C dX6_goesOn_1 rfl (Nat.le_of_ble_eq_true rfl) rfl ?_
  refine wr_sub [(0, .ref (q 0)), (1, .int a1), (2, .int a2), (3, .int a3), (4, .int a4), (5, .int 0)] [1, 2, 3, 4, 5, 0] rfl ?_
  refine tX6_goesOn_3 C N   a1 a2 a3 a4 _ r0 (fun  μ53 hf => ?_) N 0 μ hf
  · replace hf := hf
    exact wr_vret 213 C dX6_goesOn_213 ⟨Nat.zero_le _, Nat.zero_le _⟩ (Option.some.inj hf)
abbrev cX6_laysHad : ByteArray := prog_11_method_115_code
def yX6_laysHad : MethodName := ⟨RX6, "laysHad", "(I)V"⟩
def dkwX6_laysHad_6 : List UInt8 := [21, 5, 29, 21, 4, 182, 1, 174, 132, 5, 1, 167, 255, 201, 132, 2, 1, 167, 255, 157, 177]
abbrev dktX6_laysHad_6 : List UInt8 := dkwX6_laysHad_6 ++ []
def dkwX6_laysHad_5 : List UInt8 := [153, 0, 31, 42, 180, 0, 70, 17, 12, 64, 28, 104, 21, 5, 96, 47, 9, 148, 158, 0, 13, 42, 28]
abbrev dktX6_laysHad_5 : List UInt8 := dkwX6_laysHad_5 ++ dktX6_laysHad_6
def dkwX6_laysHad_4 : List UInt8 := [54, 5, 21, 5, 17, 12, 64, 162, 0, 53, 42, 180, 0, 85, 17, 12, 64, 28, 104, 21, 5, 96, 51]
abbrev dktX6_laysHad_4 : List UInt8 := dkwX6_laysHad_4 ++ dktX6_laysHad_5
def dkwX6_laysHad_3 : List UInt8 := [182, 1, 144, 20, 1, 16, 109, 136, 62, 42, 27, 28, 182, 1, 144, 20, 1, 16, 113, 136, 54, 4, 3]
abbrev dktX6_laysHad_3 : List UInt8 := dkwX6_laysHad_3 ++ dktX6_laysHad_4
def dkwX6_laysHad_2 : List UInt8 := [3, 84, 132, 2, 1, 167, 255, 232, 3, 61, 28, 42, 180, 0, 13, 27, 46, 162, 0, 95, 42, 27, 28]
abbrev dktX6_laysHad_2 : List UInt8 := dkwX6_laysHad_2 ++ dktX6_laysHad_3
def dkwX6_laysHad_1 : List UInt8 := [167, 255, 240, 3, 61, 28, 18, 69, 162, 0, 24, 42, 180, 0, 85, 28, 28, 154, 0, 7, 4, 167, 0, 4]
abbrev dktX6_laysHad_1 : List UInt8 := dkwX6_laysHad_1 ++ dktX6_laysHad_2
def dkwX6_laysHad_0 : List UInt8 := [42, 27, 182, 1, 171, 3, 61, 28, 16, 12, 162, 0, 16, 42, 180, 0, 82, 28, 3, 79, 132, 2, 1]
abbrev dktX6_laysHad_0 : List UInt8 := dkwX6_laysHad_0 ++ dktX6_laysHad_1
theorem dksX6_laysHad_0 : cX6_laysHad.data.toList.drop 0 = dktX6_laysHad_0 := by decide +kernel
theorem dksX6_laysHad_1 : cX6_laysHad.data.toList.drop 23 = dktX6_laysHad_1 := dk_seg dksX6_laysHad_0 23 rfl rfl
theorem dksX6_laysHad_2 : cX6_laysHad.data.toList.drop 47 = dktX6_laysHad_2 := dk_seg dksX6_laysHad_1 24 rfl rfl
theorem dksX6_laysHad_3 : cX6_laysHad.data.toList.drop 70 = dktX6_laysHad_3 := dk_seg dksX6_laysHad_2 23 rfl rfl
theorem dksX6_laysHad_4 : cX6_laysHad.data.toList.drop 93 = dktX6_laysHad_4 := dk_seg dksX6_laysHad_3 23 rfl rfl
theorem dksX6_laysHad_5 : cX6_laysHad.data.toList.drop 116 = dktX6_laysHad_5 := dk_seg dksX6_laysHad_4 23 rfl rfl
theorem dksX6_laysHad_6 : cX6_laysHad.data.toList.drop 139 = dktX6_laysHad_6 := dk_seg dksX6_laysHad_5 23 rfl rfl
theorem dX6_laysHad_0 : decode cX6_laysHad 0 = .ok (.aload_n 0, 1) := dk_42 (dk_at dksX6_laysHad_0 0 rfl rfl)
theorem dX6_laysHad_1 : decode cX6_laysHad 1 = .ok (.iload_n 1, 1) := dk_27 (dk_at dksX6_laysHad_0 1 rfl rfl)
theorem dX6_laysHad_2 : decode cX6_laysHad 2 = .ok (.invokevirtual 427, 3) := dk_182 1 171 (dk_at dksX6_laysHad_0 2 rfl rfl)
theorem dX6_laysHad_5 : decode cX6_laysHad 5 = .ok (.iconst 0, 1) := dk_3 (dk_at dksX6_laysHad_0 5 rfl rfl)
theorem dX6_laysHad_6 : decode cX6_laysHad 6 = .ok (.istore_n 2, 1) := dk_61 (dk_at dksX6_laysHad_0 6 rfl rfl)
theorem dX6_laysHad_7 : decode cX6_laysHad 7 = .ok (.iload_n 2, 1) := dk_28 (dk_at dksX6_laysHad_0 7 rfl rfl)
theorem dX6_laysHad_8 : decode cX6_laysHad 8 = .ok (.bipush 12, 2) := dk_16 12 (dk_at dksX6_laysHad_0 8 rfl rfl)
theorem dX6_laysHad_10 : decode cX6_laysHad 10 = .ok (.if_icmp .ge 16, 3) := dk_162 0 16 (dk_at dksX6_laysHad_0 10 rfl rfl)
theorem dX6_laysHad_13 : decode cX6_laysHad 13 = .ok (.aload_n 0, 1) := dk_42 (dk_at dksX6_laysHad_0 13 rfl rfl)
theorem dX6_laysHad_14 : decode cX6_laysHad 14 = .ok (.getfield 82, 3) := dk_180 0 82 (dk_at dksX6_laysHad_0 14 rfl rfl)
theorem dX6_laysHad_17 : decode cX6_laysHad 17 = .ok (.iload_n 2, 1) := dk_28 (dk_at dksX6_laysHad_0 17 rfl rfl)
theorem dX6_laysHad_18 : decode cX6_laysHad 18 = .ok (.iconst 0, 1) := dk_3 (dk_at dksX6_laysHad_0 18 rfl rfl)
theorem dX6_laysHad_19 : decode cX6_laysHad 19 = .ok (.iastore, 1) := dk_79 (dk_at dksX6_laysHad_0 19 rfl rfl)
theorem dX6_laysHad_20 : decode cX6_laysHad 20 = .ok (.iinc 2 1, 3) := dk_132 2 1 (dk_at dksX6_laysHad_0 20 rfl rfl)
theorem dX6_laysHad_23 : decode cX6_laysHad 23 = .ok (.goto (-16), 3) := dk_167 255 240 (dk_at dksX6_laysHad_1 0 rfl rfl)
theorem dX6_laysHad_26 : decode cX6_laysHad 26 = .ok (.iconst 0, 1) := dk_3 (dk_at dksX6_laysHad_1 3 rfl rfl)
theorem dX6_laysHad_27 : decode cX6_laysHad 27 = .ok (.istore_n 2, 1) := dk_61 (dk_at dksX6_laysHad_1 4 rfl rfl)
theorem dX6_laysHad_28 : decode cX6_laysHad 28 = .ok (.iload_n 2, 1) := dk_28 (dk_at dksX6_laysHad_1 5 rfl rfl)
theorem dX6_laysHad_29 : decode cX6_laysHad 29 = .ok (.ldc 69, 2) := dk_18 69 (dk_at dksX6_laysHad_1 6 rfl rfl)
theorem dX6_laysHad_31 : decode cX6_laysHad 31 = .ok (.if_icmp .ge 24, 3) := dk_162 0 24 (dk_at dksX6_laysHad_1 8 rfl rfl)
theorem dX6_laysHad_34 : decode cX6_laysHad 34 = .ok (.aload_n 0, 1) := dk_42 (dk_at dksX6_laysHad_1 11 rfl rfl)
theorem dX6_laysHad_35 : decode cX6_laysHad 35 = .ok (.getfield 85, 3) := dk_180 0 85 (dk_at dksX6_laysHad_1 12 rfl rfl)
theorem dX6_laysHad_38 : decode cX6_laysHad 38 = .ok (.iload_n 2, 1) := dk_28 (dk_at dksX6_laysHad_1 15 rfl rfl)
theorem dX6_laysHad_39 : decode cX6_laysHad 39 = .ok (.iload_n 2, 1) := dk_28 (dk_at dksX6_laysHad_1 16 rfl rfl)
theorem dX6_laysHad_40 : decode cX6_laysHad 40 = .ok (.ifCond .ne 7, 3) := dk_154 0 7 (dk_at dksX6_laysHad_1 17 rfl rfl)
theorem dX6_laysHad_43 : decode cX6_laysHad 43 = .ok (.iconst 1, 1) := dk_4 (dk_at dksX6_laysHad_1 20 rfl rfl)
theorem dX6_laysHad_44 : decode cX6_laysHad 44 = .ok (.goto 4, 3) := dk_167 0 4 (dk_at dksX6_laysHad_1 21 rfl rfl)
theorem dX6_laysHad_47 : decode cX6_laysHad 47 = .ok (.iconst 0, 1) := dk_3 (dk_at dksX6_laysHad_2 0 rfl rfl)
theorem dX6_laysHad_48 : decode cX6_laysHad 48 = .ok (.bastore, 1) := dk_84 (dk_at dksX6_laysHad_2 1 rfl rfl)
theorem dX6_laysHad_49 : decode cX6_laysHad 49 = .ok (.iinc 2 1, 3) := dk_132 2 1 (dk_at dksX6_laysHad_2 2 rfl rfl)
theorem dX6_laysHad_52 : decode cX6_laysHad 52 = .ok (.goto (-24), 3) := dk_167 255 232 (dk_at dksX6_laysHad_2 5 rfl rfl)
theorem dX6_laysHad_55 : decode cX6_laysHad 55 = .ok (.iconst 0, 1) := dk_3 (dk_at dksX6_laysHad_2 8 rfl rfl)
theorem dX6_laysHad_56 : decode cX6_laysHad 56 = .ok (.istore_n 2, 1) := dk_61 (dk_at dksX6_laysHad_2 9 rfl rfl)
theorem dX6_laysHad_57 : decode cX6_laysHad 57 = .ok (.iload_n 2, 1) := dk_28 (dk_at dksX6_laysHad_2 10 rfl rfl)
theorem dX6_laysHad_58 : decode cX6_laysHad 58 = .ok (.aload_n 0, 1) := dk_42 (dk_at dksX6_laysHad_2 11 rfl rfl)
theorem dX6_laysHad_59 : decode cX6_laysHad 59 = .ok (.getfield 13, 3) := dk_180 0 13 (dk_at dksX6_laysHad_2 12 rfl rfl)
theorem dX6_laysHad_62 : decode cX6_laysHad 62 = .ok (.iload_n 1, 1) := dk_27 (dk_at dksX6_laysHad_2 15 rfl rfl)
theorem dX6_laysHad_63 : decode cX6_laysHad 63 = .ok (.iaload, 1) := dk_46 (dk_at dksX6_laysHad_2 16 rfl rfl)
theorem dX6_laysHad_64 : decode cX6_laysHad 64 = .ok (.if_icmp .ge 95, 3) := dk_162 0 95 (dk_at dksX6_laysHad_2 17 rfl rfl)
theorem dX6_laysHad_67 : decode cX6_laysHad 67 = .ok (.aload_n 0, 1) := dk_42 (dk_at dksX6_laysHad_2 20 rfl rfl)
theorem dX6_laysHad_68 : decode cX6_laysHad 68 = .ok (.iload_n 1, 1) := dk_27 (dk_at dksX6_laysHad_2 21 rfl rfl)
theorem dX6_laysHad_69 : decode cX6_laysHad 69 = .ok (.iload_n 2, 1) := dk_28 (dk_at dksX6_laysHad_2 22 rfl rfl)
theorem dX6_laysHad_70 : decode cX6_laysHad 70 = .ok (.invokevirtual 400, 3) := dk_182 1 144 (dk_at dksX6_laysHad_3 0 rfl rfl)
theorem dX6_laysHad_73 : decode cX6_laysHad 73 = .ok (.ldc2_w 272, 3) := dk_20 1 16 (dk_at dksX6_laysHad_3 3 rfl rfl)
theorem dX6_laysHad_76 : decode cX6_laysHad 76 = .ok (.ldiv, 1) := dk_109 (dk_at dksX6_laysHad_3 6 rfl rfl)
theorem dX6_laysHad_77 : decode cX6_laysHad 77 = .ok (.l2i, 1) := dk_136 (dk_at dksX6_laysHad_3 7 rfl rfl)
theorem dX6_laysHad_78 : decode cX6_laysHad 78 = .ok (.istore_n 3, 1) := dk_62 (dk_at dksX6_laysHad_3 8 rfl rfl)
theorem dX6_laysHad_79 : decode cX6_laysHad 79 = .ok (.aload_n 0, 1) := dk_42 (dk_at dksX6_laysHad_3 9 rfl rfl)
theorem dX6_laysHad_80 : decode cX6_laysHad 80 = .ok (.iload_n 1, 1) := dk_27 (dk_at dksX6_laysHad_3 10 rfl rfl)
theorem dX6_laysHad_81 : decode cX6_laysHad 81 = .ok (.iload_n 2, 1) := dk_28 (dk_at dksX6_laysHad_3 11 rfl rfl)
theorem dX6_laysHad_82 : decode cX6_laysHad 82 = .ok (.invokevirtual 400, 3) := dk_182 1 144 (dk_at dksX6_laysHad_3 12 rfl rfl)
theorem dX6_laysHad_85 : decode cX6_laysHad 85 = .ok (.ldc2_w 272, 3) := dk_20 1 16 (dk_at dksX6_laysHad_3 15 rfl rfl)
theorem dX6_laysHad_88 : decode cX6_laysHad 88 = .ok (.lrem, 1) := dk_113 (dk_at dksX6_laysHad_3 18 rfl rfl)
theorem dX6_laysHad_89 : decode cX6_laysHad 89 = .ok (.l2i, 1) := dk_136 (dk_at dksX6_laysHad_3 19 rfl rfl)
theorem dX6_laysHad_90 : decode cX6_laysHad 90 = .ok (.istore 4, 2) := dk_54 4 (dk_at dksX6_laysHad_3 20 rfl rfl)
theorem dX6_laysHad_92 : decode cX6_laysHad 92 = .ok (.iconst 0, 1) := dk_3 (dk_at dksX6_laysHad_3 22 rfl rfl)
theorem dX6_laysHad_93 : decode cX6_laysHad 93 = .ok (.istore 5, 2) := dk_54 5 (dk_at dksX6_laysHad_4 0 rfl rfl)
theorem dX6_laysHad_95 : decode cX6_laysHad 95 = .ok (.iload 5, 2) := dk_21 5 (dk_at dksX6_laysHad_4 2 rfl rfl)
theorem dX6_laysHad_97 : decode cX6_laysHad 97 = .ok (.sipush 3136, 3) := dk_17 12 64 (dk_at dksX6_laysHad_4 4 rfl rfl)
theorem dX6_laysHad_100 : decode cX6_laysHad 100 = .ok (.if_icmp .ge 53, 3) := dk_162 0 53 (dk_at dksX6_laysHad_4 7 rfl rfl)
theorem dX6_laysHad_103 : decode cX6_laysHad 103 = .ok (.aload_n 0, 1) := dk_42 (dk_at dksX6_laysHad_4 10 rfl rfl)
theorem dX6_laysHad_104 : decode cX6_laysHad 104 = .ok (.getfield 85, 3) := dk_180 0 85 (dk_at dksX6_laysHad_4 11 rfl rfl)
theorem dX6_laysHad_107 : decode cX6_laysHad 107 = .ok (.sipush 3136, 3) := dk_17 12 64 (dk_at dksX6_laysHad_4 14 rfl rfl)
theorem dX6_laysHad_110 : decode cX6_laysHad 110 = .ok (.iload_n 2, 1) := dk_28 (dk_at dksX6_laysHad_4 17 rfl rfl)
theorem dX6_laysHad_111 : decode cX6_laysHad 111 = .ok (.imul, 1) := dk_104 (dk_at dksX6_laysHad_4 18 rfl rfl)
theorem dX6_laysHad_112 : decode cX6_laysHad 112 = .ok (.iload 5, 2) := dk_21 5 (dk_at dksX6_laysHad_4 19 rfl rfl)
theorem dX6_laysHad_114 : decode cX6_laysHad 114 = .ok (.iadd, 1) := dk_96 (dk_at dksX6_laysHad_4 21 rfl rfl)
theorem dX6_laysHad_115 : decode cX6_laysHad 115 = .ok (.baload, 1) := dk_51 (dk_at dksX6_laysHad_4 22 rfl rfl)
theorem dX6_laysHad_116 : decode cX6_laysHad 116 = .ok (.ifCond .eq 31, 3) := dk_153 0 31 (dk_at dksX6_laysHad_5 0 rfl rfl)
theorem dX6_laysHad_119 : decode cX6_laysHad 119 = .ok (.aload_n 0, 1) := dk_42 (dk_at dksX6_laysHad_5 3 rfl rfl)
theorem dX6_laysHad_120 : decode cX6_laysHad 120 = .ok (.getfield 70, 3) := dk_180 0 70 (dk_at dksX6_laysHad_5 4 rfl rfl)
theorem dX6_laysHad_123 : decode cX6_laysHad 123 = .ok (.sipush 3136, 3) := dk_17 12 64 (dk_at dksX6_laysHad_5 7 rfl rfl)
theorem dX6_laysHad_126 : decode cX6_laysHad 126 = .ok (.iload_n 2, 1) := dk_28 (dk_at dksX6_laysHad_5 10 rfl rfl)
theorem dX6_laysHad_127 : decode cX6_laysHad 127 = .ok (.imul, 1) := dk_104 (dk_at dksX6_laysHad_5 11 rfl rfl)
theorem dX6_laysHad_128 : decode cX6_laysHad 128 = .ok (.iload 5, 2) := dk_21 5 (dk_at dksX6_laysHad_5 12 rfl rfl)
theorem dX6_laysHad_130 : decode cX6_laysHad 130 = .ok (.iadd, 1) := dk_96 (dk_at dksX6_laysHad_5 14 rfl rfl)
theorem dX6_laysHad_131 : decode cX6_laysHad 131 = .ok (.laload, 1) := dk_47 (dk_at dksX6_laysHad_5 15 rfl rfl)
theorem dX6_laysHad_132 : decode cX6_laysHad 132 = .ok (.lconst 0, 1) := dk_9 (dk_at dksX6_laysHad_5 16 rfl rfl)
theorem dX6_laysHad_133 : decode cX6_laysHad 133 = .ok (.lcmp, 1) := dk_148 (dk_at dksX6_laysHad_5 17 rfl rfl)
theorem dX6_laysHad_134 : decode cX6_laysHad 134 = .ok (.ifCond .le 13, 3) := dk_158 0 13 (dk_at dksX6_laysHad_5 18 rfl rfl)
theorem dX6_laysHad_137 : decode cX6_laysHad 137 = .ok (.aload_n 0, 1) := dk_42 (dk_at dksX6_laysHad_5 21 rfl rfl)
theorem dX6_laysHad_138 : decode cX6_laysHad 138 = .ok (.iload_n 2, 1) := dk_28 (dk_at dksX6_laysHad_5 22 rfl rfl)
theorem dX6_laysHad_139 : decode cX6_laysHad 139 = .ok (.iload 5, 2) := dk_21 5 (dk_at dksX6_laysHad_6 0 rfl rfl)
theorem dX6_laysHad_141 : decode cX6_laysHad 141 = .ok (.iload_n 3, 1) := dk_29 (dk_at dksX6_laysHad_6 2 rfl rfl)
theorem dX6_laysHad_142 : decode cX6_laysHad 142 = .ok (.iload 4, 2) := dk_21 4 (dk_at dksX6_laysHad_6 3 rfl rfl)
theorem dX6_laysHad_144 : decode cX6_laysHad 144 = .ok (.invokevirtual 430, 3) := dk_182 1 174 (dk_at dksX6_laysHad_6 5 rfl rfl)
theorem dX6_laysHad_147 : decode cX6_laysHad 147 = .ok (.iinc 5 1, 3) := dk_132 5 1 (dk_at dksX6_laysHad_6 8 rfl rfl)
theorem dX6_laysHad_150 : decode cX6_laysHad 150 = .ok (.goto (-55), 3) := dk_167 255 201 (dk_at dksX6_laysHad_6 11 rfl rfl)
theorem dX6_laysHad_153 : decode cX6_laysHad 153 = .ok (.iinc 2 1, 3) := dk_132 2 1 (dk_at dksX6_laysHad_6 14 rfl rfl)
theorem dX6_laysHad_156 : decode cX6_laysHad 156 = .ok (.goto (-99), 3) := dk_167 255 157 (dk_at dksX6_laysHad_6 17 rfl rfl)
theorem dX6_laysHad_159 : decode cX6_laysHad 159 = .ok (.return_, 1) := dk_177 (dk_at dksX6_laysHad_6 20 rfl rfl)

theorem okX6_laysHad : wOkV yX6_laysHad cX6_laysHad 6 none 1 := ⟨q2016, qs130, q145, q2017, by decide, by decide, by decide +kernel⟩
def gbX6_laysHad_7 (N : Nat)  (x1_ : Int32) (K : (wMem → Option wMem)) (rec : (Int32 → wMem → Option wMem)) (x2_ : Int32) (μ : wMem) : Option wMem :=
  if (12 : Int32) ≤ x2_ then K  μ else wG (ok_in x2_ 12) (wLet (wSI μ 22 (Int32.toNatClampNeg x2_) (0 : Int32)) fun μ5 => wLet (x2_ + 1 : Int32) fun x6 => rec x6 μ5)
def gX6_laysHad_7 (N : Nat)  (x1_ : Int32) (K : (wMem → Option wMem)) : Nat → (Int32 → wMem → Option wMem)
  | 0 => fun _ _ => none
  | k + 1 => gbX6_laysHad_7 N  x1_ K (gX6_laysHad_7 N  x1_ K k)
set_option maxHeartbeats 4000000 in
set_option maxRecDepth 100000 in
theorem tX6_laysHad_7 {p : Program} {l : Launch} {e : Env} {s : State} {m : MethodId} {args : Array Value} {below : List Frame} {meth : Method} {c : Code} {D : va_G} {E : List wCell} {q : Nat → Nat} {ca : wCA} {A : Nat → Prop} (C : wC p ({ frames := 20, cells := 0, slots := 0, locals := 615 } : Room) s m args meth c cX6_laysHad yX6_laysHad.cls 6 none D vwCl (spM ++ E) q ca A) (N : Nat)   (x1_ : Int32) (K : (wMem → Option wMem)) (r0 : wMem) (hK : ∀  (μ : wMem), K  μ = some r0 → wJ p l e ({ frames := 20, cells := 0, slots := 0, locals := 615 } : Room) s m args below meth c 6 D vwCl (spM ++ E) q ca A (wQv ({ frames := 20, cells := 0, slots := 0, locals := 615 } : Room) D vwCl (spM ++ E) q ca below args s A r0) 0 0 μ 26 [(0, .ref (q 0)), (1, .int x1_)] []) : ∀ (k : Nat) (x2_ : Int32) (μ : wMem), gX6_laysHad_7 N  x1_ K k x2_ μ = some r0 → wJ p l e ({ frames := 20, cells := 0, slots := 0, locals := 615 } : Room) s m args below meth c 6 D vwCl (spM ++ E) q ca A (wQv ({ frames := 20, cells := 0, slots := 0, locals := 615 } : Room) D vwCl (spM ++ E) q ca below args s A r0) 0 0 μ 7 [(0, .ref (q 0)), (1, .int x1_), (2, .int x2_)] [] := by
  intro k
  induction k with
  | zero =>
    intro x2_ μ hf
    cases hf
  | succ k ih =>
    intro x2_ μ hf
    replace hf : gbX6_laysHad_7 N  x1_ K (gX6_laysHad_7 N  x1_ K k) x2_ μ = some r0 := hf
    unfold gbX6_laysHad_7 at hf
    refine wr_iload_n 7 C dX6_laysHad_7 2 rfl rfl ?_
    refine wr_bipush 8 C dX6_laysHad_8 (v := 12) rfl ?_
    refine wr_icmp_ge 10 26 C dX6_laysHad_10 (by decide) (fun c3 => ?_) (fun c3 => ?_)
    · replace hf := o_pos c3 hf
      refine wr_sub [(0, .ref (q 0)), (1, .int x1_)] [0, 1] rfl ?_
      exact hK  μ hf
    · replace hf := o_neg c3 hf
      refine wr_aload_n 13 C dX6_laysHad_13 0 rfl rfl ?_
      refine gespM_0_45_X6 14 C dX6_laysHad_14 ?_
      refine wr_iload_n 17 C dX6_laysHad_17 2 rfl rfl ?_
      refine wr_iconst 18 C dX6_laysHad_18 (v := 0) rfl ?_
      obtain ⟨g4, hf⟩ := o_g hf
      obtain ⟨μ5, eμ5, hf⟩ := o_let hf
      refine wr_iast 19 C dX6_laysHad_19 spM_22 g4 eμ5 ?_
      obtain ⟨x6, ex6, hf⟩ := o_let hf
      refine wr_iinc 20 [(2, .int x6), (0, .ref (q 0)), (1, .int x1_)] C dX6_laysHad_20 2 rfl (ex6.trans rfl) (Nat.le_of_ble_eq_true rfl) rfl ?_
      refine wr_goto 23 C dX6_laysHad_23 (tgt := 7) (by decide) ?_
      refine wr_sub [(0, .ref (q 0)), (1, .int x1_), (2, .int x6)] [1, 2, 0] rfl ?_
      exact ih x6 μ5 hf
def gbX6_laysHad_28 (N : Nat)  (x1_ : Int32) (K : (wMem → Option wMem)) (rec : (Int32 → wMem → Option wMem)) (x2_ : Int32) (μ : wMem) : Option wMem :=
  if (40768 : Int32) ≤ x2_ then K  μ else wLet (fun (v10 : Int32) (v11 : Int32) (μ9 : wMem) => wG (ok_in v11 40768) (wG (ok_b v10) (wLet (wSI μ9 23 (Int32.toNatClampNeg v11) v10) fun μ14 => wLet (x2_ + 1 : Int32) fun x15 => rec x15 μ14))) fun JlaysHad48 => if x2_ = 0 then JlaysHad48 1 x2_ μ else JlaysHad48 0 x2_ μ
def gX6_laysHad_28 (N : Nat)  (x1_ : Int32) (K : (wMem → Option wMem)) : Nat → (Int32 → wMem → Option wMem)
  | 0 => fun _ _ => none
  | k + 1 => gbX6_laysHad_28 N  x1_ K (gX6_laysHad_28 N  x1_ K k)
set_option maxHeartbeats 4000000 in
set_option maxRecDepth 100000 in
theorem tX6_laysHad_28 {p : Program} {l : Launch} {e : Env} {s : State} {m : MethodId} {args : Array Value} {below : List Frame} {meth : Method} {c : Code} {D : va_G} {E : List wCell} {q : Nat → Nat} {ca : wCA} {A : Nat → Prop} (C : wC p ({ frames := 20, cells := 0, slots := 0, locals := 615 } : Room) s m args meth c cX6_laysHad yX6_laysHad.cls 6 none D vwCl (spM ++ E) q ca A) (N : Nat)   (x1_ : Int32) (K : (wMem → Option wMem)) (r0 : wMem) (hK : ∀  (μ : wMem), K  μ = some r0 → wJ p l e ({ frames := 20, cells := 0, slots := 0, locals := 615 } : Room) s m args below meth c 6 D vwCl (spM ++ E) q ca A (wQv ({ frames := 20, cells := 0, slots := 0, locals := 615 } : Room) D vwCl (spM ++ E) q ca below args s A r0) 0 0 μ 55 [(0, .ref (q 0)), (1, .int x1_)] []) : ∀ (k : Nat) (x2_ : Int32) (μ : wMem), gX6_laysHad_28 N  x1_ K k x2_ μ = some r0 → wJ p l e ({ frames := 20, cells := 0, slots := 0, locals := 615 } : Room) s m args below meth c 6 D vwCl (spM ++ E) q ca A (wQv ({ frames := 20, cells := 0, slots := 0, locals := 615 } : Room) D vwCl (spM ++ E) q ca below args s A r0) 0 0 μ 28 [(0, .ref (q 0)), (1, .int x1_), (2, .int x2_)] [] := by
  intro k
  induction k with
  | zero =>
    intro x2_ μ hf
    cases hf
  | succ k ih =>
    intro x2_ μ hf
    replace hf : gbX6_laysHad_28 N  x1_ K (gX6_laysHad_28 N  x1_ K k) x2_ μ = some r0 := hf
    unfold gbX6_laysHad_28 at hf
    refine wr_iload_n 28 C dX6_laysHad_28 2 rfl rfl ?_
    refine wr_ldc 29 C dX6_laysHad_29 q1398 ?_
    refine wr_icmp_ge 31 55 C dX6_laysHad_31 (by decide) (fun c8 => ?_) (fun c8 => ?_)
    · replace hf := o_pos c8 hf
      refine wr_sub [(0, .ref (q 0)), (1, .int x1_)] [0, 1] rfl ?_
      exact hK  μ hf
    · replace hf := o_neg c8 hf
      refine wr_aload_n 34 C dX6_laysHad_34 0 rfl rfl ?_
      refine gespM_0_46_X6 35 C dX6_laysHad_35 ?_
      refine wr_iload_n 38 C dX6_laysHad_38 2 rfl rfl ?_
      refine wr_iload_n 39 C dX6_laysHad_39 2 rfl rfl ?_
      obtain ⟨JlaysHad48, eJlaysHad48, hf⟩ := o_let hf
      have hJlaysHad48 : ∀ (v10 : Int32) (v11 : Int32) (μ9 : wMem), JlaysHad48 v10 v11 μ9 = some r0 → wJ p l e ({ frames := 20, cells := 0, slots := 0, locals := 615 } : Room) s m args below meth c 6 D vwCl (spM ++ E) q ca A (wQv ({ frames := 20, cells := 0, slots := 0, locals := 615 } : Room) D vwCl (spM ++ E) q ca below args s A r0) 0 0 μ9 48 [(0, .ref (q 0)), (1, .int x1_), (2, .int x2_)] [.int v10, .int v11, .ref (q 23)] := by
        intro v10 v11 μ9 hf
        rw [eJlaysHad48] at hf
        obtain ⟨g12, hf⟩ := o_g hf
        obtain ⟨g13, hf⟩ := o_g hf
        obtain ⟨μ14, eμ14, hf⟩ := o_let hf
        refine wr_zast 48 C dX6_laysHad_48 spM_23 g12 (ok_b_vp g13) eμ14 ?_
        obtain ⟨x15, ex15, hf⟩ := o_let hf
        refine wr_iinc 49 [(2, .int x15), (0, .ref (q 0)), (1, .int x1_)] C dX6_laysHad_49 2 rfl (ex15.trans rfl) (Nat.le_of_ble_eq_true rfl) rfl ?_
        refine wr_goto 52 C dX6_laysHad_52 (tgt := 28) (by decide) ?_
        refine wr_sub [(0, .ref (q 0)), (1, .int x1_), (2, .int x15)] [1, 2, 0] rfl ?_
        exact ih x15 μ14 hf
      refine wr_if_ne 40 47 C dX6_laysHad_40 (by decide) (fun c16 => ?_) (fun c16 => ?_)
      · replace hf := o_neg c16 hf
        refine wr_iconst 47 C dX6_laysHad_47 (v := 0) rfl ?_
        exact hJlaysHad48 0 x2_ μ hf
      · replace hf := o_pos c16 hf
        refine wr_iconst 43 C dX6_laysHad_43 (v := 1) rfl ?_
        refine wr_goto 44 C dX6_laysHad_44 (tgt := 48) (by decide) ?_
        exact hJlaysHad48 1 x2_ μ hf
def gbX6_laysHad_95 (N : Nat)  (x1_ : Int32) (x2_ : Int32) (x3_ : Int32) (x4_ : Int32) (K : (wMem → Option wMem)) (rec : (Int32 → wMem → Option wMem)) (x5_ : Int32) (μ : wMem) : Option wMem :=
  if (3136 : Int32) ≤ x5_ then K  μ else wG (ok_in (((3136 : Int32) * x2_) + x5_) 40768) (wLet (fun  (μ30 : wMem) => wLet (x5_ + 1 : Int32) fun x31 => rec x31 μ30) fun JlaysHad147 => if (μ.1 23 (Int32.toNatClampNeg (((3136 : Int32) * x2_) + x5_))) = 0 then JlaysHad147  μ else wG (ok_in (((3136 : Int32) * x2_) + x5_) 40768) (if (μ.2 18 (Int32.toNatClampNeg (((3136 : Int32) * x2_) + x5_))) ≤ (0 : Int64) then JlaysHad147  μ else wBindV (fX6_goesOn N  x2_ x5_ x3_ x4_ μ) fun μ36 => JlaysHad147  μ36))
def gX6_laysHad_95 (N : Nat)  (x1_ : Int32) (x2_ : Int32) (x3_ : Int32) (x4_ : Int32) (K : (wMem → Option wMem)) : Nat → (Int32 → wMem → Option wMem)
  | 0 => fun _ _ => none
  | k + 1 => gbX6_laysHad_95 N  x1_ x2_ x3_ x4_ K (gX6_laysHad_95 N  x1_ x2_ x3_ x4_ K k)
set_option maxHeartbeats 4000000 in
set_option maxRecDepth 100000 in
theorem tX6_laysHad_95 {p : Program} {l : Launch} {e : Env} {s : State} {m : MethodId} {args : Array Value} {below : List Frame} {meth : Method} {c : Code} {D : va_G} {E : List wCell} {q : Nat → Nat} {ca : wCA} {A : Nat → Prop} (C : wC p ({ frames := 20, cells := 0, slots := 0, locals := 615 } : Room) s m args meth c cX6_laysHad yX6_laysHad.cls 6 none D vwCl (spM ++ E) q ca A) (N : Nat)   (x1_ : Int32) (x2_ : Int32) (x3_ : Int32) (x4_ : Int32) (K : (wMem → Option wMem)) (r0 : wMem) (hK : ∀  (μ : wMem), K  μ = some r0 → wJ p l e ({ frames := 20, cells := 0, slots := 0, locals := 615 } : Room) s m args below meth c 6 D vwCl (spM ++ E) q ca A (wQv ({ frames := 20, cells := 0, slots := 0, locals := 615 } : Room) D vwCl (spM ++ E) q ca below args s A r0) 0 0 μ 153 [(0, .ref (q 0)), (1, .int x1_), (2, .int x2_)] []) : ∀ (k : Nat) (x5_ : Int32) (μ : wMem), gX6_laysHad_95 N  x1_ x2_ x3_ x4_ K k x5_ μ = some r0 → wJ p l e ({ frames := 20, cells := 0, slots := 0, locals := 615 } : Room) s m args below meth c 6 D vwCl (spM ++ E) q ca A (wQv ({ frames := 20, cells := 0, slots := 0, locals := 615 } : Room) D vwCl (spM ++ E) q ca below args s A r0) 0 0 μ 95 [(0, .ref (q 0)), (1, .int x1_), (2, .int x2_), (3, .int x3_), (4, .int x4_), (5, .int x5_)] [] := by
  intro k
  induction k with
  | zero =>
    intro x5_ μ hf
    cases hf
  | succ k ih =>
    intro x5_ μ hf
    replace hf : gbX6_laysHad_95 N  x1_ x2_ x3_ x4_ K (gX6_laysHad_95 N  x1_ x2_ x3_ x4_ K k) x5_ μ = some r0 := hf
    unfold gbX6_laysHad_95 at hf
    refine wr_iload 95 C dX6_laysHad_95 5 rfl ?_
    refine wr_sipush 97 C dX6_laysHad_97 (v := 3136) rfl ?_
    refine wr_icmp_ge 100 153 C dX6_laysHad_100 (by decide) (fun c28 => ?_) (fun c28 => ?_)
    · replace hf := o_pos c28 hf
      refine wr_sub [(0, .ref (q 0)), (1, .int x1_), (2, .int x2_)] [0, 1, 2] rfl ?_
      exact hK  μ hf
    · replace hf := o_neg c28 hf
      refine wr_aload_n 103 C dX6_laysHad_103 0 rfl rfl ?_
      refine gespM_0_46_X6 104 C dX6_laysHad_104 ?_
      refine wr_sipush 107 C dX6_laysHad_107 (v := 3136) rfl ?_
      refine wr_iload_n 110 C dX6_laysHad_110 2 rfl rfl ?_
      refine wr_imul 111 C dX6_laysHad_111 ?_
      refine wr_iload 112 C dX6_laysHad_112 5 rfl ?_
      refine wr_iadd 114 C dX6_laysHad_114 ?_
      obtain ⟨g29, hf⟩ := o_g hf
      refine wr_zald 115 C dX6_laysHad_115 spM_23 g29 ?_
      obtain ⟨JlaysHad147, eJlaysHad147, hf⟩ := o_let hf
      have hJlaysHad147 : ∀  (μ30 : wMem), JlaysHad147  μ30 = some r0 → wJ p l e ({ frames := 20, cells := 0, slots := 0, locals := 615 } : Room) s m args below meth c 6 D vwCl (spM ++ E) q ca A (wQv ({ frames := 20, cells := 0, slots := 0, locals := 615 } : Room) D vwCl (spM ++ E) q ca below args s A r0) 0 0 μ30 147 [(0, .ref (q 0)), (1, .int x1_), (2, .int x2_), (3, .int x3_), (4, .int x4_), (5, .int x5_)] [] := by
        intro  μ30 hf
        rw [eJlaysHad147] at hf
        obtain ⟨x31, ex31, hf⟩ := o_let hf
        refine wr_iinc 147 [(5, .int x31), (0, .ref (q 0)), (1, .int x1_), (2, .int x2_), (3, .int x3_), (4, .int x4_)] C dX6_laysHad_147 5 rfl (ex31.trans rfl) (Nat.le_of_ble_eq_true rfl) rfl ?_
        refine wr_goto 150 C dX6_laysHad_150 (tgt := 95) (by decide) ?_
        refine wr_sub [(0, .ref (q 0)), (1, .int x1_), (2, .int x2_), (3, .int x3_), (4, .int x4_), (5, .int x31)] [1, 2, 3, 4, 5, 0] rfl ?_
        exact ih x31 μ30 hf
      refine wr_if_eq 116 147 C dX6_laysHad_116 (by decide) (fun c32 => ?_) (fun c32 => ?_)
      · replace hf := o_pos c32 hf
        exact hJlaysHad147  μ hf
      · replace hf := o_neg c32 hf
        refine wr_aload_n 119 C dX6_laysHad_119 0 rfl rfl ?_
        refine gespM_0_41_X6 120 C dX6_laysHad_120 ?_
        refine wr_sipush 123 C dX6_laysHad_123 (v := 3136) rfl ?_
        refine wr_iload_n 126 C dX6_laysHad_126 2 rfl rfl ?_
        refine wr_imul 127 C dX6_laysHad_127 ?_
        refine wr_iload 128 C dX6_laysHad_128 5 rfl ?_
        refine wr_iadd 130 C dX6_laysHad_130 ?_
        obtain ⟨g33, hf⟩ := o_g hf
        refine wr_lald 131 C dX6_laysHad_131 spM_18 g33 ?_
        refine wr_lconst 132 C dX6_laysHad_132 (v := 0) rfl ?_
        refine wr_lcmp_le 133 147 C dX6_laysHad_133 dX6_laysHad_134 (by decide) (fun c34 => ?_) (fun c34 => ?_)
        · replace hf := o_pos c34 hf
          exact hJlaysHad147  μ hf
        · replace hf := o_neg c34 hf
          refine wr_aload_n 137 C dX6_laysHad_137 0 rfl rfl ?_
          refine wr_iload_n 138 C dX6_laysHad_138 2 rfl rfl ?_
          refine wr_iload 139 C dX6_laysHad_139 5 rfl ?_
          refine wr_iload_n 141 C dX6_laysHad_141 3 rfl rfl ?_
          refine wr_iload 142 C dX6_laysHad_142 4 rfl ?_
          obtain ⟨μ36, h35, hf⟩ := o_bindV hf
          refine wr_Vv (kc1 := 0) (ks1 := 0) 144 [] C dX6_laysHad_144 (tX6_goesOn l N   x2_ x5_ x3_ x4_ μ μ36 h35) okX6_goesOn q2018 (b := 0) spM_0 rfl ⟨rfl, rfl, Nat.le_of_ble_eq_true rfl, Nat.le_of_ble_eq_true rfl, Nat.zero_le _, Nat.zero_le _⟩ (Nat.le_of_ble_eq_true rfl) rfl ?_
          exact hJlaysHad147  μ36 hf
def gbX6_laysHad_57 (N : Nat)  (x1_ : Int32) (K : (wMem → Option wMem)) (rec : (Int32 → wMem → Option wMem)) (x2_ : Int32) (μ : wMem) : Option wMem :=
  wG (ok_in x1_ 4) (if (μ.1 2 (Int32.toNatClampNeg x1_)) ≤ x2_ then K  μ else wBind (fX6_cellOf N  x1_ x2_ μ) fun v22 μ21 => wLet (Int64.toInt32 (v22 / (10 : Int64)) : Int32) fun x23 => wBind (fX6_cellOf N  x1_ x2_ μ21) fun v26 μ25 => wLet (Int64.toInt32 (v26 - v26 / (10 : Int64) * (10 : Int64)) : Int32) fun x27 => gX6_laysHad_95 N  x1_ x2_ x23 x27 (fun  (μ37 : wMem) => wLet (x2_ + 1 : Int32) fun x38 => rec x38 μ37) N 0 μ25)
def gX6_laysHad_57 (N : Nat)  (x1_ : Int32) (K : (wMem → Option wMem)) : Nat → (Int32 → wMem → Option wMem)
  | 0 => fun _ _ => none
  | k + 1 => gbX6_laysHad_57 N  x1_ K (gX6_laysHad_57 N  x1_ K k)
set_option maxHeartbeats 4000000 in
set_option maxRecDepth 100000 in
theorem tX6_laysHad_57 {p : Program} {l : Launch} {e : Env} {s : State} {m : MethodId} {args : Array Value} {below : List Frame} {meth : Method} {c : Code} {D : va_G} {E : List wCell} {q : Nat → Nat} {ca : wCA} {A : Nat → Prop} (C : wC p ({ frames := 20, cells := 0, slots := 0, locals := 615 } : Room) s m args meth c cX6_laysHad yX6_laysHad.cls 6 none D vwCl (spM ++ E) q ca A) (N : Nat)   (x1_ : Int32) (K : (wMem → Option wMem)) (r0 : wMem) (hK : ∀  (μ : wMem), K  μ = some r0 → wJ p l e ({ frames := 20, cells := 0, slots := 0, locals := 615 } : Room) s m args below meth c 6 D vwCl (spM ++ E) q ca A (wQv ({ frames := 20, cells := 0, slots := 0, locals := 615 } : Room) D vwCl (spM ++ E) q ca below args s A r0) 0 0 μ 159 [] []) : ∀ (k : Nat) (x2_ : Int32) (μ : wMem), gX6_laysHad_57 N  x1_ K k x2_ μ = some r0 → wJ p l e ({ frames := 20, cells := 0, slots := 0, locals := 615 } : Room) s m args below meth c 6 D vwCl (spM ++ E) q ca A (wQv ({ frames := 20, cells := 0, slots := 0, locals := 615 } : Room) D vwCl (spM ++ E) q ca below args s A r0) 0 0 μ 57 [(0, .ref (q 0)), (1, .int x1_), (2, .int x2_)] [] := by
  intro k
  induction k with
  | zero =>
    intro x2_ μ hf
    cases hf
  | succ k ih =>
    intro x2_ μ hf
    replace hf : gbX6_laysHad_57 N  x1_ K (gX6_laysHad_57 N  x1_ K k) x2_ μ = some r0 := hf
    unfold gbX6_laysHad_57 at hf
    refine wr_iload_n 57 C dX6_laysHad_57 2 rfl rfl ?_
    refine wr_aload_n 58 C dX6_laysHad_58 0 rfl rfl ?_
    refine gespM_0_2_X6 59 C dX6_laysHad_59 ?_
    refine wr_iload_n 62 C dX6_laysHad_62 1 rfl rfl ?_
    obtain ⟨g18, hf⟩ := o_g hf
    refine wr_iald 63 C dX6_laysHad_63 spM_2 g18 ?_
    refine wr_icmp_ge 64 159 C dX6_laysHad_64 (by decide) (fun c19 => ?_) (fun c19 => ?_)
    · replace hf := o_pos c19 hf
      refine wr_sub [] [] rfl ?_
      exact hK  μ hf
    · replace hf := o_neg c19 hf
      refine wr_aload_n 67 C dX6_laysHad_67 0 rfl rfl ?_
      refine wr_iload_n 68 C dX6_laysHad_68 1 rfl rfl ?_
      refine wr_iload_n 69 C dX6_laysHad_69 2 rfl rfl ?_
      obtain ⟨v22, μ21, h20, hf⟩ := o_bind hf
      refine wr_Vl (kc1 := 0) (ks1 := 0) 70 [] C dX6_laysHad_70 (tX6_cellOf l N   x1_ x2_ μ (v22, μ21) h20) okX6_cellOf q1957 (b := 0) spM_0 rfl ⟨rfl, rfl, Nat.le_of_ble_eq_true rfl, Nat.le_of_ble_eq_true rfl, Nat.zero_le _, Nat.zero_le _⟩ (Nat.le_of_ble_eq_true rfl) rfl ?_
      refine wr_ldc2 73 C dX6_laysHad_73 q1824 ?_
      refine wr_ldiv 76 C dX6_laysHad_76 (by decide) ?_
      refine wr_l2i 77 C dX6_laysHad_77 ?_
      obtain ⟨x23, ex23, hf⟩ := o_let hf
      refine wr_istore_n 78 [(3, .int x23), (0, .ref (q 0)), (1, .int x1_), (2, .int x2_)] C dX6_laysHad_78 ex23 rfl (Nat.le_of_ble_eq_true rfl) rfl ?_
      refine wr_aload_n 79 C dX6_laysHad_79 1 rfl rfl ?_
      refine wr_iload_n 80 C dX6_laysHad_80 2 rfl rfl ?_
      refine wr_iload_n 81 C dX6_laysHad_81 3 rfl rfl ?_
      obtain ⟨v26, μ25, h24, hf⟩ := o_bind hf
      refine wr_Vl (kc1 := 0) (ks1 := 0) 82 [] C dX6_laysHad_82 (tX6_cellOf l N   x1_ x2_ μ21 (v26, μ25) h24) okX6_cellOf q1957 (b := 0) spM_0 rfl ⟨rfl, rfl, Nat.le_of_ble_eq_true rfl, Nat.le_of_ble_eq_true rfl, Nat.zero_le _, Nat.zero_le _⟩ (Nat.le_of_ble_eq_true rfl) rfl ?_
      refine wr_ldc2 85 C dX6_laysHad_85 q1824 ?_
      refine wr_lrem 88 C dX6_laysHad_88 (by decide) ?_
      refine wr_l2i 89 C dX6_laysHad_89 ?_
      obtain ⟨x27, ex27, hf⟩ := o_let hf
      refine wr_istore 90 [(4, .int x27), (3, .int x23), (0, .ref (q 0)), (1, .int x1_), (2, .int x2_)] C dX6_laysHad_90 ex27 (Nat.le_of_ble_eq_true rfl) rfl ?_
      refine wr_iconst 92 C dX6_laysHad_92 (v := 0) rfl ?_
      refine wr_istore 93 [(5, .int 0), (4, .int x27), (3, .int x23), (0, .ref (q 0)), (1, .int x1_), (2, .int x2_)] C dX6_laysHad_93 rfl (Nat.le_of_ble_eq_true rfl) rfl ?_
      refine wr_sub [(0, .ref (q 0)), (1, .int x1_), (2, .int x2_), (3, .int x23), (4, .int x27), (5, .int 0)] [3, 4, 5, 2, 1, 0] rfl ?_
      refine tX6_laysHad_95 C N   x1_ x2_ x23 x27 _ r0 (fun  μ37 hf => ?_) N 0 μ25 hf
      · replace hf := hf
        obtain ⟨x38, ex38, hf⟩ := o_let hf
        refine wr_iinc 153 [(2, .int x38), (0, .ref (q 0)), (1, .int x1_)] C dX6_laysHad_153 2 rfl (ex38.trans rfl) (Nat.le_of_ble_eq_true rfl) rfl ?_
        refine wr_goto 156 C dX6_laysHad_156 (tgt := 57) (by decide) ?_
        refine wr_sub [(0, .ref (q 0)), (1, .int x1_), (2, .int x38)] [1, 2, 0] rfl ?_
        exact ih x38 μ37 hf
def fX6_laysHad (N : Nat)  (a1 : Int32) (μ : wMem) : Option wMem :=
  wBindV (fX6_laysStamps N  a1 μ) fun μ2 => gX6_laysHad_7 N  a1 (fun  (μ7 : wMem) => gX6_laysHad_28 N  a1 (fun  (μ17 : wMem) => gX6_laysHad_57 N  a1 (fun  (μ39 : wMem) => some μ39) N 0 μ17) N 0 μ7) N 0 μ2
set_option maxHeartbeats 4000000 in
set_option maxRecDepth 100000 in
theorem tX6_laysHad (l : Launch) {D : va_G} {E : List wCell} {q : Nat → Nat} {ca : wCA} (N : Nat)   (a1 : Int32) (μ : wMem) (r0 : wMem) (hf : fX6_laysHad N  a1 μ = some r0) : wMv l yX6_laysHad cX6_laysHad 6 none ({ frames := 20, cells := 0, slots := 0, locals := 615 } : Room) D vwCl (spM ++ E) q ca [.ref (q 0), .int a1] μ r0 := by
  refine wMv_intro (by decide) (Nat.le_of_ble_eq_true rfl) ?_
  intro p e s m args below meth c A C
  unfold fX6_laysHad at hf
  refine wr_sub [(0, .ref (q 0)), (1, .int a1)] [0, 1] rfl ?_
  refine wr_aload_n 0 C dX6_laysHad_0 0 rfl rfl ?_
  refine wr_iload_n 1 C dX6_laysHad_1 1 rfl rfl ?_
  obtain ⟨μ2, h1, hf⟩ := o_bindV hf
  refine wr_Vv (kc1 := 0) (ks1 := 0) 2 [] C dX6_laysHad_2 (tX6_laysStamps l N   a1 μ μ2 h1) okX6_laysStamps q1994 (b := 0) spM_0 rfl ⟨rfl, rfl, Nat.le_of_ble_eq_true rfl, Nat.le_of_ble_eq_true rfl, Nat.zero_le _, Nat.zero_le _⟩ (Nat.le_of_ble_eq_true rfl) rfl ?_
  refine wr_iconst 5 C dX6_laysHad_5 (v := 0) rfl ?_
  refine wr_istore_n 6 [(2, .int 0), (0, .ref (q 0)), (1, .int a1)] C dX6_laysHad_6 rfl rfl (Nat.le_of_ble_eq_true rfl) rfl ?_
  refine wr_sub [(0, .ref (q 0)), (1, .int a1), (2, .int 0)] [1, 2, 0] rfl ?_
  refine tX6_laysHad_7 C N   a1 _ r0 (fun  μ7 hf => ?_) N 0 μ2 hf
  · replace hf := hf
    refine wr_iconst 26 C dX6_laysHad_26 (v := 0) rfl ?_
    refine wr_istore_n 27 [(2, .int 0), (0, .ref (q 0)), (1, .int a1)] C dX6_laysHad_27 rfl rfl (Nat.le_of_ble_eq_true rfl) rfl ?_
    refine wr_sub [(0, .ref (q 0)), (1, .int a1), (2, .int 0)] [1, 2, 0] rfl ?_
    refine tX6_laysHad_28 C N   a1 _ r0 (fun  μ17 hf => ?_) N 0 μ7 hf
    · replace hf := hf
      refine wr_iconst 55 C dX6_laysHad_55 (v := 0) rfl ?_
      refine wr_istore_n 56 [(2, .int 0), (0, .ref (q 0)), (1, .int a1)] C dX6_laysHad_56 rfl rfl (Nat.le_of_ble_eq_true rfl) rfl ?_
      refine wr_sub [(0, .ref (q 0)), (1, .int a1), (2, .int 0)] [1, 2, 0] rfl ?_
      refine tX6_laysHad_57 C N   a1 _ r0 (fun  μ39 hf => ?_) N 0 μ17 hf
      · replace hf := hf
        exact wr_vret 159 C dX6_laysHad_159 ⟨Nat.zero_le _, Nat.zero_le _⟩ (Option.some.inj hf)
abbrev cX6_had : ByteArray := prog_11_method_117_code
def yX6_had : MethodName := ⟨RX6, "had", "(II)I"⟩
def dkwX6_had_2 : List UInt8 := [46, 172]
abbrev dktX6_had_2 : List UInt8 := dkwX6_had_2 ++ []
def dkwX6_had_1 : List UInt8 := [29, 172, 28, 42, 180, 0, 13, 27, 46, 161, 0, 5, 3, 172, 42, 27, 182, 1, 178, 42, 180, 0, 82, 28]
abbrev dktX6_had_1 : List UInt8 := dkwX6_had_1 ++ dktX6_had_2
def dkwX6_had_0 : List UInt8 := [42, 3, 181, 0, 88, 28, 155, 0, 11, 42, 27, 182, 1, 168, 167, 0, 5, 16, 254, 62, 29, 153, 0, 5]
abbrev dktX6_had_0 : List UInt8 := dkwX6_had_0 ++ dktX6_had_1
theorem dksX6_had_0 : cX6_had.data.toList.drop 0 = dktX6_had_0 := by decide +kernel
theorem dksX6_had_1 : cX6_had.data.toList.drop 24 = dktX6_had_1 := dk_seg dksX6_had_0 24 rfl rfl
theorem dksX6_had_2 : cX6_had.data.toList.drop 48 = dktX6_had_2 := dk_seg dksX6_had_1 24 rfl rfl
theorem dX6_had_0 : decode cX6_had 0 = .ok (.aload_n 0, 1) := dk_42 (dk_at dksX6_had_0 0 rfl rfl)
theorem dX6_had_1 : decode cX6_had 1 = .ok (.iconst 0, 1) := dk_3 (dk_at dksX6_had_0 1 rfl rfl)
theorem dX6_had_2 : decode cX6_had 2 = .ok (.putfield 88, 3) := dk_181 0 88 (dk_at dksX6_had_0 2 rfl rfl)
theorem dX6_had_5 : decode cX6_had 5 = .ok (.iload_n 2, 1) := dk_28 (dk_at dksX6_had_0 5 rfl rfl)
theorem dX6_had_6 : decode cX6_had 6 = .ok (.ifCond .lt 11, 3) := dk_155 0 11 (dk_at dksX6_had_0 6 rfl rfl)
theorem dX6_had_9 : decode cX6_had 9 = .ok (.aload_n 0, 1) := dk_42 (dk_at dksX6_had_0 9 rfl rfl)
theorem dX6_had_10 : decode cX6_had 10 = .ok (.iload_n 1, 1) := dk_27 (dk_at dksX6_had_0 10 rfl rfl)
theorem dX6_had_11 : decode cX6_had 11 = .ok (.invokevirtual 424, 3) := dk_182 1 168 (dk_at dksX6_had_0 11 rfl rfl)
theorem dX6_had_14 : decode cX6_had 14 = .ok (.goto 5, 3) := dk_167 0 5 (dk_at dksX6_had_0 14 rfl rfl)
theorem dX6_had_17 : decode cX6_had 17 = .ok (.bipush (-2), 2) := dk_16 254 (dk_at dksX6_had_0 17 rfl rfl)
theorem dX6_had_19 : decode cX6_had 19 = .ok (.istore_n 3, 1) := dk_62 (dk_at dksX6_had_0 19 rfl rfl)
theorem dX6_had_20 : decode cX6_had 20 = .ok (.iload_n 3, 1) := dk_29 (dk_at dksX6_had_0 20 rfl rfl)
theorem dX6_had_21 : decode cX6_had 21 = .ok (.ifCond .eq 5, 3) := dk_153 0 5 (dk_at dksX6_had_0 21 rfl rfl)
theorem dX6_had_24 : decode cX6_had 24 = .ok (.iload_n 3, 1) := dk_29 (dk_at dksX6_had_1 0 rfl rfl)
theorem dX6_had_25 : decode cX6_had 25 = .ok (.ireturn, 1) := dk_172 (dk_at dksX6_had_1 1 rfl rfl)
theorem dX6_had_26 : decode cX6_had 26 = .ok (.iload_n 2, 1) := dk_28 (dk_at dksX6_had_1 2 rfl rfl)
theorem dX6_had_27 : decode cX6_had 27 = .ok (.aload_n 0, 1) := dk_42 (dk_at dksX6_had_1 3 rfl rfl)
theorem dX6_had_28 : decode cX6_had 28 = .ok (.getfield 13, 3) := dk_180 0 13 (dk_at dksX6_had_1 4 rfl rfl)
theorem dX6_had_31 : decode cX6_had 31 = .ok (.iload_n 1, 1) := dk_27 (dk_at dksX6_had_1 7 rfl rfl)
theorem dX6_had_32 : decode cX6_had 32 = .ok (.iaload, 1) := dk_46 (dk_at dksX6_had_1 8 rfl rfl)
theorem dX6_had_33 : decode cX6_had 33 = .ok (.if_icmp .lt 5, 3) := dk_161 0 5 (dk_at dksX6_had_1 9 rfl rfl)
theorem dX6_had_36 : decode cX6_had 36 = .ok (.iconst 0, 1) := dk_3 (dk_at dksX6_had_1 12 rfl rfl)
theorem dX6_had_37 : decode cX6_had 37 = .ok (.ireturn, 1) := dk_172 (dk_at dksX6_had_1 13 rfl rfl)
theorem dX6_had_38 : decode cX6_had 38 = .ok (.aload_n 0, 1) := dk_42 (dk_at dksX6_had_1 14 rfl rfl)
theorem dX6_had_39 : decode cX6_had 39 = .ok (.iload_n 1, 1) := dk_27 (dk_at dksX6_had_1 15 rfl rfl)
theorem dX6_had_40 : decode cX6_had 40 = .ok (.invokevirtual 434, 3) := dk_182 1 178 (dk_at dksX6_had_1 16 rfl rfl)
theorem dX6_had_43 : decode cX6_had 43 = .ok (.aload_n 0, 1) := dk_42 (dk_at dksX6_had_1 19 rfl rfl)
theorem dX6_had_44 : decode cX6_had 44 = .ok (.getfield 82, 3) := dk_180 0 82 (dk_at dksX6_had_1 20 rfl rfl)
theorem dX6_had_47 : decode cX6_had 47 = .ok (.iload_n 2, 1) := dk_28 (dk_at dksX6_had_1 23 rfl rfl)
theorem dX6_had_48 : decode cX6_had 48 = .ok (.iaload, 1) := dk_46 (dk_at dksX6_had_2 0 rfl rfl)
theorem dX6_had_49 : decode cX6_had 49 = .ok (.ireturn, 1) := dk_172 (dk_at dksX6_had_2 1 rfl rfl)

theorem okX6_had : wOkV yX6_had cX6_had 4 (some .int) 2 := ⟨q2011, q2012, q145, q2013, by decide, by decide, by decide +kernel⟩
def fX6_had (N : Nat)  (a1 : Int32) (a2 : Int32) (μ : wMem) : Option (Int32 × wMem) :=
  wLet (wSI μ 0 0 (0 : Int32)) fun μ1 => wLet (fun (v3 : Int32) (μ2 : wMem) => if v3 = 0 then wG (ok_in a1 4) (if a2 < (μ2.1 2 (Int32.toNatClampNeg a1)) then wBindV (fX6_laysHad N  a1 μ2) fun μ8 => wG (ok_in a2 12) (some (μ8.1 22 (Int32.toNatClampNeg a2), μ8)) else some (0, μ2)) else some (v3, μ2)) fun Jhad19 => if a2 < 0 then Jhad19 (-2) μ1 else wBind (fX6_whyNoStamps N  a1 μ1) fun v13 μ12 => Jhad19 v13 μ12
set_option maxHeartbeats 4000000 in
set_option maxRecDepth 100000 in
theorem tX6_had (l : Launch) {D : va_G} {E : List wCell} {q : Nat → Nat} {ca : wCA} (N : Nat)   (a1 : Int32) (a2 : Int32) (μ : wMem) (r0 : (Int32 × wMem)) (hf : fX6_had N  a1 a2 μ = some r0) : wMi l yX6_had cX6_had 4 (some .int) ({ frames := 21, cells := 0, slots := 0, locals := 640 } : Room) D vwCl (spM ++ E) q ca [.ref (q 0), .int a1, .int a2] μ r0 := by
  refine wMi_intro (by decide) (Nat.le_of_ble_eq_true rfl) ?_
  intro p e s m args below meth c A C
  unfold fX6_had at hf
  refine wr_sub [(0, .ref (q 0)), (1, .int a1), (2, .int a2)] [0, 1, 2] rfl ?_
  refine wr_aload_n 0 C dX6_had_0 0 rfl rfl ?_
  refine wr_iconst 1 C dX6_had_1 (v := 0) rfl ?_
  obtain ⟨μ1, eμ1, hf⟩ := o_let hf
  refine puspM_0_0_X6 2 C dX6_had_2 eμ1 ?_
  refine wr_iload_n 5 C dX6_had_5 2 rfl rfl ?_
  obtain ⟨Jhad19, eJhad19, hf⟩ := o_let hf
  have hJhad19 : ∀ (v3 : Int32) (μ2 : wMem), Jhad19 v3 μ2 = some r0 → wJ p l e ({ frames := 21, cells := 0, slots := 0, locals := 640 } : Room) s m args below meth c 4 D vwCl (spM ++ E) q ca A (wQi ({ frames := 21, cells := 0, slots := 0, locals := 640 } : Room) D vwCl (spM ++ E) q ca below args s A r0) 0 0 μ2 19 [(0, .ref (q 0)), (1, .int a1), (2, .int a2)] [.int v3] := by
    intro v3 μ2 hf
    rw [eJhad19] at hf
    refine wr_istore_n 19 [(3, .int v3), (0, .ref (q 0)), (1, .int a1), (2, .int a2)] C dX6_had_19 rfl rfl (Nat.le_of_ble_eq_true rfl) rfl ?_
    refine wr_iload_n 20 C dX6_had_20 0 rfl rfl ?_
    refine wr_if_eq 21 26 C dX6_had_21 (by decide) (fun c4 => ?_) (fun c4 => ?_)
    · replace hf := o_pos c4 hf
      refine wr_iload_n 26 C dX6_had_26 3 rfl rfl ?_
      refine wr_aload_n 27 C dX6_had_27 1 rfl rfl ?_
      refine gespM_0_2_X6 28 C dX6_had_28 ?_
      refine wr_iload_n 31 C dX6_had_31 2 rfl rfl ?_
      obtain ⟨g5, hf⟩ := o_g hf
      refine wr_iald 32 C dX6_had_32 spM_2 g5 ?_
      refine wr_icmp_lt 33 38 C dX6_had_33 (by decide) (fun c6 => ?_) (fun c6 => ?_)
      · replace hf := o_pos c6 hf
        refine wr_aload_n 38 C dX6_had_38 1 rfl rfl ?_
        refine wr_iload_n 39 C dX6_had_39 2 rfl rfl ?_
        obtain ⟨μ8, h7, hf⟩ := o_bindV hf
        refine wr_Vv (kc1 := 0) (ks1 := 0) 40 [] C dX6_had_40 (tX6_laysHad l N   a1 μ2 μ8 h7) okX6_laysHad q2014 (b := 0) spM_0 rfl ⟨rfl, rfl, Nat.le_of_ble_eq_true rfl, Nat.le_of_ble_eq_true rfl, Nat.zero_le _, Nat.zero_le _⟩ (Nat.le_of_ble_eq_true rfl) rfl ?_
        refine wr_aload_n 43 C dX6_had_43 1 rfl rfl ?_
        refine gespM_0_45_X6 44 C dX6_had_44 ?_
        refine wr_iload_n 47 C dX6_had_47 3 rfl rfl ?_
        obtain ⟨g9, hf⟩ := o_g hf
        refine wr_iald 48 C dX6_had_48 spM_22 g9 ?_
        exact wr_iret 49 C dX6_had_49 ⟨Nat.zero_le _, Nat.zero_le _⟩ (Option.some.inj hf)
      · replace hf := o_neg c6 hf
        refine wr_iconst 36 C dX6_had_36 (v := 0) rfl ?_
        exact wr_iret 37 C dX6_had_37 ⟨Nat.zero_le _, Nat.zero_le _⟩ (Option.some.inj hf)
    · replace hf := o_neg c4 hf
      refine wr_iload_n 24 C dX6_had_24 0 rfl rfl ?_
      exact wr_iret 25 C dX6_had_25 ⟨Nat.zero_le _, Nat.zero_le _⟩ (Option.some.inj hf)
  refine wr_if_lt 6 17 C dX6_had_6 (by decide) (fun c10 => ?_) (fun c10 => ?_)
  · replace hf := o_pos c10 hf
    refine wr_bipush 17 C dX6_had_17 (v := (-2)) rfl ?_
    exact hJhad19 (-2) μ1 hf
  · replace hf := o_neg c10 hf
    refine wr_aload_n 9 C dX6_had_9 0 rfl rfl ?_
    refine wr_iload_n 10 C dX6_had_10 1 rfl rfl ?_
    obtain ⟨v13, μ12, h11, hf⟩ := o_bind hf
    refine wr_Vi (kc1 := 0) (ks1 := 0) 11 [] C dX6_had_11 (tX6_whyNoStamps l N   a1 μ1 (v13, μ12) h11) okX6_whyNoStamps q1989 (b := 0) spM_0 rfl ⟨rfl, rfl, Nat.le_of_ble_eq_true rfl, Nat.le_of_ble_eq_true rfl, Nat.zero_le _, Nat.zero_le _⟩ (Nat.le_of_ble_eq_true rfl) rfl ?_
    refine wr_goto 14 C dX6_had_14 (tgt := 19) (by decide) ?_
    exact hJhad19 v13 μ12 hf
abbrev cX6_sure : ByteArray := prog_11_method_118_code
def yX6_sure : MethodName := ⟨RX6, "sure", "(II)I"⟩
def dkwX6_sure_3 : List UInt8 := [3, 46, 172]
abbrev dktX6_sure_3 : List UInt8 := dkwX6_sure_3 ++ []
def dkwX6_sure_2 : List UInt8 := [154, 0, 7, 3, 167, 0, 22, 28, 154, 0, 12, 42, 180, 0, 76, 3, 46, 167, 0, 9, 42, 180, 0, 79]
abbrev dktX6_sure_2 : List UInt8 := dkwX6_sure_2 ++ dktX6_sure_3
def dkwX6_sure_1 : List UInt8 := [16, 254, 62, 29, 153, 0, 5, 29, 172, 42, 27, 182, 1, 171, 42, 180, 0, 70, 3, 47, 9, 148]
abbrev dktX6_sure_1 : List UInt8 := dkwX6_sure_1 ++ dktX6_sure_2
def dkwX6_sure_0 : List UInt8 := [42, 3, 181, 0, 88, 28, 133, 9, 10, 184, 0, 93, 153, 0, 11, 42, 27, 182, 1, 168, 167, 0, 5]
abbrev dktX6_sure_0 : List UInt8 := dkwX6_sure_0 ++ dktX6_sure_1
theorem dksX6_sure_0 : cX6_sure.data.toList.drop 0 = dktX6_sure_0 := by decide +kernel
theorem dksX6_sure_1 : cX6_sure.data.toList.drop 23 = dktX6_sure_1 := dk_seg dksX6_sure_0 23 rfl rfl
theorem dksX6_sure_2 : cX6_sure.data.toList.drop 45 = dktX6_sure_2 := dk_seg dksX6_sure_1 22 rfl rfl
theorem dksX6_sure_3 : cX6_sure.data.toList.drop 69 = dktX6_sure_3 := dk_seg dksX6_sure_2 24 rfl rfl
theorem dX6_sure_0 : decode cX6_sure 0 = .ok (.aload_n 0, 1) := dk_42 (dk_at dksX6_sure_0 0 rfl rfl)
theorem dX6_sure_1 : decode cX6_sure 1 = .ok (.iconst 0, 1) := dk_3 (dk_at dksX6_sure_0 1 rfl rfl)
theorem dX6_sure_2 : decode cX6_sure 2 = .ok (.putfield 88, 3) := dk_181 0 88 (dk_at dksX6_sure_0 2 rfl rfl)
theorem dX6_sure_5 : decode cX6_sure 5 = .ok (.iload_n 2, 1) := dk_28 (dk_at dksX6_sure_0 5 rfl rfl)
theorem dX6_sure_6 : decode cX6_sure 6 = .ok (.i2l, 1) := dk_133 (dk_at dksX6_sure_0 6 rfl rfl)
theorem dX6_sure_7 : decode cX6_sure 7 = .ok (.lconst 0, 1) := dk_9 (dk_at dksX6_sure_0 7 rfl rfl)
theorem dX6_sure_8 : decode cX6_sure 8 = .ok (.lconst 1, 1) := dk_10 (dk_at dksX6_sure_0 8 rfl rfl)
theorem dX6_sure_9 : decode cX6_sure 9 = .ok (.invokestatic 93, 3) := dk_184 0 93 (dk_at dksX6_sure_0 9 rfl rfl)
theorem dX6_sure_12 : decode cX6_sure 12 = .ok (.ifCond .eq 11, 3) := dk_153 0 11 (dk_at dksX6_sure_0 12 rfl rfl)
theorem dX6_sure_15 : decode cX6_sure 15 = .ok (.aload_n 0, 1) := dk_42 (dk_at dksX6_sure_0 15 rfl rfl)
theorem dX6_sure_16 : decode cX6_sure 16 = .ok (.iload_n 1, 1) := dk_27 (dk_at dksX6_sure_0 16 rfl rfl)
theorem dX6_sure_17 : decode cX6_sure 17 = .ok (.invokevirtual 424, 3) := dk_182 1 168 (dk_at dksX6_sure_0 17 rfl rfl)
theorem dX6_sure_20 : decode cX6_sure 20 = .ok (.goto 5, 3) := dk_167 0 5 (dk_at dksX6_sure_0 20 rfl rfl)
theorem dX6_sure_23 : decode cX6_sure 23 = .ok (.bipush (-2), 2) := dk_16 254 (dk_at dksX6_sure_1 0 rfl rfl)
theorem dX6_sure_25 : decode cX6_sure 25 = .ok (.istore_n 3, 1) := dk_62 (dk_at dksX6_sure_1 2 rfl rfl)
theorem dX6_sure_26 : decode cX6_sure 26 = .ok (.iload_n 3, 1) := dk_29 (dk_at dksX6_sure_1 3 rfl rfl)
theorem dX6_sure_27 : decode cX6_sure 27 = .ok (.ifCond .eq 5, 3) := dk_153 0 5 (dk_at dksX6_sure_1 4 rfl rfl)
theorem dX6_sure_30 : decode cX6_sure 30 = .ok (.iload_n 3, 1) := dk_29 (dk_at dksX6_sure_1 7 rfl rfl)
theorem dX6_sure_31 : decode cX6_sure 31 = .ok (.ireturn, 1) := dk_172 (dk_at dksX6_sure_1 8 rfl rfl)
theorem dX6_sure_32 : decode cX6_sure 32 = .ok (.aload_n 0, 1) := dk_42 (dk_at dksX6_sure_1 9 rfl rfl)
theorem dX6_sure_33 : decode cX6_sure 33 = .ok (.iload_n 1, 1) := dk_27 (dk_at dksX6_sure_1 10 rfl rfl)
theorem dX6_sure_34 : decode cX6_sure 34 = .ok (.invokevirtual 427, 3) := dk_182 1 171 (dk_at dksX6_sure_1 11 rfl rfl)
theorem dX6_sure_37 : decode cX6_sure 37 = .ok (.aload_n 0, 1) := dk_42 (dk_at dksX6_sure_1 14 rfl rfl)
theorem dX6_sure_38 : decode cX6_sure 38 = .ok (.getfield 70, 3) := dk_180 0 70 (dk_at dksX6_sure_1 15 rfl rfl)
theorem dX6_sure_41 : decode cX6_sure 41 = .ok (.iconst 0, 1) := dk_3 (dk_at dksX6_sure_1 18 rfl rfl)
theorem dX6_sure_42 : decode cX6_sure 42 = .ok (.laload, 1) := dk_47 (dk_at dksX6_sure_1 19 rfl rfl)
theorem dX6_sure_43 : decode cX6_sure 43 = .ok (.lconst 0, 1) := dk_9 (dk_at dksX6_sure_1 20 rfl rfl)
theorem dX6_sure_44 : decode cX6_sure 44 = .ok (.lcmp, 1) := dk_148 (dk_at dksX6_sure_1 21 rfl rfl)
theorem dX6_sure_45 : decode cX6_sure 45 = .ok (.ifCond .ne 7, 3) := dk_154 0 7 (dk_at dksX6_sure_2 0 rfl rfl)
theorem dX6_sure_48 : decode cX6_sure 48 = .ok (.iconst 0, 1) := dk_3 (dk_at dksX6_sure_2 3 rfl rfl)
theorem dX6_sure_49 : decode cX6_sure 49 = .ok (.goto 22, 3) := dk_167 0 22 (dk_at dksX6_sure_2 4 rfl rfl)
theorem dX6_sure_52 : decode cX6_sure 52 = .ok (.iload_n 2, 1) := dk_28 (dk_at dksX6_sure_2 7 rfl rfl)
theorem dX6_sure_53 : decode cX6_sure 53 = .ok (.ifCond .ne 12, 3) := dk_154 0 12 (dk_at dksX6_sure_2 8 rfl rfl)
theorem dX6_sure_56 : decode cX6_sure 56 = .ok (.aload_n 0, 1) := dk_42 (dk_at dksX6_sure_2 11 rfl rfl)
theorem dX6_sure_57 : decode cX6_sure 57 = .ok (.getfield 76, 3) := dk_180 0 76 (dk_at dksX6_sure_2 12 rfl rfl)
theorem dX6_sure_60 : decode cX6_sure 60 = .ok (.iconst 0, 1) := dk_3 (dk_at dksX6_sure_2 15 rfl rfl)
theorem dX6_sure_61 : decode cX6_sure 61 = .ok (.iaload, 1) := dk_46 (dk_at dksX6_sure_2 16 rfl rfl)
theorem dX6_sure_62 : decode cX6_sure 62 = .ok (.goto 9, 3) := dk_167 0 9 (dk_at dksX6_sure_2 17 rfl rfl)
theorem dX6_sure_65 : decode cX6_sure 65 = .ok (.aload_n 0, 1) := dk_42 (dk_at dksX6_sure_2 20 rfl rfl)
theorem dX6_sure_66 : decode cX6_sure 66 = .ok (.getfield 79, 3) := dk_180 0 79 (dk_at dksX6_sure_2 21 rfl rfl)
theorem dX6_sure_69 : decode cX6_sure 69 = .ok (.iconst 0, 1) := dk_3 (dk_at dksX6_sure_3 0 rfl rfl)
theorem dX6_sure_70 : decode cX6_sure 70 = .ok (.iaload, 1) := dk_46 (dk_at dksX6_sure_3 1 rfl rfl)
theorem dX6_sure_71 : decode cX6_sure 71 = .ok (.ireturn, 1) := dk_172 (dk_at dksX6_sure_3 2 rfl rfl)

theorem okX6_sure : wOkV yX6_sure cX6_sure 4 (some .int) 2 := ⟨q2023, q2024, q145, q2025, by decide, by decide, by decide +kernel⟩
def fX6_sure (N : Nat)  (a1 : Int32) (a2 : Int32) (μ : wMem) : Option (Int32 × wMem) :=
  wLet (wSI μ 0 0 (0 : Int32)) fun μ1 => wBind (fX6_in N  (Int32.toInt64 a2) 0 1 μ1) fun v4 μ3 => wLet (fun (v6 : Int32) (μ5 : wMem) => if v6 = 0 then wBindV (fX6_laysStamps N  a1 μ5) fun μ9 => wG (ok_in (0 : Int32) 40768) (if (μ9.2 18 (Int32.toNatClampNeg (0 : Int32))) = (0 : Int64) then some (0, μ9) else if a2 = 0 then wG (ok_in (0 : Int32) 40768) (some (μ9.1 20 (Int32.toNatClampNeg (0 : Int32)), μ9)) else wG (ok_in (0 : Int32) 40768) (some (μ9.1 21 (Int32.toNatClampNeg (0 : Int32)), μ9))) else some (v6, μ5)) fun Jsure25 => if v4 = 0 then Jsure25 (-2) μ3 else wBind (fX6_whyNoStamps N  a1 μ3) fun v18 μ17 => Jsure25 v18 μ17
set_option maxHeartbeats 4000000 in
set_option maxRecDepth 100000 in
theorem tX6_sure (l : Launch) {D : va_G} {E : List wCell} {q : Nat → Nat} {ca : wCA} (N : Nat)   (a1 : Int32) (a2 : Int32) (μ : wMem) (r0 : (Int32 × wMem)) (hf : fX6_sure N  a1 a2 μ = some r0) : wMi l yX6_sure cX6_sure 4 (some .int) ({ frames := 20, cells := 0, slots := 0, locals := 615 } : Room) D vwCl (spM ++ E) q ca [.ref (q 0), .int a1, .int a2] μ r0 := by
  refine wMi_intro (by decide) (Nat.le_of_ble_eq_true rfl) ?_
  intro p e s m args below meth c A C
  unfold fX6_sure at hf
  refine wr_sub [(0, .ref (q 0)), (1, .int a1), (2, .int a2)] [0, 1, 2] rfl ?_
  refine wr_aload_n 0 C dX6_sure_0 0 rfl rfl ?_
  refine wr_iconst 1 C dX6_sure_1 (v := 0) rfl ?_
  obtain ⟨μ1, eμ1, hf⟩ := o_let hf
  refine puspM_0_0_X6 2 C dX6_sure_2 eμ1 ?_
  refine wr_iload_n 5 C dX6_sure_5 2 rfl rfl ?_
  refine wr_i2l 6 C dX6_sure_6 ?_
  refine wr_lconst 7 C dX6_sure_7 (v := 0) rfl ?_
  refine wr_lconst 8 C dX6_sure_8 (v := 1) rfl ?_
  obtain ⟨v4, μ3, h2, hf⟩ := o_bind hf
  refine wr_Si (kc1 := 0) (ks1 := 0) 9 [] C dX6_sure_9 (tX6_in l N   (Int32.toInt64 a2) 0 1 μ1 (v4, μ3) h2) okX6_in q1552 ⟨rfl, rfl, Nat.le_of_ble_eq_true rfl, Nat.le_of_ble_eq_true rfl, Nat.zero_le _, Nat.zero_le _⟩ (Nat.le_of_ble_eq_true rfl) rfl ?_
  obtain ⟨Jsure25, eJsure25, hf⟩ := o_let hf
  have hJsure25 : ∀ (v6 : Int32) (μ5 : wMem), Jsure25 v6 μ5 = some r0 → wJ p l e ({ frames := 20, cells := 0, slots := 0, locals := 615 } : Room) s m args below meth c 4 D vwCl (spM ++ E) q ca A (wQi ({ frames := 20, cells := 0, slots := 0, locals := 615 } : Room) D vwCl (spM ++ E) q ca below args s A r0) 0 0 μ5 25 [(0, .ref (q 0)), (1, .int a1), (2, .int a2)] [.int v6] := by
    intro v6 μ5 hf
    rw [eJsure25] at hf
    refine wr_istore_n 25 [(3, .int v6), (0, .ref (q 0)), (1, .int a1), (2, .int a2)] C dX6_sure_25 rfl rfl (Nat.le_of_ble_eq_true rfl) rfl ?_
    refine wr_iload_n 26 C dX6_sure_26 0 rfl rfl ?_
    refine wr_if_eq 27 32 C dX6_sure_27 (by decide) (fun c7 => ?_) (fun c7 => ?_)
    · replace hf := o_pos c7 hf
      refine wr_aload_n 32 C dX6_sure_32 1 rfl rfl ?_
      refine wr_iload_n 33 C dX6_sure_33 2 rfl rfl ?_
      obtain ⟨μ9, h8, hf⟩ := o_bindV hf
      refine wr_Vv (kc1 := 0) (ks1 := 0) 34 [] C dX6_sure_34 (tX6_laysStamps l N   a1 μ5 μ9 h8) okX6_laysStamps q1994 (b := 0) spM_0 rfl ⟨rfl, rfl, Nat.le_of_ble_eq_true rfl, Nat.le_of_ble_eq_true rfl, Nat.zero_le _, Nat.zero_le _⟩ (Nat.le_of_ble_eq_true rfl) rfl ?_
      refine wr_aload_n 37 C dX6_sure_37 1 rfl rfl ?_
      refine gespM_0_41_X6 38 C dX6_sure_38 ?_
      refine wr_iconst 41 C dX6_sure_41 (v := 0) rfl ?_
      obtain ⟨g10, hf⟩ := o_g hf
      refine wr_lald 42 C dX6_sure_42 spM_18 g10 ?_
      refine wr_lconst 43 C dX6_sure_43 (v := 0) rfl ?_
      refine wr_lcmp_ne 44 52 C dX6_sure_44 dX6_sure_45 (by decide) (fun c11 => ?_) (fun c11 => ?_)
      · replace hf := o_neg c11 hf
        refine wr_iload_n 52 C dX6_sure_52 3 rfl rfl ?_
        refine wr_if_ne 53 65 C dX6_sure_53 (by decide) (fun c12 => ?_) (fun c12 => ?_)
        · replace hf := o_neg c12 hf
          refine wr_aload_n 65 C dX6_sure_65 1 rfl rfl ?_
          refine gespM_0_44_X6 66 C dX6_sure_66 ?_
          refine wr_iconst 69 C dX6_sure_69 (v := 0) rfl ?_
          obtain ⟨g13, hf⟩ := o_g hf
          refine wr_iald 70 C dX6_sure_70 spM_21 g13 ?_
          exact wr_iret 71 C dX6_sure_71 ⟨Nat.zero_le _, Nat.zero_le _⟩ (Option.some.inj hf)
        · replace hf := o_pos c12 hf
          refine wr_aload_n 56 C dX6_sure_56 1 rfl rfl ?_
          refine gespM_0_43_X6 57 C dX6_sure_57 ?_
          refine wr_iconst 60 C dX6_sure_60 (v := 0) rfl ?_
          obtain ⟨g14, hf⟩ := o_g hf
          refine wr_iald 61 C dX6_sure_61 spM_20 g14 ?_
          refine wr_goto 62 C dX6_sure_62 (tgt := 71) (by decide) ?_
          exact wr_iret 71 C dX6_sure_71 ⟨Nat.zero_le _, Nat.zero_le _⟩ (Option.some.inj hf)
      · replace hf := o_pos c11 hf
        refine wr_iconst 48 C dX6_sure_48 (v := 0) rfl ?_
        refine wr_goto 49 C dX6_sure_49 (tgt := 71) (by decide) ?_
        exact wr_iret 71 C dX6_sure_71 ⟨Nat.zero_le _, Nat.zero_le _⟩ (Option.some.inj hf)
    · replace hf := o_neg c7 hf
      refine wr_iload_n 30 C dX6_sure_30 0 rfl rfl ?_
      exact wr_iret 31 C dX6_sure_31 ⟨Nat.zero_le _, Nat.zero_le _⟩ (Option.some.inj hf)
  refine wr_if_eq 12 23 C dX6_sure_12 (by decide) (fun c15 => ?_) (fun c15 => ?_)
  · replace hf := o_pos c15 hf
    refine wr_bipush 23 C dX6_sure_23 (v := (-2)) rfl ?_
    exact hJsure25 (-2) μ3 hf
  · replace hf := o_neg c15 hf
    refine wr_aload_n 15 C dX6_sure_15 0 rfl rfl ?_
    refine wr_iload_n 16 C dX6_sure_16 1 rfl rfl ?_
    obtain ⟨v18, μ17, h16, hf⟩ := o_bind hf
    refine wr_Vi (kc1 := 0) (ks1 := 0) 17 [] C dX6_sure_17 (tX6_whyNoStamps l N   a1 μ3 (v18, μ17) h16) okX6_whyNoStamps q1989 (b := 0) spM_0 rfl ⟨rfl, rfl, Nat.le_of_ble_eq_true rfl, Nat.le_of_ble_eq_true rfl, Nat.zero_le _, Nat.zero_le _⟩ (Nat.le_of_ble_eq_true rfl) rfl ?_
    refine wr_goto 20 C dX6_sure_20 (tgt := 25) (by decide) ?_
    exact hJsure25 v18 μ17 hf
abbrev cX6_dared : ByteArray := prog_11_method_119_code
def yX6_dared : MethodName := ⟨RX6, "dared", "(I)I"⟩
def dkwX6_dared_1 : List UInt8 := [180, 0, 70, 3, 47, 9, 148, 154, 0, 7, 2, 167, 0, 9, 42, 180, 0, 73, 3, 46, 172]
abbrev dktX6_dared_1 : List UInt8 := dkwX6_dared_1 ++ []
def dkwX6_dared_0 : List UInt8 := [42, 3, 181, 0, 88, 42, 27, 182, 1, 168, 61, 28, 153, 0, 5, 28, 172, 42, 27, 182, 1, 171, 42]
abbrev dktX6_dared_0 : List UInt8 := dkwX6_dared_0 ++ dktX6_dared_1
theorem dksX6_dared_0 : cX6_dared.data.toList.drop 0 = dktX6_dared_0 := by decide +kernel
theorem dksX6_dared_1 : cX6_dared.data.toList.drop 23 = dktX6_dared_1 := dk_seg dksX6_dared_0 23 rfl rfl
theorem dX6_dared_0 : decode cX6_dared 0 = .ok (.aload_n 0, 1) := dk_42 (dk_at dksX6_dared_0 0 rfl rfl)
theorem dX6_dared_1 : decode cX6_dared 1 = .ok (.iconst 0, 1) := dk_3 (dk_at dksX6_dared_0 1 rfl rfl)
theorem dX6_dared_2 : decode cX6_dared 2 = .ok (.putfield 88, 3) := dk_181 0 88 (dk_at dksX6_dared_0 2 rfl rfl)
theorem dX6_dared_5 : decode cX6_dared 5 = .ok (.aload_n 0, 1) := dk_42 (dk_at dksX6_dared_0 5 rfl rfl)
theorem dX6_dared_6 : decode cX6_dared 6 = .ok (.iload_n 1, 1) := dk_27 (dk_at dksX6_dared_0 6 rfl rfl)
theorem dX6_dared_7 : decode cX6_dared 7 = .ok (.invokevirtual 424, 3) := dk_182 1 168 (dk_at dksX6_dared_0 7 rfl rfl)
theorem dX6_dared_10 : decode cX6_dared 10 = .ok (.istore_n 2, 1) := dk_61 (dk_at dksX6_dared_0 10 rfl rfl)
theorem dX6_dared_11 : decode cX6_dared 11 = .ok (.iload_n 2, 1) := dk_28 (dk_at dksX6_dared_0 11 rfl rfl)
theorem dX6_dared_12 : decode cX6_dared 12 = .ok (.ifCond .eq 5, 3) := dk_153 0 5 (dk_at dksX6_dared_0 12 rfl rfl)
theorem dX6_dared_15 : decode cX6_dared 15 = .ok (.iload_n 2, 1) := dk_28 (dk_at dksX6_dared_0 15 rfl rfl)
theorem dX6_dared_16 : decode cX6_dared 16 = .ok (.ireturn, 1) := dk_172 (dk_at dksX6_dared_0 16 rfl rfl)
theorem dX6_dared_17 : decode cX6_dared 17 = .ok (.aload_n 0, 1) := dk_42 (dk_at dksX6_dared_0 17 rfl rfl)
theorem dX6_dared_18 : decode cX6_dared 18 = .ok (.iload_n 1, 1) := dk_27 (dk_at dksX6_dared_0 18 rfl rfl)
theorem dX6_dared_19 : decode cX6_dared 19 = .ok (.invokevirtual 427, 3) := dk_182 1 171 (dk_at dksX6_dared_0 19 rfl rfl)
theorem dX6_dared_22 : decode cX6_dared 22 = .ok (.aload_n 0, 1) := dk_42 (dk_at dksX6_dared_0 22 rfl rfl)
theorem dX6_dared_23 : decode cX6_dared 23 = .ok (.getfield 70, 3) := dk_180 0 70 (dk_at dksX6_dared_1 0 rfl rfl)
theorem dX6_dared_26 : decode cX6_dared 26 = .ok (.iconst 0, 1) := dk_3 (dk_at dksX6_dared_1 3 rfl rfl)
theorem dX6_dared_27 : decode cX6_dared 27 = .ok (.laload, 1) := dk_47 (dk_at dksX6_dared_1 4 rfl rfl)
theorem dX6_dared_28 : decode cX6_dared 28 = .ok (.lconst 0, 1) := dk_9 (dk_at dksX6_dared_1 5 rfl rfl)
theorem dX6_dared_29 : decode cX6_dared 29 = .ok (.lcmp, 1) := dk_148 (dk_at dksX6_dared_1 6 rfl rfl)
theorem dX6_dared_30 : decode cX6_dared 30 = .ok (.ifCond .ne 7, 3) := dk_154 0 7 (dk_at dksX6_dared_1 7 rfl rfl)
theorem dX6_dared_33 : decode cX6_dared 33 = .ok (.iconst (-1), 1) := dk_2 (dk_at dksX6_dared_1 10 rfl rfl)
theorem dX6_dared_34 : decode cX6_dared 34 = .ok (.goto 9, 3) := dk_167 0 9 (dk_at dksX6_dared_1 11 rfl rfl)
theorem dX6_dared_37 : decode cX6_dared 37 = .ok (.aload_n 0, 1) := dk_42 (dk_at dksX6_dared_1 14 rfl rfl)
theorem dX6_dared_38 : decode cX6_dared 38 = .ok (.getfield 73, 3) := dk_180 0 73 (dk_at dksX6_dared_1 15 rfl rfl)
theorem dX6_dared_41 : decode cX6_dared 41 = .ok (.iconst 0, 1) := dk_3 (dk_at dksX6_dared_1 18 rfl rfl)
theorem dX6_dared_42 : decode cX6_dared 42 = .ok (.iaload, 1) := dk_46 (dk_at dksX6_dared_1 19 rfl rfl)
theorem dX6_dared_43 : decode cX6_dared 43 = .ok (.ireturn, 1) := dk_172 (dk_at dksX6_dared_1 20 rfl rfl)

theorem okX6_dared : wOkV yX6_dared cX6_dared 3 (some .int) 1 := ⟨q2027, q2028, q145, q2029, by decide, by decide, by decide +kernel⟩
def fX6_dared (N : Nat)  (a1 : Int32) (μ : wMem) : Option (Int32 × wMem) :=
  wLet (wSI μ 0 0 (0 : Int32)) fun μ1 => wBind (fX6_whyNoStamps N  a1 μ1) fun v4 μ3 => if v4 = 0 then wBindV (fX6_laysStamps N  a1 μ3) fun μ7 => wG (ok_in (0 : Int32) 40768) (if (μ7.2 18 (Int32.toNatClampNeg (0 : Int32))) = (0 : Int64) then some ((-1), μ7) else wG (ok_in (0 : Int32) 40768) (some (μ7.1 19 (Int32.toNatClampNeg (0 : Int32)), μ7))) else some (v4, μ3)
set_option maxHeartbeats 4000000 in
set_option maxRecDepth 100000 in
theorem tX6_dared (l : Launch) {D : va_G} {E : List wCell} {q : Nat → Nat} {ca : wCA} (N : Nat)   (a1 : Int32) (μ : wMem) (r0 : (Int32 × wMem)) (hf : fX6_dared N  a1 μ = some r0) : wMi l yX6_dared cX6_dared 3 (some .int) ({ frames := 20, cells := 0, slots := 0, locals := 615 } : Room) D vwCl (spM ++ E) q ca [.ref (q 0), .int a1] μ r0 := by
  refine wMi_intro (by decide) (Nat.le_of_ble_eq_true rfl) ?_
  intro p e s m args below meth c A C
  unfold fX6_dared at hf
  refine wr_sub [(0, .ref (q 0)), (1, .int a1)] [0, 1] rfl ?_
  refine wr_aload_n 0 C dX6_dared_0 0 rfl rfl ?_
  refine wr_iconst 1 C dX6_dared_1 (v := 0) rfl ?_
  obtain ⟨μ1, eμ1, hf⟩ := o_let hf
  refine puspM_0_0_X6 2 C dX6_dared_2 eμ1 ?_
  refine wr_aload_n 5 C dX6_dared_5 0 rfl rfl ?_
  refine wr_iload_n 6 C dX6_dared_6 1 rfl rfl ?_
  obtain ⟨v4, μ3, h2, hf⟩ := o_bind hf
  refine wr_Vi (kc1 := 0) (ks1 := 0) 7 [] C dX6_dared_7 (tX6_whyNoStamps l N   a1 μ1 (v4, μ3) h2) okX6_whyNoStamps q1989 (b := 0) spM_0 rfl ⟨rfl, rfl, Nat.le_of_ble_eq_true rfl, Nat.le_of_ble_eq_true rfl, Nat.zero_le _, Nat.zero_le _⟩ (Nat.le_of_ble_eq_true rfl) rfl ?_
  refine wr_istore_n 10 [(2, .int v4), (0, .ref (q 0)), (1, .int a1)] C dX6_dared_10 rfl rfl (Nat.le_of_ble_eq_true rfl) rfl ?_
  refine wr_iload_n 11 C dX6_dared_11 0 rfl rfl ?_
  refine wr_if_eq 12 17 C dX6_dared_12 (by decide) (fun c5 => ?_) (fun c5 => ?_)
  · replace hf := o_pos c5 hf
    refine wr_aload_n 17 C dX6_dared_17 1 rfl rfl ?_
    refine wr_iload_n 18 C dX6_dared_18 2 rfl rfl ?_
    obtain ⟨μ7, h6, hf⟩ := o_bindV hf
    refine wr_Vv (kc1 := 0) (ks1 := 0) 19 [] C dX6_dared_19 (tX6_laysStamps l N   a1 μ3 μ7 h6) okX6_laysStamps q1994 (b := 0) spM_0 rfl ⟨rfl, rfl, Nat.le_of_ble_eq_true rfl, Nat.le_of_ble_eq_true rfl, Nat.zero_le _, Nat.zero_le _⟩ (Nat.le_of_ble_eq_true rfl) rfl ?_
    refine wr_aload_n 22 C dX6_dared_22 1 rfl rfl ?_
    refine gespM_0_41_X6 23 C dX6_dared_23 ?_
    refine wr_iconst 26 C dX6_dared_26 (v := 0) rfl ?_
    obtain ⟨g8, hf⟩ := o_g hf
    refine wr_lald 27 C dX6_dared_27 spM_18 g8 ?_
    refine wr_lconst 28 C dX6_dared_28 (v := 0) rfl ?_
    refine wr_lcmp_ne 29 37 C dX6_dared_29 dX6_dared_30 (by decide) (fun c9 => ?_) (fun c9 => ?_)
    · replace hf := o_neg c9 hf
      refine wr_aload_n 37 C dX6_dared_37 1 rfl rfl ?_
      refine gespM_0_42_X6 38 C dX6_dared_38 ?_
      refine wr_iconst 41 C dX6_dared_41 (v := 0) rfl ?_
      obtain ⟨g10, hf⟩ := o_g hf
      refine wr_iald 42 C dX6_dared_42 spM_19 g10 ?_
      exact wr_iret 43 C dX6_dared_43 ⟨Nat.zero_le _, Nat.zero_le _⟩ (Option.some.inj hf)
    · replace hf := o_pos c9 hf
      refine wr_iconst 33 C dX6_dared_33 (v := (-1)) rfl ?_
      refine wr_goto 34 C dX6_dared_34 (tgt := 43) (by decide) ?_
      exact wr_iret 43 C dX6_dared_43 ⟨Nat.zero_le _, Nat.zero_le _⟩ (Option.some.inj hf)
  · replace hf := o_neg c5 hf
    refine wr_iload_n 15 C dX6_dared_15 0 rfl rfl ?_
    exact wr_iret 16 C dX6_dared_16 ⟨Nat.zero_le _, Nat.zero_le _⟩ (Option.some.inj hf)
abbrev cX6_alone : ByteArray := prog_11_method_120_code
def yX6_alone : MethodName := ⟨RX6, "alone", "(II)I"⟩
def dkwX6_alone_2 : List UInt8 := [46, 158, 0, 7, 2, 167, 0, 6, 28, 4, 100, 172]
abbrev dktX6_alone_2 : List UInt8 := dkwX6_alone_2 ++ []
def dkwX6_alone_1 : List UInt8 := [154, 0, 6, 16, 254, 172, 28, 5, 162, 0, 7, 3, 167, 0, 23, 42, 180, 0, 43, 6, 27, 104, 5, 96]
abbrev dktX6_alone_1 : List UInt8 := dkwX6_alone_1 ++ dktX6_alone_2
def dkwX6_alone_0 : List UInt8 := [42, 3, 181, 0, 88, 42, 27, 182, 1, 64, 153, 0, 15, 28, 133, 9, 20, 1, 181, 184, 0, 93]
abbrev dktX6_alone_0 : List UInt8 := dkwX6_alone_0 ++ dktX6_alone_1
theorem dksX6_alone_0 : cX6_alone.data.toList.drop 0 = dktX6_alone_0 := by decide +kernel
theorem dksX6_alone_1 : cX6_alone.data.toList.drop 22 = dktX6_alone_1 := dk_seg dksX6_alone_0 22 rfl rfl
theorem dksX6_alone_2 : cX6_alone.data.toList.drop 46 = dktX6_alone_2 := dk_seg dksX6_alone_1 24 rfl rfl
theorem dX6_alone_0 : decode cX6_alone 0 = .ok (.aload_n 0, 1) := dk_42 (dk_at dksX6_alone_0 0 rfl rfl)
theorem dX6_alone_1 : decode cX6_alone 1 = .ok (.iconst 0, 1) := dk_3 (dk_at dksX6_alone_0 1 rfl rfl)
theorem dX6_alone_2 : decode cX6_alone 2 = .ok (.putfield 88, 3) := dk_181 0 88 (dk_at dksX6_alone_0 2 rfl rfl)
theorem dX6_alone_5 : decode cX6_alone 5 = .ok (.aload_n 0, 1) := dk_42 (dk_at dksX6_alone_0 5 rfl rfl)
theorem dX6_alone_6 : decode cX6_alone 6 = .ok (.iload_n 1, 1) := dk_27 (dk_at dksX6_alone_0 6 rfl rfl)
theorem dX6_alone_7 : decode cX6_alone 7 = .ok (.invokevirtual 320, 3) := dk_182 1 64 (dk_at dksX6_alone_0 7 rfl rfl)
theorem dX6_alone_10 : decode cX6_alone 10 = .ok (.ifCond .eq 15, 3) := dk_153 0 15 (dk_at dksX6_alone_0 10 rfl rfl)
theorem dX6_alone_13 : decode cX6_alone 13 = .ok (.iload_n 2, 1) := dk_28 (dk_at dksX6_alone_0 13 rfl rfl)
theorem dX6_alone_14 : decode cX6_alone 14 = .ok (.i2l, 1) := dk_133 (dk_at dksX6_alone_0 14 rfl rfl)
theorem dX6_alone_15 : decode cX6_alone 15 = .ok (.lconst 0, 1) := dk_9 (dk_at dksX6_alone_0 15 rfl rfl)
theorem dX6_alone_16 : decode cX6_alone 16 = .ok (.ldc2_w 437, 3) := dk_20 1 181 (dk_at dksX6_alone_0 16 rfl rfl)
theorem dX6_alone_19 : decode cX6_alone 19 = .ok (.invokestatic 93, 3) := dk_184 0 93 (dk_at dksX6_alone_0 19 rfl rfl)
theorem dX6_alone_22 : decode cX6_alone 22 = .ok (.ifCond .ne 6, 3) := dk_154 0 6 (dk_at dksX6_alone_1 0 rfl rfl)
theorem dX6_alone_25 : decode cX6_alone 25 = .ok (.bipush (-2), 2) := dk_16 254 (dk_at dksX6_alone_1 3 rfl rfl)
theorem dX6_alone_27 : decode cX6_alone 27 = .ok (.ireturn, 1) := dk_172 (dk_at dksX6_alone_1 5 rfl rfl)
theorem dX6_alone_28 : decode cX6_alone 28 = .ok (.iload_n 2, 1) := dk_28 (dk_at dksX6_alone_1 6 rfl rfl)
theorem dX6_alone_29 : decode cX6_alone 29 = .ok (.iconst 2, 1) := dk_5 (dk_at dksX6_alone_1 7 rfl rfl)
theorem dX6_alone_30 : decode cX6_alone 30 = .ok (.if_icmp .ge 7, 3) := dk_162 0 7 (dk_at dksX6_alone_1 8 rfl rfl)
theorem dX6_alone_33 : decode cX6_alone 33 = .ok (.iconst 0, 1) := dk_3 (dk_at dksX6_alone_1 11 rfl rfl)
theorem dX6_alone_34 : decode cX6_alone 34 = .ok (.goto 23, 3) := dk_167 0 23 (dk_at dksX6_alone_1 12 rfl rfl)
theorem dX6_alone_37 : decode cX6_alone 37 = .ok (.aload_n 0, 1) := dk_42 (dk_at dksX6_alone_1 15 rfl rfl)
theorem dX6_alone_38 : decode cX6_alone 38 = .ok (.getfield 43, 3) := dk_180 0 43 (dk_at dksX6_alone_1 16 rfl rfl)
theorem dX6_alone_41 : decode cX6_alone 41 = .ok (.iconst 3, 1) := dk_6 (dk_at dksX6_alone_1 19 rfl rfl)
theorem dX6_alone_42 : decode cX6_alone 42 = .ok (.iload_n 1, 1) := dk_27 (dk_at dksX6_alone_1 20 rfl rfl)
theorem dX6_alone_43 : decode cX6_alone 43 = .ok (.imul, 1) := dk_104 (dk_at dksX6_alone_1 21 rfl rfl)
theorem dX6_alone_44 : decode cX6_alone 44 = .ok (.iconst 2, 1) := dk_5 (dk_at dksX6_alone_1 22 rfl rfl)
theorem dX6_alone_45 : decode cX6_alone 45 = .ok (.iadd, 1) := dk_96 (dk_at dksX6_alone_1 23 rfl rfl)
theorem dX6_alone_46 : decode cX6_alone 46 = .ok (.iaload, 1) := dk_46 (dk_at dksX6_alone_2 0 rfl rfl)
theorem dX6_alone_47 : decode cX6_alone 47 = .ok (.ifCond .le 7, 3) := dk_158 0 7 (dk_at dksX6_alone_2 1 rfl rfl)
theorem dX6_alone_50 : decode cX6_alone 50 = .ok (.iconst (-1), 1) := dk_2 (dk_at dksX6_alone_2 4 rfl rfl)
theorem dX6_alone_51 : decode cX6_alone 51 = .ok (.goto 6, 3) := dk_167 0 6 (dk_at dksX6_alone_2 5 rfl rfl)
theorem dX6_alone_54 : decode cX6_alone 54 = .ok (.iload_n 2, 1) := dk_28 (dk_at dksX6_alone_2 8 rfl rfl)
theorem dX6_alone_55 : decode cX6_alone 55 = .ok (.iconst 1, 1) := dk_4 (dk_at dksX6_alone_2 9 rfl rfl)
theorem dX6_alone_56 : decode cX6_alone 56 = .ok (.isub, 1) := dk_100 (dk_at dksX6_alone_2 10 rfl rfl)
theorem dX6_alone_57 : decode cX6_alone 57 = .ok (.ireturn, 1) := dk_172 (dk_at dksX6_alone_2 11 rfl rfl)

theorem okX6_alone : wOkV yX6_alone cX6_alone 3 (some .int) 2 := ⟨q2031, q2032, q145, q2033, by decide, by decide, by decide +kernel⟩
def fX6_alone (N : Nat)  (a1 : Int32) (a2 : Int32) (μ : wMem) : Option (Int32 × wMem) :=
  wLet (wSI μ 0 0 (0 : Int32)) fun μ1 => wBind (fX6_isPost N  a1 μ1) fun v4 μ3 => wLet (fun  (μ5 : wMem) => some ((-2), μ5)) fun Jalone25 => if v4 = 0 then Jalone25  μ3 else wBind (fX6_in N  (Int32.toInt64 a2) 0 12 μ3) fun v9 μ8 => if v9 = 0 then Jalone25  μ8 else if (2 : Int32) ≤ a2 then wG (ok_in (((3 : Int32) * a1) + (2 : Int32)) 30) (if (μ8.1 10 (Int32.toNatClampNeg (((3 : Int32) * a1) + (2 : Int32)))) ≤ 0 then some (a2 - (1 : Int32), μ8) else some ((-1), μ8)) else some (0, μ8)
set_option maxHeartbeats 4000000 in
set_option maxRecDepth 100000 in
theorem tX6_alone (l : Launch) {D : va_G} {E : List wCell} {q : Nat → Nat} {ca : wCA} (N : Nat)   (a1 : Int32) (a2 : Int32) (μ : wMem) (r0 : (Int32 × wMem)) (hf : fX6_alone N  a1 a2 μ = some r0) : wMi l yX6_alone cX6_alone 3 (some .int) ({ frames := 2, cells := 0, slots := 0, locals := 46 } : Room) D vwCl (spM ++ E) q ca [.ref (q 0), .int a1, .int a2] μ r0 := by
  refine wMi_intro (by decide) (Nat.le_of_ble_eq_true rfl) ?_
  intro p e s m args below meth c A C
  unfold fX6_alone at hf
  refine wr_sub [(0, .ref (q 0)), (1, .int a1), (2, .int a2)] [0, 1, 2] rfl ?_
  refine wr_aload_n 0 C dX6_alone_0 0 rfl rfl ?_
  refine wr_iconst 1 C dX6_alone_1 (v := 0) rfl ?_
  obtain ⟨μ1, eμ1, hf⟩ := o_let hf
  refine puspM_0_0_X6 2 C dX6_alone_2 eμ1 ?_
  refine wr_aload_n 5 C dX6_alone_5 0 rfl rfl ?_
  refine wr_iload_n 6 C dX6_alone_6 1 rfl rfl ?_
  obtain ⟨v4, μ3, h2, hf⟩ := o_bind hf
  refine wr_Vi (kc1 := 0) (ks1 := 0) 7 [] C dX6_alone_7 (tX6_isPost l N   a1 μ1 (v4, μ3) h2) okX6_isPost q1730 (b := 0) spM_0 rfl ⟨rfl, rfl, Nat.le_of_ble_eq_true rfl, Nat.le_of_ble_eq_true rfl, Nat.zero_le _, Nat.zero_le _⟩ (Nat.le_of_ble_eq_true rfl) rfl ?_
  obtain ⟨Jalone25, eJalone25, hf⟩ := o_let hf
  have hJalone25 : ∀  (μ5 : wMem), Jalone25  μ5 = some r0 → wJ p l e ({ frames := 2, cells := 0, slots := 0, locals := 46 } : Room) s m args below meth c 3 D vwCl (spM ++ E) q ca A (wQi ({ frames := 2, cells := 0, slots := 0, locals := 46 } : Room) D vwCl (spM ++ E) q ca below args s A r0) 0 0 μ5 25 [] [] := by
    intro  μ5 hf
    rw [eJalone25] at hf
    refine wr_bipush 25 C dX6_alone_25 (v := (-2)) rfl ?_
    exact wr_iret 27 C dX6_alone_27 ⟨Nat.zero_le _, Nat.zero_le _⟩ (Option.some.inj hf)
  refine wr_if_eq 10 25 C dX6_alone_10 (by decide) (fun c6 => ?_) (fun c6 => ?_)
  · replace hf := o_pos c6 hf
    refine wr_sub [] [] rfl ?_
    exact hJalone25  μ3 hf
  · replace hf := o_neg c6 hf
    refine wr_iload_n 13 C dX6_alone_13 2 rfl rfl ?_
    refine wr_i2l 14 C dX6_alone_14 ?_
    refine wr_lconst 15 C dX6_alone_15 (v := 0) rfl ?_
    refine wr_ldc2 16 C dX6_alone_16 q2034 ?_
    obtain ⟨v9, μ8, h7, hf⟩ := o_bind hf
    refine wr_Si (kc1 := 0) (ks1 := 0) 19 [] C dX6_alone_19 (tX6_in l N   (Int32.toInt64 a2) 0 12 μ3 (v9, μ8) h7) okX6_in q1552 ⟨rfl, rfl, Nat.le_of_ble_eq_true rfl, Nat.le_of_ble_eq_true rfl, Nat.zero_le _, Nat.zero_le _⟩ (Nat.le_of_ble_eq_true rfl) rfl ?_
    refine wr_if_ne 22 28 C dX6_alone_22 (by decide) (fun c10 => ?_) (fun c10 => ?_)
    · replace hf := o_neg c10 hf
      refine wr_iload_n 28 C dX6_alone_28 2 rfl rfl ?_
      refine wr_iconst 29 C dX6_alone_29 (v := 2) rfl ?_
      refine wr_icmp_ge 30 37 C dX6_alone_30 (by decide) (fun c11 => ?_) (fun c11 => ?_)
      · replace hf := o_pos c11 hf
        refine wr_aload_n 37 C dX6_alone_37 0 rfl rfl ?_
        refine gespM_0_20_X6 38 C dX6_alone_38 ?_
        refine wr_iconst 41 C dX6_alone_41 (v := 3) rfl ?_
        refine wr_iload_n 42 C dX6_alone_42 1 rfl rfl ?_
        refine wr_imul 43 C dX6_alone_43 ?_
        refine wr_iconst 44 C dX6_alone_44 (v := 2) rfl ?_
        refine wr_iadd 45 C dX6_alone_45 ?_
        obtain ⟨g12, hf⟩ := o_g hf
        refine wr_iald 46 C dX6_alone_46 spM_10 g12 ?_
        refine wr_if_le 47 54 C dX6_alone_47 (by decide) (fun c13 => ?_) (fun c13 => ?_)
        · replace hf := o_pos c13 hf
          refine wr_iload_n 54 C dX6_alone_54 2 rfl rfl ?_
          refine wr_iconst 55 C dX6_alone_55 (v := 1) rfl ?_
          refine wr_isub 56 C dX6_alone_56 ?_
          exact wr_iret 57 C dX6_alone_57 ⟨Nat.zero_le _, Nat.zero_le _⟩ (Option.some.inj hf)
        · replace hf := o_neg c13 hf
          refine wr_iconst 50 C dX6_alone_50 (v := (-1)) rfl ?_
          refine wr_goto 51 C dX6_alone_51 (tgt := 57) (by decide) ?_
          exact wr_iret 57 C dX6_alone_57 ⟨Nat.zero_le _, Nat.zero_le _⟩ (Option.some.inj hf)
      · replace hf := o_neg c11 hf
        refine wr_iconst 33 C dX6_alone_33 (v := 0) rfl ?_
        refine wr_goto 34 C dX6_alone_34 (tgt := 57) (by decide) ?_
        exact wr_iret 57 C dX6_alone_57 ⟨Nat.zero_le _, Nat.zero_le _⟩ (Option.some.inj hf)
    · replace hf := o_pos c10 hf
      refine wr_sub [] [] rfl ?_
      exact hJalone25  μ8 hf
abbrev cX6_surestBy : ByteArray := prog_11_method_121_code
def yX6_surestBy : MethodName := ⟨RX6, "surestBy", "(II)I"⟩
def dkwX6_surestBy_2 : List UInt8 := [21, 4, 19, 1, 101, 160, 0, 7, 2, 167, 0, 9, 21, 4, 17, 39, 16, 108, 172]
abbrev dktX6_surestBy_2 : List UInt8 := dkwX6_surestBy_2 ++ []
def dkwX6_surestBy_1 : List UInt8 := [167, 0, 6, 29, 28, 96, 79, 42, 3, 3, 4, 182, 1, 120, 54, 4, 42, 180, 0, 37, 27, 29, 79]
abbrev dktX6_surestBy_1 : List UInt8 := dkwX6_surestBy_1 ++ dktX6_surestBy_2
def dkwX6_surestBy_0 : List UInt8 := [42, 180, 0, 37, 27, 46, 62, 42, 180, 0, 37, 27, 29, 28, 96, 16, 100, 164, 0, 8, 16, 100]
abbrev dktX6_surestBy_0 : List UInt8 := dkwX6_surestBy_0 ++ dktX6_surestBy_1
theorem dksX6_surestBy_0 : cX6_surestBy.data.toList.drop 0 = dktX6_surestBy_0 := by decide +kernel
theorem dksX6_surestBy_1 : cX6_surestBy.data.toList.drop 22 = dktX6_surestBy_1 := dk_seg dksX6_surestBy_0 22 rfl rfl
theorem dksX6_surestBy_2 : cX6_surestBy.data.toList.drop 45 = dktX6_surestBy_2 := dk_seg dksX6_surestBy_1 23 rfl rfl
theorem dX6_surestBy_0 : decode cX6_surestBy 0 = .ok (.aload_n 0, 1) := dk_42 (dk_at dksX6_surestBy_0 0 rfl rfl)
theorem dX6_surestBy_1 : decode cX6_surestBy 1 = .ok (.getfield 37, 3) := dk_180 0 37 (dk_at dksX6_surestBy_0 1 rfl rfl)
theorem dX6_surestBy_4 : decode cX6_surestBy 4 = .ok (.iload_n 1, 1) := dk_27 (dk_at dksX6_surestBy_0 4 rfl rfl)
theorem dX6_surestBy_5 : decode cX6_surestBy 5 = .ok (.iaload, 1) := dk_46 (dk_at dksX6_surestBy_0 5 rfl rfl)
theorem dX6_surestBy_6 : decode cX6_surestBy 6 = .ok (.istore_n 3, 1) := dk_62 (dk_at dksX6_surestBy_0 6 rfl rfl)
theorem dX6_surestBy_7 : decode cX6_surestBy 7 = .ok (.aload_n 0, 1) := dk_42 (dk_at dksX6_surestBy_0 7 rfl rfl)
theorem dX6_surestBy_8 : decode cX6_surestBy 8 = .ok (.getfield 37, 3) := dk_180 0 37 (dk_at dksX6_surestBy_0 8 rfl rfl)
theorem dX6_surestBy_11 : decode cX6_surestBy 11 = .ok (.iload_n 1, 1) := dk_27 (dk_at dksX6_surestBy_0 11 rfl rfl)
theorem dX6_surestBy_12 : decode cX6_surestBy 12 = .ok (.iload_n 3, 1) := dk_29 (dk_at dksX6_surestBy_0 12 rfl rfl)
theorem dX6_surestBy_13 : decode cX6_surestBy 13 = .ok (.iload_n 2, 1) := dk_28 (dk_at dksX6_surestBy_0 13 rfl rfl)
theorem dX6_surestBy_14 : decode cX6_surestBy 14 = .ok (.iadd, 1) := dk_96 (dk_at dksX6_surestBy_0 14 rfl rfl)
theorem dX6_surestBy_15 : decode cX6_surestBy 15 = .ok (.bipush 100, 2) := dk_16 100 (dk_at dksX6_surestBy_0 15 rfl rfl)
theorem dX6_surestBy_17 : decode cX6_surestBy 17 = .ok (.if_icmp .le 8, 3) := dk_164 0 8 (dk_at dksX6_surestBy_0 17 rfl rfl)
theorem dX6_surestBy_20 : decode cX6_surestBy 20 = .ok (.bipush 100, 2) := dk_16 100 (dk_at dksX6_surestBy_0 20 rfl rfl)
theorem dX6_surestBy_22 : decode cX6_surestBy 22 = .ok (.goto 6, 3) := dk_167 0 6 (dk_at dksX6_surestBy_1 0 rfl rfl)
theorem dX6_surestBy_25 : decode cX6_surestBy 25 = .ok (.iload_n 3, 1) := dk_29 (dk_at dksX6_surestBy_1 3 rfl rfl)
theorem dX6_surestBy_26 : decode cX6_surestBy 26 = .ok (.iload_n 2, 1) := dk_28 (dk_at dksX6_surestBy_1 4 rfl rfl)
theorem dX6_surestBy_27 : decode cX6_surestBy 27 = .ok (.iadd, 1) := dk_96 (dk_at dksX6_surestBy_1 5 rfl rfl)
theorem dX6_surestBy_28 : decode cX6_surestBy 28 = .ok (.iastore, 1) := dk_79 (dk_at dksX6_surestBy_1 6 rfl rfl)
theorem dX6_surestBy_29 : decode cX6_surestBy 29 = .ok (.aload_n 0, 1) := dk_42 (dk_at dksX6_surestBy_1 7 rfl rfl)
theorem dX6_surestBy_30 : decode cX6_surestBy 30 = .ok (.iconst 0, 1) := dk_3 (dk_at dksX6_surestBy_1 8 rfl rfl)
theorem dX6_surestBy_31 : decode cX6_surestBy 31 = .ok (.iconst 0, 1) := dk_3 (dk_at dksX6_surestBy_1 9 rfl rfl)
theorem dX6_surestBy_32 : decode cX6_surestBy 32 = .ok (.iconst 1, 1) := dk_4 (dk_at dksX6_surestBy_1 10 rfl rfl)
theorem dX6_surestBy_33 : decode cX6_surestBy 33 = .ok (.invokevirtual 376, 3) := dk_182 1 120 (dk_at dksX6_surestBy_1 11 rfl rfl)
theorem dX6_surestBy_36 : decode cX6_surestBy 36 = .ok (.istore 4, 2) := dk_54 4 (dk_at dksX6_surestBy_1 14 rfl rfl)
theorem dX6_surestBy_38 : decode cX6_surestBy 38 = .ok (.aload_n 0, 1) := dk_42 (dk_at dksX6_surestBy_1 16 rfl rfl)
theorem dX6_surestBy_39 : decode cX6_surestBy 39 = .ok (.getfield 37, 3) := dk_180 0 37 (dk_at dksX6_surestBy_1 17 rfl rfl)
theorem dX6_surestBy_42 : decode cX6_surestBy 42 = .ok (.iload_n 1, 1) := dk_27 (dk_at dksX6_surestBy_1 20 rfl rfl)
theorem dX6_surestBy_43 : decode cX6_surestBy 43 = .ok (.iload_n 3, 1) := dk_29 (dk_at dksX6_surestBy_1 21 rfl rfl)
theorem dX6_surestBy_44 : decode cX6_surestBy 44 = .ok (.iastore, 1) := dk_79 (dk_at dksX6_surestBy_1 22 rfl rfl)
theorem dX6_surestBy_45 : decode cX6_surestBy 45 = .ok (.iload 4, 2) := dk_21 4 (dk_at dksX6_surestBy_2 0 rfl rfl)
theorem dX6_surestBy_47 : decode cX6_surestBy 47 = .ok (.ldc_w 357, 3) := dk_19 1 101 (dk_at dksX6_surestBy_2 2 rfl rfl)
theorem dX6_surestBy_50 : decode cX6_surestBy 50 = .ok (.if_icmp .ne 7, 3) := dk_160 0 7 (dk_at dksX6_surestBy_2 5 rfl rfl)
theorem dX6_surestBy_53 : decode cX6_surestBy 53 = .ok (.iconst (-1), 1) := dk_2 (dk_at dksX6_surestBy_2 8 rfl rfl)
theorem dX6_surestBy_54 : decode cX6_surestBy 54 = .ok (.goto 9, 3) := dk_167 0 9 (dk_at dksX6_surestBy_2 9 rfl rfl)
theorem dX6_surestBy_57 : decode cX6_surestBy 57 = .ok (.iload 4, 2) := dk_21 4 (dk_at dksX6_surestBy_2 12 rfl rfl)
theorem dX6_surestBy_59 : decode cX6_surestBy 59 = .ok (.sipush 10000, 3) := dk_17 39 16 (dk_at dksX6_surestBy_2 14 rfl rfl)
theorem dX6_surestBy_62 : decode cX6_surestBy 62 = .ok (.idiv, 1) := dk_108 (dk_at dksX6_surestBy_2 17 rfl rfl)
theorem dX6_surestBy_63 : decode cX6_surestBy 63 = .ok (.ireturn, 1) := dk_172 (dk_at dksX6_surestBy_2 18 rfl rfl)

theorem okX6_surestBy : wOkV yX6_surestBy cX6_surestBy 5 (some .int) 2 := ⟨q2041, qs132, q145, q2042, by decide, by decide, by decide +kernel⟩
def fX6_surestBy (N : Nat)  (a1 : Int32) (a2 : Int32) (μ : wMem) : Option (Int32 × wMem) :=
  wG (ok_in a1 30) (wLet (μ.1 8 (Int32.toNatClampNeg a1) : Int32) fun x2 => wLet (fun (v4 : Int32) (v5 : Int32) (μ3 : wMem) => wG (ok_in v5 30) (wLet (wSI μ3 8 (Int32.toNatClampNeg v5) v4) fun μ7 => wBind (fX6_seeksNow N  0 0 1 μ7) fun v10 μ9 => wG (ok_in a1 30) (wLet (wSI μ9 8 (Int32.toNatClampNeg a1) x2) fun μ12 => if v10 = (2000000000 : Int32) then some ((-1), μ12) else some (v10 / (10000 : Int32), μ12)))) fun JsurestBy28 => if (x2 + a2) ≤ (100 : Int32) then JsurestBy28 (x2 + a2) a1 μ else JsurestBy28 100 a1 μ)
set_option maxHeartbeats 4000000 in
set_option maxRecDepth 100000 in
theorem tX6_surestBy (l : Launch) {D : va_G} {E : List wCell} {q : Nat → Nat} {ca : wCA} (N : Nat)   (a1 : Int32) (a2 : Int32) (μ : wMem) (r0 : (Int32 × wMem)) (hf : fX6_surestBy N  a1 a2 μ = some r0) : wMi l yX6_surestBy cX6_surestBy 5 (some .int) ({ frames := 8, cells := 0, slots := 0, locals := 189 } : Room) D vwCl (spM ++ E) q ca [.ref (q 0), .int a1, .int a2] μ r0 := by
  refine wMi_intro (by decide) (Nat.le_of_ble_eq_true rfl) ?_
  intro p e s m args below meth c A C
  unfold fX6_surestBy at hf
  refine wr_sub [(0, .ref (q 0)), (1, .int a1), (2, .int a2)] [0, 1, 2] rfl ?_
  refine wr_aload_n 0 C dX6_surestBy_0 0 rfl rfl ?_
  refine gespM_0_18_X6 1 C dX6_surestBy_1 ?_
  refine wr_iload_n 4 C dX6_surestBy_4 1 rfl rfl ?_
  obtain ⟨g1, hf⟩ := o_g hf
  refine wr_iald 5 C dX6_surestBy_5 spM_8 g1 ?_
  obtain ⟨x2, ex2, hf⟩ := o_let hf
  refine wr_istore_n 6 [(3, .int x2), (0, .ref (q 0)), (1, .int a1), (2, .int a2)] C dX6_surestBy_6 ex2 rfl (Nat.le_of_ble_eq_true rfl) rfl ?_
  refine wr_aload_n 7 C dX6_surestBy_7 1 rfl rfl ?_
  refine gespM_0_18_X6 8 C dX6_surestBy_8 ?_
  refine wr_iload_n 11 C dX6_surestBy_11 2 rfl rfl ?_
  refine wr_iload_n 12 C dX6_surestBy_12 0 rfl rfl ?_
  refine wr_iload_n 13 C dX6_surestBy_13 3 rfl rfl ?_
  refine wr_iadd 14 C dX6_surestBy_14 ?_
  refine wr_bipush 15 C dX6_surestBy_15 (v := 100) rfl ?_
  obtain ⟨JsurestBy28, eJsurestBy28, hf⟩ := o_let hf
  have hJsurestBy28 : ∀ (v4 : Int32) (v5 : Int32) (μ3 : wMem), JsurestBy28 v4 v5 μ3 = some r0 → wJ p l e ({ frames := 8, cells := 0, slots := 0, locals := 189 } : Room) s m args below meth c 5 D vwCl (spM ++ E) q ca A (wQi ({ frames := 8, cells := 0, slots := 0, locals := 189 } : Room) D vwCl (spM ++ E) q ca below args s A r0) 0 0 μ3 28 [(0, .ref (q 0)), (1, .int a1), (3, .int x2)] [.int v4, .int v5, .ref (q 8)] := by
    intro v4 v5 μ3 hf
    rw [eJsurestBy28] at hf
    obtain ⟨g6, hf⟩ := o_g hf
    obtain ⟨μ7, eμ7, hf⟩ := o_let hf
    refine wr_iast 28 C dX6_surestBy_28 spM_8 g6 eμ7 ?_
    refine wr_aload_n 29 C dX6_surestBy_29 0 rfl rfl ?_
    refine wr_iconst 30 C dX6_surestBy_30 (v := 0) rfl ?_
    refine wr_iconst 31 C dX6_surestBy_31 (v := 0) rfl ?_
    refine wr_iconst 32 C dX6_surestBy_32 (v := 1) rfl ?_
    obtain ⟨v10, μ9, h8, hf⟩ := o_bind hf
    refine wr_Vi (kc1 := 0) (ks1 := 0) 33 [] C dX6_surestBy_33 (tX6_seeksNow l N   0 0 1 μ7 (v10, μ9) h8) okX6_seeksNow q1837 (b := 0) spM_0 rfl ⟨rfl, rfl, Nat.le_of_ble_eq_true rfl, Nat.le_of_ble_eq_true rfl, Nat.zero_le _, Nat.zero_le _⟩ (Nat.le_of_ble_eq_true rfl) rfl ?_
    refine wr_istore 36 [(4, .int v10), (0, .ref (q 0)), (1, .int a1), (3, .int x2)] C dX6_surestBy_36 rfl (Nat.le_of_ble_eq_true rfl) rfl ?_
    refine wr_aload_n 38 C dX6_surestBy_38 1 rfl rfl ?_
    refine gespM_0_18_X6 39 C dX6_surestBy_39 ?_
    refine wr_iload_n 42 C dX6_surestBy_42 2 rfl rfl ?_
    refine wr_iload_n 43 C dX6_surestBy_43 3 rfl rfl ?_
    obtain ⟨g11, hf⟩ := o_g hf
    obtain ⟨μ12, eμ12, hf⟩ := o_let hf
    refine wr_iast 44 C dX6_surestBy_44 spM_8 g11 eμ12 ?_
    refine wr_iload 45 C dX6_surestBy_45 0 rfl ?_
    refine wr_ldcw 47 C dX6_surestBy_47 q1857 ?_
    refine wr_icmp_ne 50 57 C dX6_surestBy_50 (by decide) (fun c13 => ?_) (fun c13 => ?_)
    · replace hf := o_neg c13 hf
      refine wr_iload 57 C dX6_surestBy_57 0 rfl ?_
      refine wr_sipush 59 C dX6_surestBy_59 (v := 10000) rfl ?_
      refine wr_idiv 62 C dX6_surestBy_62 (by decide) ?_
      exact wr_iret 63 C dX6_surestBy_63 ⟨Nat.zero_le _, Nat.zero_le _⟩ (Option.some.inj hf)
    · replace hf := o_pos c13 hf
      refine wr_iconst 53 C dX6_surestBy_53 (v := (-1)) rfl ?_
      refine wr_goto 54 C dX6_surestBy_54 (tgt := 63) (by decide) ?_
      exact wr_iret 63 C dX6_surestBy_63 ⟨Nat.zero_le _, Nat.zero_le _⟩ (Option.some.inj hf)
  refine wr_icmp_le 17 25 C dX6_surestBy_17 (by decide) (fun c14 => ?_) (fun c14 => ?_)
  · replace hf := o_pos c14 hf
    refine wr_iload_n 25 C dX6_surestBy_25 0 rfl rfl ?_
    refine wr_iload_n 26 C dX6_surestBy_26 3 rfl rfl ?_
    refine wr_iadd 27 C dX6_surestBy_27 ?_
    refine wr_sub [(0, .ref (q 0)), (1, .int a1), (3, .int x2)] [1, 2, 0] rfl ?_
    exact hJsurestBy28 (x2 + a2) a1 μ hf
  · replace hf := o_neg c14 hf
    refine wr_bipush 20 C dX6_surestBy_20 (v := 100) rfl ?_
    refine wr_goto 22 C dX6_surestBy_22 (tgt := 28) (by decide) ?_
    refine wr_sub [(0, .ref (q 0)), (1, .int a1), (3, .int x2)] [1, 2, 0] rfl ?_
    exact hJsurestBy28 100 a1 μ hf
abbrev cX6_worth : ByteArray := prog_11_method_122_code
def yX6_worth : MethodName := ⟨RX6, "worth", "(II)I"⟩
def dkwX6_worth_2 : List UInt8 := [27, 28, 182, 1, 183, 100, 172]
abbrev dktX6_worth_2 : List UInt8 := dkwX6_worth_2 ++ []
def dkwX6_worth_1 : List UInt8 := [154, 0, 6, 16, 254, 172, 42, 27, 3, 182, 1, 183, 62, 29, 2, 160, 0, 7, 2, 167, 0, 11, 29, 42]
abbrev dktX6_worth_1 : List UInt8 := dkwX6_worth_1 ++ dktX6_worth_2
def dkwX6_worth_0 : List UInt8 := [42, 3, 181, 0, 88, 42, 27, 182, 1, 56, 153, 0, 15, 28, 133, 9, 20, 1, 14, 184, 0, 93]
abbrev dktX6_worth_0 : List UInt8 := dkwX6_worth_0 ++ dktX6_worth_1
theorem dksX6_worth_0 : cX6_worth.data.toList.drop 0 = dktX6_worth_0 := by decide +kernel
theorem dksX6_worth_1 : cX6_worth.data.toList.drop 22 = dktX6_worth_1 := dk_seg dksX6_worth_0 22 rfl rfl
theorem dksX6_worth_2 : cX6_worth.data.toList.drop 46 = dktX6_worth_2 := dk_seg dksX6_worth_1 24 rfl rfl
theorem dX6_worth_0 : decode cX6_worth 0 = .ok (.aload_n 0, 1) := dk_42 (dk_at dksX6_worth_0 0 rfl rfl)
theorem dX6_worth_1 : decode cX6_worth 1 = .ok (.iconst 0, 1) := dk_3 (dk_at dksX6_worth_0 1 rfl rfl)
theorem dX6_worth_2 : decode cX6_worth 2 = .ok (.putfield 88, 3) := dk_181 0 88 (dk_at dksX6_worth_0 2 rfl rfl)
theorem dX6_worth_5 : decode cX6_worth 5 = .ok (.aload_n 0, 1) := dk_42 (dk_at dksX6_worth_0 5 rfl rfl)
theorem dX6_worth_6 : decode cX6_worth 6 = .ok (.iload_n 1, 1) := dk_27 (dk_at dksX6_worth_0 6 rfl rfl)
theorem dX6_worth_7 : decode cX6_worth 7 = .ok (.invokevirtual 312, 3) := dk_182 1 56 (dk_at dksX6_worth_0 7 rfl rfl)
theorem dX6_worth_10 : decode cX6_worth 10 = .ok (.ifCond .eq 15, 3) := dk_153 0 15 (dk_at dksX6_worth_0 10 rfl rfl)
theorem dX6_worth_13 : decode cX6_worth 13 = .ok (.iload_n 2, 1) := dk_28 (dk_at dksX6_worth_0 13 rfl rfl)
theorem dX6_worth_14 : decode cX6_worth 14 = .ok (.i2l, 1) := dk_133 (dk_at dksX6_worth_0 14 rfl rfl)
theorem dX6_worth_15 : decode cX6_worth 15 = .ok (.lconst 0, 1) := dk_9 (dk_at dksX6_worth_0 15 rfl rfl)
theorem dX6_worth_16 : decode cX6_worth 16 = .ok (.ldc2_w 270, 3) := dk_20 1 14 (dk_at dksX6_worth_0 16 rfl rfl)
theorem dX6_worth_19 : decode cX6_worth 19 = .ok (.invokestatic 93, 3) := dk_184 0 93 (dk_at dksX6_worth_0 19 rfl rfl)
theorem dX6_worth_22 : decode cX6_worth 22 = .ok (.ifCond .ne 6, 3) := dk_154 0 6 (dk_at dksX6_worth_1 0 rfl rfl)
theorem dX6_worth_25 : decode cX6_worth 25 = .ok (.bipush (-2), 2) := dk_16 254 (dk_at dksX6_worth_1 3 rfl rfl)
theorem dX6_worth_27 : decode cX6_worth 27 = .ok (.ireturn, 1) := dk_172 (dk_at dksX6_worth_1 5 rfl rfl)
theorem dX6_worth_28 : decode cX6_worth 28 = .ok (.aload_n 0, 1) := dk_42 (dk_at dksX6_worth_1 6 rfl rfl)
theorem dX6_worth_29 : decode cX6_worth 29 = .ok (.iload_n 1, 1) := dk_27 (dk_at dksX6_worth_1 7 rfl rfl)
theorem dX6_worth_30 : decode cX6_worth 30 = .ok (.iconst 0, 1) := dk_3 (dk_at dksX6_worth_1 8 rfl rfl)
theorem dX6_worth_31 : decode cX6_worth 31 = .ok (.invokevirtual 439, 3) := dk_182 1 183 (dk_at dksX6_worth_1 9 rfl rfl)
theorem dX6_worth_34 : decode cX6_worth 34 = .ok (.istore_n 3, 1) := dk_62 (dk_at dksX6_worth_1 12 rfl rfl)
theorem dX6_worth_35 : decode cX6_worth 35 = .ok (.iload_n 3, 1) := dk_29 (dk_at dksX6_worth_1 13 rfl rfl)
theorem dX6_worth_36 : decode cX6_worth 36 = .ok (.iconst (-1), 1) := dk_2 (dk_at dksX6_worth_1 14 rfl rfl)
theorem dX6_worth_37 : decode cX6_worth 37 = .ok (.if_icmp .ne 7, 3) := dk_160 0 7 (dk_at dksX6_worth_1 15 rfl rfl)
theorem dX6_worth_40 : decode cX6_worth 40 = .ok (.iconst (-1), 1) := dk_2 (dk_at dksX6_worth_1 18 rfl rfl)
theorem dX6_worth_41 : decode cX6_worth 41 = .ok (.goto 11, 3) := dk_167 0 11 (dk_at dksX6_worth_1 19 rfl rfl)
theorem dX6_worth_44 : decode cX6_worth 44 = .ok (.iload_n 3, 1) := dk_29 (dk_at dksX6_worth_1 22 rfl rfl)
theorem dX6_worth_45 : decode cX6_worth 45 = .ok (.aload_n 0, 1) := dk_42 (dk_at dksX6_worth_1 23 rfl rfl)
theorem dX6_worth_46 : decode cX6_worth 46 = .ok (.iload_n 1, 1) := dk_27 (dk_at dksX6_worth_2 0 rfl rfl)
theorem dX6_worth_47 : decode cX6_worth 47 = .ok (.iload_n 2, 1) := dk_28 (dk_at dksX6_worth_2 1 rfl rfl)
theorem dX6_worth_48 : decode cX6_worth 48 = .ok (.invokevirtual 439, 3) := dk_182 1 183 (dk_at dksX6_worth_2 2 rfl rfl)
theorem dX6_worth_51 : decode cX6_worth 51 = .ok (.isub, 1) := dk_100 (dk_at dksX6_worth_2 5 rfl rfl)
theorem dX6_worth_52 : decode cX6_worth 52 = .ok (.ireturn, 1) := dk_172 (dk_at dksX6_worth_2 6 rfl rfl)

theorem okX6_worth : wOkV yX6_worth cX6_worth 4 (some .int) 2 := ⟨q2036, q2037, q145, q2038, by decide, by decide, by decide +kernel⟩
def fX6_worth (N : Nat)  (a1 : Int32) (a2 : Int32) (μ : wMem) : Option (Int32 × wMem) :=
  wLet (wSI μ 0 0 (0 : Int32)) fun μ1 => wBind (fX6_isPerson N  a1 μ1) fun v4 μ3 => wLet (fun  (μ5 : wMem) => some ((-2), μ5)) fun Jworth25 => if v4 = 0 then Jworth25  μ3 else wBind (fX6_in N  (Int32.toInt64 a2) 0 100 μ3) fun v9 μ8 => if v9 = 0 then Jworth25  μ8 else wBind (fX6_surestBy N  a1 0 μ8) fun v13 μ12 => if v13 = (-1 : Int32) then some ((-1), μ12) else wBind (fX6_surestBy N  a1 a2 μ12) fun v17 μ16 => some (v13 - v17, μ16)
set_option maxHeartbeats 4000000 in
set_option maxRecDepth 100000 in
theorem tX6_worth (l : Launch) {D : va_G} {E : List wCell} {q : Nat → Nat} {ca : wCA} (N : Nat)   (a1 : Int32) (a2 : Int32) (μ : wMem) (r0 : (Int32 × wMem)) (hf : fX6_worth N  a1 a2 μ = some r0) : wMi l yX6_worth cX6_worth 4 (some .int) ({ frames := 9, cells := 0, slots := 0, locals := 213 } : Room) D vwCl (spM ++ E) q ca [.ref (q 0), .int a1, .int a2] μ r0 := by
  refine wMi_intro (by decide) (Nat.le_of_ble_eq_true rfl) ?_
  intro p e s m args below meth c A C
  unfold fX6_worth at hf
  refine wr_sub [(0, .ref (q 0)), (1, .int a1), (2, .int a2)] [0, 1, 2] rfl ?_
  refine wr_aload_n 0 C dX6_worth_0 0 rfl rfl ?_
  refine wr_iconst 1 C dX6_worth_1 (v := 0) rfl ?_
  obtain ⟨μ1, eμ1, hf⟩ := o_let hf
  refine puspM_0_0_X6 2 C dX6_worth_2 eμ1 ?_
  refine wr_aload_n 5 C dX6_worth_5 0 rfl rfl ?_
  refine wr_iload_n 6 C dX6_worth_6 1 rfl rfl ?_
  obtain ⟨v4, μ3, h2, hf⟩ := o_bind hf
  refine wr_Vi (kc1 := 0) (ks1 := 0) 7 [] C dX6_worth_7 (tX6_isPerson l N   a1 μ1 (v4, μ3) h2) okX6_isPerson q1685 (b := 0) spM_0 rfl ⟨rfl, rfl, Nat.le_of_ble_eq_true rfl, Nat.le_of_ble_eq_true rfl, Nat.zero_le _, Nat.zero_le _⟩ (Nat.le_of_ble_eq_true rfl) rfl ?_
  obtain ⟨Jworth25, eJworth25, hf⟩ := o_let hf
  have hJworth25 : ∀  (μ5 : wMem), Jworth25  μ5 = some r0 → wJ p l e ({ frames := 9, cells := 0, slots := 0, locals := 213 } : Room) s m args below meth c 4 D vwCl (spM ++ E) q ca A (wQi ({ frames := 9, cells := 0, slots := 0, locals := 213 } : Room) D vwCl (spM ++ E) q ca below args s A r0) 0 0 μ5 25 [] [] := by
    intro  μ5 hf
    rw [eJworth25] at hf
    refine wr_bipush 25 C dX6_worth_25 (v := (-2)) rfl ?_
    exact wr_iret 27 C dX6_worth_27 ⟨Nat.zero_le _, Nat.zero_le _⟩ (Option.some.inj hf)
  refine wr_if_eq 10 25 C dX6_worth_10 (by decide) (fun c6 => ?_) (fun c6 => ?_)
  · replace hf := o_pos c6 hf
    refine wr_sub [] [] rfl ?_
    exact hJworth25  μ3 hf
  · replace hf := o_neg c6 hf
    refine wr_iload_n 13 C dX6_worth_13 2 rfl rfl ?_
    refine wr_i2l 14 C dX6_worth_14 ?_
    refine wr_lconst 15 C dX6_worth_15 (v := 0) rfl ?_
    refine wr_ldc2 16 C dX6_worth_16 q1823 ?_
    obtain ⟨v9, μ8, h7, hf⟩ := o_bind hf
    refine wr_Si (kc1 := 0) (ks1 := 0) 19 [] C dX6_worth_19 (tX6_in l N   (Int32.toInt64 a2) 0 100 μ3 (v9, μ8) h7) okX6_in q1552 ⟨rfl, rfl, Nat.le_of_ble_eq_true rfl, Nat.le_of_ble_eq_true rfl, Nat.zero_le _, Nat.zero_le _⟩ (Nat.le_of_ble_eq_true rfl) rfl ?_
    refine wr_if_ne 22 28 C dX6_worth_22 (by decide) (fun c10 => ?_) (fun c10 => ?_)
    · replace hf := o_neg c10 hf
      refine wr_aload_n 28 C dX6_worth_28 0 rfl rfl ?_
      refine wr_iload_n 29 C dX6_worth_29 1 rfl rfl ?_
      refine wr_iconst 30 C dX6_worth_30 (v := 0) rfl ?_
      obtain ⟨v13, μ12, h11, hf⟩ := o_bind hf
      refine wr_Vi (kc1 := 0) (ks1 := 0) 31 [] C dX6_worth_31 (tX6_surestBy l N   a1 0 μ8 (v13, μ12) h11) okX6_surestBy q2039 (b := 0) spM_0 rfl ⟨rfl, rfl, Nat.le_of_ble_eq_true rfl, Nat.le_of_ble_eq_true rfl, Nat.zero_le _, Nat.zero_le _⟩ (Nat.le_of_ble_eq_true rfl) rfl ?_
      refine wr_istore_n 34 [(3, .int v13), (0, .ref (q 0)), (1, .int a1), (2, .int a2)] C dX6_worth_34 rfl rfl (Nat.le_of_ble_eq_true rfl) rfl ?_
      refine wr_iload_n 35 C dX6_worth_35 0 rfl rfl ?_
      refine wr_iconst 36 C dX6_worth_36 (v := (-1)) rfl ?_
      refine wr_icmp_ne 37 44 C dX6_worth_37 (by decide) (fun c14 => ?_) (fun c14 => ?_)
      · replace hf := o_neg c14 hf
        refine wr_iload_n 44 C dX6_worth_44 0 rfl rfl ?_
        refine wr_aload_n 45 C dX6_worth_45 1 rfl rfl ?_
        refine wr_iload_n 46 C dX6_worth_46 2 rfl rfl ?_
        refine wr_iload_n 47 C dX6_worth_47 3 rfl rfl ?_
        obtain ⟨v17, μ16, h15, hf⟩ := o_bind hf
        refine wr_Vi (kc1 := 0) (ks1 := 0) 48 [.int v13] C dX6_worth_48 (tX6_surestBy l N   a1 a2 μ12 (v17, μ16) h15) okX6_surestBy q2039 (b := 0) spM_0 rfl ⟨rfl, rfl, Nat.le_of_ble_eq_true rfl, Nat.le_of_ble_eq_true rfl, Nat.zero_le _, Nat.zero_le _⟩ (Nat.le_of_ble_eq_true rfl) rfl ?_
        refine wr_isub 51 C dX6_worth_51 ?_
        exact wr_iret 52 C dX6_worth_52 ⟨Nat.zero_le _, Nat.zero_le _⟩ (Option.some.inj hf)
      · replace hf := o_pos c14 hf
        refine wr_iconst 40 C dX6_worth_40 (v := (-1)) rfl ?_
        refine wr_goto 41 C dX6_worth_41 (tgt := 52) (by decide) ?_
        exact wr_iret 52 C dX6_worth_52 ⟨Nat.zero_le _, Nat.zero_le _⟩ (Option.some.inj hf)
    · replace hf := o_pos c10 hf
      refine wr_sub [] [] rfl ?_
      exact hJworth25  μ8 hf
