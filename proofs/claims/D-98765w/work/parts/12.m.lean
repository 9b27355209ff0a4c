set_option maxRecDepth 100000
abbrev cX6_family : ByteArray := prog_11_method_30_code
def yX6_family : MethodName := ⟨RX6, "family", "()I"⟩
def dkwX6_family_6 : List UInt8 := [3, 46, 172]
abbrev dktX6_family_6 : List UInt8 := dkwX6_family_6 ++ []
def dkwX6_family_5 : List UInt8 := [42, 182, 0, 228, 42, 180, 0, 140, 153, 0, 6, 16, 252, 172, 42, 7, 3, 182, 0, 231, 42, 180, 0, 31]
abbrev dktX6_family_5 : List UInt8 := dkwX6_family_5 ++ dktX6_family_6
def dkwX6_family_4 : List UInt8 := [42, 182, 0, 181, 153, 0, 7, 42, 182, 0, 225, 42, 180, 0, 31, 7, 92, 46, 4, 96, 79, 167, 255, 156]
abbrev dktX6_family_4 : List UInt8 := dkwX6_family_4 ++ dktX6_family_5
def dkwX6_family_3 : List UInt8 := [20, 0, 220, 182, 0, 153, 153, 0, 7, 4, 167, 0, 4, 3, 182, 0, 193, 167, 0, 7, 42, 182, 0, 222]
abbrev dktX6_family_3 : List UInt8 := dkwX6_family_3 ++ dktX6_family_4
def dkwX6_family_2 : List UInt8 := [20, 0, 218, 4, 16, 9, 182, 0, 176, 182, 0, 193, 42, 4, 42, 180, 0, 140, 154, 0, 17, 42]
abbrev dktX6_family_2 : List UInt8 := dkwX6_family_2 ++ dktX6_family_3
def dkwX6_family_1 : List UInt8 := [153, 0, 92, 42, 180, 0, 31, 7, 46, 154, 0, 55, 42, 20, 0, 216, 182, 0, 159, 42, 3, 42]
abbrev dktX6_family_1 : List UInt8 := dkwX6_family_1 ++ dktX6_family_2
def dkwX6_family_0 : List UInt8 := [42, 3, 181, 0, 88, 42, 182, 0, 210, 42, 182, 0, 213, 42, 182, 0, 181, 153, 0, 99, 42, 180, 0, 129]
abbrev dktX6_family_0 : List UInt8 := dkwX6_family_0 ++ dktX6_family_1
theorem dksX6_family_0 : cX6_family.data.toList.drop 0 = dktX6_family_0 := by decide +kernel
theorem dksX6_family_1 : cX6_family.data.toList.drop 24 = dktX6_family_1 := dk_seg dksX6_family_0 24 rfl rfl
theorem dksX6_family_2 : cX6_family.data.toList.drop 46 = dktX6_family_2 := dk_seg dksX6_family_1 22 rfl rfl
theorem dksX6_family_3 : cX6_family.data.toList.drop 68 = dktX6_family_3 := dk_seg dksX6_family_2 22 rfl rfl
theorem dksX6_family_4 : cX6_family.data.toList.drop 92 = dktX6_family_4 := dk_seg dksX6_family_3 24 rfl rfl
theorem dksX6_family_5 : cX6_family.data.toList.drop 116 = dktX6_family_5 := dk_seg dksX6_family_4 24 rfl rfl
theorem dksX6_family_6 : cX6_family.data.toList.drop 140 = dktX6_family_6 := dk_seg dksX6_family_5 24 rfl rfl
theorem dX6_family_0 : decode cX6_family 0 = .ok (.aload_n 0, 1) := dk_42 (dk_at dksX6_family_0 0 rfl rfl)
theorem dX6_family_1 : decode cX6_family 1 = .ok (.iconst 0, 1) := dk_3 (dk_at dksX6_family_0 1 rfl rfl)
theorem dX6_family_2 : decode cX6_family 2 = .ok (.putfield 88, 3) := dk_181 0 88 (dk_at dksX6_family_0 2 rfl rfl)
theorem dX6_family_5 : decode cX6_family 5 = .ok (.aload_n 0, 1) := dk_42 (dk_at dksX6_family_0 5 rfl rfl)
theorem dX6_family_6 : decode cX6_family 6 = .ok (.invokevirtual 210, 3) := dk_182 0 210 (dk_at dksX6_family_0 6 rfl rfl)
theorem dX6_family_9 : decode cX6_family 9 = .ok (.aload_n 0, 1) := dk_42 (dk_at dksX6_family_0 9 rfl rfl)
theorem dX6_family_10 : decode cX6_family 10 = .ok (.invokevirtual 213, 3) := dk_182 0 213 (dk_at dksX6_family_0 10 rfl rfl)
theorem dX6_family_13 : decode cX6_family 13 = .ok (.aload_n 0, 1) := dk_42 (dk_at dksX6_family_0 13 rfl rfl)
theorem dX6_family_14 : decode cX6_family 14 = .ok (.invokevirtual 181, 3) := dk_182 0 181 (dk_at dksX6_family_0 14 rfl rfl)
theorem dX6_family_17 : decode cX6_family 17 = .ok (.ifCond .eq 99, 3) := dk_153 0 99 (dk_at dksX6_family_0 17 rfl rfl)
theorem dX6_family_20 : decode cX6_family 20 = .ok (.aload_n 0, 1) := dk_42 (dk_at dksX6_family_0 20 rfl rfl)
theorem dX6_family_21 : decode cX6_family 21 = .ok (.getfield 129, 3) := dk_180 0 129 (dk_at dksX6_family_0 21 rfl rfl)
theorem dX6_family_24 : decode cX6_family 24 = .ok (.ifCond .eq 92, 3) := dk_153 0 92 (dk_at dksX6_family_1 0 rfl rfl)
theorem dX6_family_27 : decode cX6_family 27 = .ok (.aload_n 0, 1) := dk_42 (dk_at dksX6_family_1 3 rfl rfl)
theorem dX6_family_28 : decode cX6_family 28 = .ok (.getfield 31, 3) := dk_180 0 31 (dk_at dksX6_family_1 4 rfl rfl)
theorem dX6_family_31 : decode cX6_family 31 = .ok (.iconst 4, 1) := dk_7 (dk_at dksX6_family_1 7 rfl rfl)
theorem dX6_family_32 : decode cX6_family 32 = .ok (.iaload, 1) := dk_46 (dk_at dksX6_family_1 8 rfl rfl)
theorem dX6_family_33 : decode cX6_family 33 = .ok (.ifCond .ne 55, 3) := dk_154 0 55 (dk_at dksX6_family_1 9 rfl rfl)
theorem dX6_family_36 : decode cX6_family 36 = .ok (.aload_n 0, 1) := dk_42 (dk_at dksX6_family_1 12 rfl rfl)
theorem dX6_family_37 : decode cX6_family 37 = .ok (.ldc2_w 216, 3) := dk_20 0 216 (dk_at dksX6_family_1 13 rfl rfl)
theorem dX6_family_40 : decode cX6_family 40 = .ok (.invokevirtual 159, 3) := dk_182 0 159 (dk_at dksX6_family_1 16 rfl rfl)
theorem dX6_family_43 : decode cX6_family 43 = .ok (.aload_n 0, 1) := dk_42 (dk_at dksX6_family_1 19 rfl rfl)
theorem dX6_family_44 : decode cX6_family 44 = .ok (.iconst 0, 1) := dk_3 (dk_at dksX6_family_1 20 rfl rfl)
theorem dX6_family_45 : decode cX6_family 45 = .ok (.aload_n 0, 1) := dk_42 (dk_at dksX6_family_1 21 rfl rfl)
theorem dX6_family_46 : decode cX6_family 46 = .ok (.ldc2_w 218, 3) := dk_20 0 218 (dk_at dksX6_family_2 0 rfl rfl)
theorem dX6_family_49 : decode cX6_family 49 = .ok (.iconst 1, 1) := dk_4 (dk_at dksX6_family_2 3 rfl rfl)
theorem dX6_family_50 : decode cX6_family 50 = .ok (.bipush 9, 2) := dk_16 9 (dk_at dksX6_family_2 4 rfl rfl)
theorem dX6_family_52 : decode cX6_family 52 = .ok (.invokevirtual 176, 3) := dk_182 0 176 (dk_at dksX6_family_2 6 rfl rfl)
theorem dX6_family_55 : decode cX6_family 55 = .ok (.invokevirtual 193, 3) := dk_182 0 193 (dk_at dksX6_family_2 9 rfl rfl)
theorem dX6_family_58 : decode cX6_family 58 = .ok (.aload_n 0, 1) := dk_42 (dk_at dksX6_family_2 12 rfl rfl)
theorem dX6_family_59 : decode cX6_family 59 = .ok (.iconst 1, 1) := dk_4 (dk_at dksX6_family_2 13 rfl rfl)
theorem dX6_family_60 : decode cX6_family 60 = .ok (.aload_n 0, 1) := dk_42 (dk_at dksX6_family_2 14 rfl rfl)
theorem dX6_family_61 : decode cX6_family 61 = .ok (.getfield 140, 3) := dk_180 0 140 (dk_at dksX6_family_2 15 rfl rfl)
theorem dX6_family_64 : decode cX6_family 64 = .ok (.ifCond .ne 17, 3) := dk_154 0 17 (dk_at dksX6_family_2 18 rfl rfl)
theorem dX6_family_67 : decode cX6_family 67 = .ok (.aload_n 0, 1) := dk_42 (dk_at dksX6_family_2 21 rfl rfl)
theorem dX6_family_68 : decode cX6_family 68 = .ok (.ldc2_w 220, 3) := dk_20 0 220 (dk_at dksX6_family_3 0 rfl rfl)
theorem dX6_family_71 : decode cX6_family 71 = .ok (.invokevirtual 153, 3) := dk_182 0 153 (dk_at dksX6_family_3 3 rfl rfl)
theorem dX6_family_74 : decode cX6_family 74 = .ok (.ifCond .eq 7, 3) := dk_153 0 7 (dk_at dksX6_family_3 6 rfl rfl)
theorem dX6_family_77 : decode cX6_family 77 = .ok (.iconst 1, 1) := dk_4 (dk_at dksX6_family_3 9 rfl rfl)
theorem dX6_family_78 : decode cX6_family 78 = .ok (.goto 4, 3) := dk_167 0 4 (dk_at dksX6_family_3 10 rfl rfl)
theorem dX6_family_81 : decode cX6_family 81 = .ok (.iconst 0, 1) := dk_3 (dk_at dksX6_family_3 13 rfl rfl)
theorem dX6_family_82 : decode cX6_family 82 = .ok (.invokevirtual 193, 3) := dk_182 0 193 (dk_at dksX6_family_3 14 rfl rfl)
theorem dX6_family_85 : decode cX6_family 85 = .ok (.goto 7, 3) := dk_167 0 7 (dk_at dksX6_family_3 17 rfl rfl)
theorem dX6_family_88 : decode cX6_family 88 = .ok (.aload_n 0, 1) := dk_42 (dk_at dksX6_family_3 20 rfl rfl)
theorem dX6_family_89 : decode cX6_family 89 = .ok (.invokevirtual 222, 3) := dk_182 0 222 (dk_at dksX6_family_3 21 rfl rfl)
theorem dX6_family_92 : decode cX6_family 92 = .ok (.aload_n 0, 1) := dk_42 (dk_at dksX6_family_4 0 rfl rfl)
theorem dX6_family_93 : decode cX6_family 93 = .ok (.invokevirtual 181, 3) := dk_182 0 181 (dk_at dksX6_family_4 1 rfl rfl)
theorem dX6_family_96 : decode cX6_family 96 = .ok (.ifCond .eq 7, 3) := dk_153 0 7 (dk_at dksX6_family_4 4 rfl rfl)
theorem dX6_family_99 : decode cX6_family 99 = .ok (.aload_n 0, 1) := dk_42 (dk_at dksX6_family_4 7 rfl rfl)
theorem dX6_family_100 : decode cX6_family 100 = .ok (.invokevirtual 225, 3) := dk_182 0 225 (dk_at dksX6_family_4 8 rfl rfl)
theorem dX6_family_103 : decode cX6_family 103 = .ok (.aload_n 0, 1) := dk_42 (dk_at dksX6_family_4 11 rfl rfl)
theorem dX6_family_104 : decode cX6_family 104 = .ok (.getfield 31, 3) := dk_180 0 31 (dk_at dksX6_family_4 12 rfl rfl)
theorem dX6_family_107 : decode cX6_family 107 = .ok (.iconst 4, 1) := dk_7 (dk_at dksX6_family_4 15 rfl rfl)
theorem dX6_family_108 : decode cX6_family 108 = .ok (.dup2, 1) := dk_92 (dk_at dksX6_family_4 16 rfl rfl)
theorem dX6_family_109 : decode cX6_family 109 = .ok (.iaload, 1) := dk_46 (dk_at dksX6_family_4 17 rfl rfl)
theorem dX6_family_110 : decode cX6_family 110 = .ok (.iconst 1, 1) := dk_4 (dk_at dksX6_family_4 18 rfl rfl)
theorem dX6_family_111 : decode cX6_family 111 = .ok (.iadd, 1) := dk_96 (dk_at dksX6_family_4 19 rfl rfl)
theorem dX6_family_112 : decode cX6_family 112 = .ok (.iastore, 1) := dk_79 (dk_at dksX6_family_4 20 rfl rfl)
theorem dX6_family_113 : decode cX6_family 113 = .ok (.goto (-100), 3) := dk_167 255 156 (dk_at dksX6_family_4 21 rfl rfl)
theorem dX6_family_116 : decode cX6_family 116 = .ok (.aload_n 0, 1) := dk_42 (dk_at dksX6_family_5 0 rfl rfl)
theorem dX6_family_117 : decode cX6_family 117 = .ok (.invokevirtual 228, 3) := dk_182 0 228 (dk_at dksX6_family_5 1 rfl rfl)
theorem dX6_family_120 : decode cX6_family 120 = .ok (.aload_n 0, 1) := dk_42 (dk_at dksX6_family_5 4 rfl rfl)
theorem dX6_family_121 : decode cX6_family 121 = .ok (.getfield 140, 3) := dk_180 0 140 (dk_at dksX6_family_5 5 rfl rfl)
theorem dX6_family_124 : decode cX6_family 124 = .ok (.ifCond .eq 6, 3) := dk_153 0 6 (dk_at dksX6_family_5 8 rfl rfl)
theorem dX6_family_127 : decode cX6_family 127 = .ok (.bipush (-4), 2) := dk_16 252 (dk_at dksX6_family_5 11 rfl rfl)
theorem dX6_family_129 : decode cX6_family 129 = .ok (.ireturn, 1) := dk_172 (dk_at dksX6_family_5 13 rfl rfl)
theorem dX6_family_130 : decode cX6_family 130 = .ok (.aload_n 0, 1) := dk_42 (dk_at dksX6_family_5 14 rfl rfl)
theorem dX6_family_131 : decode cX6_family 131 = .ok (.iconst 4, 1) := dk_7 (dk_at dksX6_family_5 15 rfl rfl)
theorem dX6_family_132 : decode cX6_family 132 = .ok (.iconst 0, 1) := dk_3 (dk_at dksX6_family_5 16 rfl rfl)
theorem dX6_family_133 : decode cX6_family 133 = .ok (.invokevirtual 231, 3) := dk_182 0 231 (dk_at dksX6_family_5 17 rfl rfl)
theorem dX6_family_136 : decode cX6_family 136 = .ok (.aload_n 0, 1) := dk_42 (dk_at dksX6_family_5 20 rfl rfl)
theorem dX6_family_137 : decode cX6_family 137 = .ok (.getfield 31, 3) := dk_180 0 31 (dk_at dksX6_family_5 21 rfl rfl)
theorem dX6_family_140 : decode cX6_family 140 = .ok (.iconst 0, 1) := dk_3 (dk_at dksX6_family_6 0 rfl rfl)
theorem dX6_family_141 : decode cX6_family 141 = .ok (.iaload, 1) := dk_46 (dk_at dksX6_family_6 1 rfl rfl)
theorem dX6_family_142 : decode cX6_family 142 = .ok (.ireturn, 1) := dk_172 (dk_at dksX6_family_6 2 rfl rfl)

theorem okX6_family : wOkV yX6_family cX6_family 1 (some .int) 0 := ⟨q1583, q1584, q145, q1585, by decide, by decide, by decide +kernel⟩
def gbX6_family_13 (N : Nat)   (K : (wMem → Option (Int32 × wMem))) (rec : (wMem → Option (Int32 × wMem)))  (μ : wMem) : Option (Int32 × wMem) :=
  wBind (fX6_isGood N   μ) fun v8 μ7 => if v8 = 0 then K  μ7 else if (μ7.1 0 8) = 0 then K  μ7 else wG (ok_in (4 : Int32) 5) (wLet (fun  (μ12 : wMem) => wBind (fX6_isGood N   μ12) fun v15 μ14 => wLet (fun  (μ16 : wMem) => wG (ok_in (4 : Int32) 5) (wG (ok_in (4 : Int32) 5) (wLet (wSI μ16 6 (Int32.toNatClampNeg (4 : Int32)) ((μ16.1 6 (Int32.toNatClampNeg (4 : Int32))) + (1 : Int32))) fun μ19 => rec  μ19))) fun Jfamily103 => if v15 = 0 then Jfamily103  μ14 else wBindV (fX6_ends N   μ14) fun μ22 => Jfamily103  μ22) fun Jfamily92 => if (μ7.1 6 (Int32.toNatClampNeg (4 : Int32))) = 0 then wBindV (fX6_asks N  86887672 μ7) fun μ27 => wBind (fX6_number N  247164 1 9 μ27) fun v30 μ29 => wBindV (fX6_tells N  0 v30 μ29) fun μ32 => wLet (fun (v34 : Int32) (v35 : Int32) (μ33 : wMem) => wBindV (fX6_tells N  v35 v34 μ33) fun μ37 => Jfamily92  μ37) fun Jfamily82 => wLet (fun (v39 : Int32) (μ38 : wMem) => Jfamily82 0 v39 μ38) fun Jfamily81 => if (μ32.1 0 12) = 0 then wBind (fX6_takes N  1384719953 μ32) fun v43 μ42 => if v43 = 0 then Jfamily81 1 μ42 else Jfamily82 1 1 μ42 else Jfamily81 1 μ32 else wBindV (fX6_line N   μ7) fun μ25 => Jfamily92  μ25)
def gX6_family_13 (N : Nat)   (K : (wMem → Option (Int32 × wMem))) : Nat → (wMem → Option (Int32 × wMem))
  | 0 => fun  _ => none
  | k + 1 => gbX6_family_13 N   K (gX6_family_13 N   K k)
set_option maxHeartbeats 4000000 in
set_option maxRecDepth 100000 in
theorem tX6_family_13 {p : Program} {l : Launch} {e : Env} {s : State} {m : MethodId} {args : Array Value} {below : List Frame} {meth : Method} {c : Code} {D : va_G} {E : List wCell} {q : Nat → Nat} {ca : wCA} {A : Nat → Prop} (C : wC p ({ frames := 7, cells := 0, slots := 0, locals := 158 } : Room) s m args meth c cX6_family yX6_family.cls 1 (some .int) D vwCl (spM ++ E) q ca A) (N : Nat)    (K : (wMem → Option (Int32 × wMem))) (r0 : (Int32 × wMem)) (hK : ∀  (μ : wMem), K  μ = some r0 → wJ p l e ({ frames := 7, cells := 0, slots := 0, locals := 158 } : Room) s m args below meth c 1 D vwCl (spM ++ E) q ca A (wQi ({ frames := 7, cells := 0, slots := 0, locals := 158 } : Room) D vwCl (spM ++ E) q ca below args s A r0) 0 0 μ 116 [(0, .ref (q 0))] []) : ∀ (k : Nat)  (μ : wMem), gX6_family_13 N   K k  μ = some r0 → wJ p l e ({ frames := 7, cells := 0, slots := 0, locals := 158 } : Room) s m args below meth c 1 D vwCl (spM ++ E) q ca A (wQi ({ frames := 7, cells := 0, slots := 0, locals := 158 } : Room) D vwCl (spM ++ E) q ca below args s A r0) 0 0 μ 13 [(0, .ref (q 0))] [] := by
  intro k
  induction k with
  | zero =>
    intro  μ hf
    cases hf
  | succ k ih =>
    intro  μ hf
    replace hf : gbX6_family_13 N   K (gX6_family_13 N   K k)  μ = some r0 := hf
    unfold gbX6_family_13 at hf
    refine wr_aload_n 13 C dX6_family_13 0 rfl rfl ?_
    obtain ⟨v8, μ7, h6, hf⟩ := o_bind hf
    refine wr_Vi (kc1 := 0) (ks1 := 0) 14 [] C dX6_family_14 (tX6_isGood l N    μ (v8, μ7) h6) okX6_isGood q1611 (b := 0) spM_0 rfl ⟨rfl, rfl, Nat.le_of_ble_eq_true rfl, Nat.le_of_ble_eq_true rfl, Nat.zero_le _, Nat.zero_le _⟩ (Nat.le_of_ble_eq_true rfl) rfl ?_
    refine wr_if_eq 17 116 C dX6_family_17 (by decide) (fun c9 => ?_) (fun c9 => ?_)
    · replace hf := o_pos c9 hf
      exact hK  μ7 hf
    · replace hf := o_neg c9 hf
      refine wr_aload_n 20 C dX6_family_20 0 rfl rfl ?_
      refine gespM_0_8_X6 21 C dX6_family_21 ?_
      refine wr_if_eq 24 116 C dX6_family_24 (by decide) (fun c10 => ?_) (fun c10 => ?_)
      · replace hf := o_pos c10 hf
        exact hK  μ7 hf
      · replace hf := o_neg c10 hf
        refine wr_aload_n 27 C dX6_family_27 0 rfl rfl ?_
        refine gespM_0_16_X6 28 C dX6_family_28 ?_
        refine wr_iconst 31 C dX6_family_31 (v := 4) rfl ?_
        obtain ⟨g11, hf⟩ := o_g hf
        refine wr_iald 32 C dX6_family_32 spM_6 g11 ?_
        obtain ⟨Jfamily92, eJfamily92, hf⟩ := o_let hf
        have hJfamily92 : ∀  (μ12 : wMem), Jfamily92  μ12 = some r0 → wJ p l e ({ frames := 7, cells := 0, slots := 0, locals := 158 } : Room) s m args below meth c 1 D vwCl (spM ++ E) q ca A (wQi ({ frames := 7, cells := 0, slots := 0, locals := 158 } : Room) D vwCl (spM ++ E) q ca below args s A r0) 0 0 μ12 92 [(0, .ref (q 0))] [] := by
          intro  μ12 hf
          rw [eJfamily92] at hf
          refine wr_aload_n 92 C dX6_family_92 0 rfl rfl ?_
          obtain ⟨v15, μ14, h13, hf⟩ := o_bind hf
          refine wr_Vi (kc1 := 0) (ks1 := 0) 93 [] C dX6_family_93 (tX6_isGood l N    μ12 (v15, μ14) h13) okX6_isGood q1611 (b := 0) spM_0 rfl ⟨rfl, rfl, Nat.le_of_ble_eq_true rfl, Nat.le_of_ble_eq_true rfl, Nat.zero_le _, Nat.zero_le _⟩ (Nat.le_of_ble_eq_true rfl) rfl ?_
          obtain ⟨Jfamily103, eJfamily103, hf⟩ := o_let hf
          have hJfamily103 : ∀  (μ16 : wMem), Jfamily103  μ16 = some r0 → wJ p l e ({ frames := 7, cells := 0, slots := 0, locals := 158 } : Room) s m args below meth c 1 D vwCl (spM ++ E) q ca A (wQi ({ frames := 7, cells := 0, slots := 0, locals := 158 } : Room) D vwCl (spM ++ E) q ca below args s A r0) 0 0 μ16 103 [(0, .ref (q 0))] [] := by
            intro  μ16 hf
            rw [eJfamily103] at hf
            refine wr_aload_n 103 C dX6_family_103 0 rfl rfl ?_
            refine gespM_0_16_X6 104 C dX6_family_104 ?_
            refine wr_iconst 107 C dX6_family_107 (v := 4) rfl ?_
            refine wr_dup2 108 C dX6_family_108 rfl rfl ?_
            obtain ⟨g17, hf⟩ := o_g hf
            refine wr_iald 109 C dX6_family_109 spM_6 g17 ?_
            refine wr_iconst 110 C dX6_family_110 (v := 1) rfl ?_
            refine wr_iadd 111 C dX6_family_111 ?_
            obtain ⟨g18, hf⟩ := o_g hf
            obtain ⟨μ19, eμ19, hf⟩ := o_let hf
            refine wr_iast 112 C dX6_family_112 spM_6 g18 eμ19 ?_
            refine wr_goto 113 C dX6_family_113 (tgt := 13) (by decide) ?_
            exact ih  μ19 hf
          refine wr_if_eq 96 103 C dX6_family_96 (by decide) (fun c20 => ?_) (fun c20 => ?_)
          · replace hf := o_pos c20 hf
            exact hJfamily103  μ14 hf
          · replace hf := o_neg c20 hf
            refine wr_aload_n 99 C dX6_family_99 0 rfl rfl ?_
            obtain ⟨μ22, h21, hf⟩ := o_bindV hf
            refine wr_Vv (kc1 := 0) (ks1 := 0) 100 [] C dX6_family_100 (tX6_ends l N    μ14 μ22 h21) okX6_ends q1666 (b := 0) spM_0 rfl ⟨rfl, rfl, Nat.le_of_ble_eq_true rfl, Nat.le_of_ble_eq_true rfl, Nat.zero_le _, Nat.zero_le _⟩ (Nat.le_of_ble_eq_true rfl) rfl ?_
            exact hJfamily103  μ22 hf
        refine wr_if_ne 33 88 C dX6_family_33 (by decide) (fun c23 => ?_) (fun c23 => ?_)
        · replace hf := o_neg c23 hf
          refine wr_aload_n 88 C dX6_family_88 0 rfl rfl ?_
          obtain ⟨μ25, h24, hf⟩ := o_bindV hf
          refine wr_Vv (kc1 := 0) (ks1 := 0) 89 [] C dX6_family_89 (tX6_line l N    μ7 μ25 h24) okX6_line q1642 (b := 0) spM_0 rfl ⟨rfl, rfl, Nat.le_of_ble_eq_true rfl, Nat.le_of_ble_eq_true rfl, Nat.zero_le _, Nat.zero_le _⟩ (Nat.le_of_ble_eq_true rfl) rfl ?_
          exact hJfamily92  μ25 hf
        · replace hf := o_pos c23 hf
          refine wr_aload_n 36 C dX6_family_36 0 rfl rfl ?_
          refine wr_ldc2 37 C dX6_family_37 q1615 ?_
          obtain ⟨μ27, h26, hf⟩ := o_bindV hf
          refine wr_Vv (kc1 := 0) (ks1 := 0) 40 [] C dX6_family_40 (tX6_asks l N   86887672 μ7 μ27 h26) okX6_asks q1616 (b := 0) spM_0 rfl ⟨rfl, rfl, Nat.le_of_ble_eq_true rfl, Nat.le_of_ble_eq_true rfl, Nat.zero_le _, Nat.zero_le _⟩ (Nat.le_of_ble_eq_true rfl) rfl ?_
          refine wr_aload_n 43 C dX6_family_43 0 rfl rfl ?_
          refine wr_iconst 44 C dX6_family_44 (v := 0) rfl ?_
          refine wr_aload_n 45 C dX6_family_45 0 rfl rfl ?_
          refine wr_ldc2 46 C dX6_family_46 q1632 ?_
          refine wr_iconst 49 C dX6_family_49 (v := 1) rfl ?_
          refine wr_bipush 50 C dX6_family_50 (v := 9) rfl ?_
          obtain ⟨v30, μ29, h28, hf⟩ := o_bind hf
          refine wr_Vi (kc1 := 0) (ks1 := 0) 52 [.int 0, .ref (q 0)] C dX6_family_52 (tX6_number l N   247164 1 9 μ27 (v30, μ29) h28) okX6_number q1633 (b := 0) spM_0 rfl ⟨rfl, rfl, Nat.le_of_ble_eq_true rfl, Nat.le_of_ble_eq_true rfl, Nat.zero_le _, Nat.zero_le _⟩ (Nat.le_of_ble_eq_true rfl) rfl ?_
          obtain ⟨μ32, h31, hf⟩ := o_bindV hf
          refine wr_Vv (kc1 := 0) (ks1 := 0) 55 [] C dX6_family_55 (tX6_tells l N   0 v30 μ29 μ32 h31) okX6_tells q1590 (b := 0) spM_0 rfl ⟨rfl, rfl, Nat.le_of_ble_eq_true rfl, Nat.le_of_ble_eq_true rfl, Nat.zero_le _, Nat.zero_le _⟩ (Nat.le_of_ble_eq_true rfl) rfl ?_
          refine wr_aload_n 58 C dX6_family_58 0 rfl rfl ?_
          refine wr_iconst 59 C dX6_family_59 (v := 1) rfl ?_
          refine wr_aload_n 60 C dX6_family_60 0 rfl rfl ?_
          refine gespM_0_12_X6 61 C dX6_family_61 ?_
          obtain ⟨Jfamily82, eJfamily82, hf⟩ := o_let hf
          have hJfamily82 : ∀ (v34 : Int32) (v35 : Int32) (μ33 : wMem), Jfamily82 v34 v35 μ33 = some r0 → wJ p l e ({ frames := 7, cells := 0, slots := 0, locals := 158 } : Room) s m args below meth c 1 D vwCl (spM ++ E) q ca A (wQi ({ frames := 7, cells := 0, slots := 0, locals := 158 } : Room) D vwCl (spM ++ E) q ca below args s A r0) 0 0 μ33 82 [(0, .ref (q 0))] [.int v34, .int v35, .ref (q 0)] := by
            intro v34 v35 μ33 hf
            rw [eJfamily82] at hf
            obtain ⟨μ37, h36, hf⟩ := o_bindV hf
            refine wr_Vv (kc1 := 0) (ks1 := 0) 82 [] C dX6_family_82 (tX6_tells l N   v35 v34 μ33 μ37 h36) okX6_tells q1590 (b := 0) spM_0 rfl ⟨rfl, rfl, Nat.le_of_ble_eq_true rfl, Nat.le_of_ble_eq_true rfl, Nat.zero_le _, Nat.zero_le _⟩ (Nat.le_of_ble_eq_true rfl) rfl ?_
            refine wr_goto 85 C dX6_family_85 (tgt := 92) (by decide) ?_
            exact hJfamily92  μ37 hf
          obtain ⟨Jfamily81, eJfamily81, hf⟩ := o_let hf
          have hJfamily81 : ∀ (v39 : Int32) (μ38 : wMem), Jfamily81 v39 μ38 = some r0 → wJ p l e ({ frames := 7, cells := 0, slots := 0, locals := 158 } : Room) s m args below meth c 1 D vwCl (spM ++ E) q ca A (wQi ({ frames := 7, cells := 0, slots := 0, locals := 158 } : Room) D vwCl (spM ++ E) q ca below args s A r0) 0 0 μ38 81 [(0, .ref (q 0))] [.int v39, .ref (q 0)] := by
            intro v39 μ38 hf
            rw [eJfamily81] at hf
            refine wr_iconst 81 C dX6_family_81 (v := 0) rfl ?_
            exact hJfamily82 0 v39 μ38 hf
          refine wr_if_ne 64 81 C dX6_family_64 (by decide) (fun c40 => ?_) (fun c40 => ?_)
          · replace hf := o_neg c40 hf
            exact hJfamily81 1 μ32 hf
          · replace hf := o_pos c40 hf
            refine wr_aload_n 67 C dX6_family_67 0 rfl rfl ?_
            refine wr_ldc2 68 C dX6_family_68 q1641 ?_
            obtain ⟨v43, μ42, h41, hf⟩ := o_bind hf
            refine wr_Vi (kc1 := 0) (ks1 := 0) 71 [.int 1, .ref (q 0)] C dX6_family_71 (tX6_takes l N   1384719953 μ32 (v43, μ42) h41) okX6_takes q1620 (b := 0) spM_0 rfl ⟨rfl, rfl, Nat.le_of_ble_eq_true rfl, Nat.le_of_ble_eq_true rfl, Nat.zero_le _, Nat.zero_le _⟩ (Nat.le_of_ble_eq_true rfl) rfl ?_
            refine wr_if_eq 74 81 C dX6_family_74 (by decide) (fun c44 => ?_) (fun c44 => ?_)
            · replace hf := o_pos c44 hf
              exact hJfamily81 1 μ42 hf
            · replace hf := o_neg c44 hf
              refine wr_iconst 77 C dX6_family_77 (v := 1) rfl ?_
              refine wr_goto 78 C dX6_family_78 (tgt := 82) (by decide) ?_
              exact hJfamily82 1 1 μ42 hf
def fX6_family (N : Nat)   (μ : wMem) : Option (Int32 × wMem) :=
  wLet (wSI μ 0 0 (0 : Int32)) fun μ1 => wBindV (fX6_clears N   μ1) fun μ3 => wBindV (fX6_begins N   μ3) fun μ5 => gX6_family_13 N   (fun  (μ45 : wMem) => wBindV (fX6_isOver N   μ45) fun μ47 => if (μ47.1 0 12) = 0 then wBindV (fX6_copyFamily N  4 0 μ47) fun μ50 => wG (ok_in (0 : Int32) 5) (some (μ50.1 6 (Int32.toNatClampNeg (0 : Int32)), μ50)) else some ((-4), μ47)) N  μ5
set_option maxHeartbeats 4000000 in
set_option maxRecDepth 100000 in
theorem tX6_family (l : Launch) {D : va_G} {E : List wCell} {q : Nat → Nat} {ca : wCA} (N : Nat)    (μ : wMem) (r0 : (Int32 × wMem)) (hf : fX6_family N   μ = some r0) : wMi l yX6_family cX6_family 1 (some .int) ({ frames := 7, cells := 0, slots := 0, locals := 158 } : Room) D vwCl (spM ++ E) q ca [.ref (q 0)] μ r0 := by
  refine wMi_intro (by decide) (Nat.le_of_ble_eq_true rfl) ?_
  intro p e s m args below meth c A C
  unfold fX6_family at hf
  refine wr_sub [(0, .ref (q 0))] [0] rfl ?_
  refine wr_aload_n 0 C dX6_family_0 0 rfl rfl ?_
  refine wr_iconst 1 C dX6_family_1 (v := 0) rfl ?_
  obtain ⟨μ1, eμ1, hf⟩ := o_let hf
  refine puspM_0_0_X6 2 C dX6_family_2 eμ1 ?_
  refine wr_aload_n 5 C dX6_family_5 0 rfl rfl ?_
  obtain ⟨μ3, h2, hf⟩ := o_bindV hf
  refine wr_Vv (kc1 := 0) (ks1 := 0) 6 [] C dX6_family_6 (tX6_clears l N    μ1 μ3 h2) okX6_clears q1586 (b := 0) spM_0 rfl ⟨rfl, rfl, Nat.le_of_ble_eq_true rfl, Nat.le_of_ble_eq_true rfl, Nat.zero_le _, Nat.zero_le _⟩ (Nat.le_of_ble_eq_true rfl) rfl ?_
  refine wr_aload_n 9 C dX6_family_9 0 rfl rfl ?_
  obtain ⟨μ5, h4, hf⟩ := o_bindV hf
  refine wr_Vv (kc1 := 0) (ks1 := 0) 10 [] C dX6_family_10 (tX6_begins l N    μ3 μ5 h4) okX6_begins q1594 (b := 0) spM_0 rfl ⟨rfl, rfl, Nat.le_of_ble_eq_true rfl, Nat.le_of_ble_eq_true rfl, Nat.zero_le _, Nat.zero_le _⟩ (Nat.le_of_ble_eq_true rfl) rfl ?_
  refine tX6_family_13 C N    _ r0 (fun  μ45 hf => ?_) N  μ5 hf
  · replace hf := hf
    refine wr_aload_n 116 C dX6_family_116 0 rfl rfl ?_
    obtain ⟨μ47, h46, hf⟩ := o_bindV hf
    refine wr_Vv (kc1 := 0) (ks1 := 0) 117 [] C dX6_family_117 (tX6_isOver l N    μ45 μ47 h46) okX6_isOver q1670 (b := 0) spM_0 rfl ⟨rfl, rfl, Nat.le_of_ble_eq_true rfl, Nat.le_of_ble_eq_true rfl, Nat.zero_le _, Nat.zero_le _⟩ (Nat.le_of_ble_eq_true rfl) rfl ?_
    refine wr_aload_n 120 C dX6_family_120 0 rfl rfl ?_
    refine gespM_0_12_X6 121 C dX6_family_121 ?_
    refine wr_if_eq 124 130 C dX6_family_124 (by decide) (fun c48 => ?_) (fun c48 => ?_)
    · replace hf := o_pos c48 hf
      refine wr_aload_n 130 C dX6_family_130 0 rfl rfl ?_
      refine wr_iconst 131 C dX6_family_131 (v := 4) rfl ?_
      refine wr_iconst 132 C dX6_family_132 (v := 0) rfl ?_
      obtain ⟨μ50, h49, hf⟩ := o_bindV hf
      refine wr_Vv (kc1 := 0) (ks1 := 0) 133 [] C dX6_family_133 (tX6_copyFamily l N   4 0 μ47 μ50 h49) okX6_copyFamily q1674 (b := 0) spM_0 rfl ⟨rfl, rfl, Nat.le_of_ble_eq_true rfl, Nat.le_of_ble_eq_true rfl, Nat.zero_le _, Nat.zero_le _⟩ (Nat.le_of_ble_eq_true rfl) rfl ?_
      refine wr_aload_n 136 C dX6_family_136 0 rfl rfl ?_
      refine gespM_0_16_X6 137 C dX6_family_137 ?_
      refine wr_iconst 140 C dX6_family_140 (v := 0) rfl ?_
      obtain ⟨g51, hf⟩ := o_g hf
      refine wr_iald 141 C dX6_family_141 spM_6 g51 ?_
      exact wr_iret 142 C dX6_family_142 ⟨Nat.zero_le _, Nat.zero_le _⟩ (Option.some.inj hf)
    · replace hf := o_neg c48 hf
      refine wr_bipush 127 C dX6_family_127 (v := (-4)) rfl ?_
      exact wr_iret 129 C dX6_family_129 ⟨Nat.zero_le _, Nat.zero_le _⟩ (Option.some.inj hf)
abbrev cX6_isPerson : ByteArray := prog_11_method_34_code
def yX6_isPerson : MethodName := ⟨RX6, "isPerson", "(I)Z"⟩
def dkwX6_isPerson_0 : List UInt8 := [27, 133, 9, 42, 180, 0, 34, 5, 46, 4, 100, 133, 184, 0, 93, 172]
abbrev dktX6_isPerson_0 : List UInt8 := dkwX6_isPerson_0 ++ []
theorem dksX6_isPerson_0 : cX6_isPerson.data.toList.drop 0 = dktX6_isPerson_0 := by decide +kernel
theorem dX6_isPerson_0 : decode cX6_isPerson 0 = .ok (.iload_n 1, 1) := dk_27 (dk_at dksX6_isPerson_0 0 rfl rfl)
theorem dX6_isPerson_1 : decode cX6_isPerson 1 = .ok (.i2l, 1) := dk_133 (dk_at dksX6_isPerson_0 1 rfl rfl)
theorem dX6_isPerson_2 : decode cX6_isPerson 2 = .ok (.lconst 0, 1) := dk_9 (dk_at dksX6_isPerson_0 2 rfl rfl)
theorem dX6_isPerson_3 : decode cX6_isPerson 3 = .ok (.aload_n 0, 1) := dk_42 (dk_at dksX6_isPerson_0 3 rfl rfl)
theorem dX6_isPerson_4 : decode cX6_isPerson 4 = .ok (.getfield 34, 3) := dk_180 0 34 (dk_at dksX6_isPerson_0 4 rfl rfl)
theorem dX6_isPerson_7 : decode cX6_isPerson 7 = .ok (.iconst 2, 1) := dk_5 (dk_at dksX6_isPerson_0 7 rfl rfl)
theorem dX6_isPerson_8 : decode cX6_isPerson 8 = .ok (.iaload, 1) := dk_46 (dk_at dksX6_isPerson_0 8 rfl rfl)
theorem dX6_isPerson_9 : decode cX6_isPerson 9 = .ok (.iconst 1, 1) := dk_4 (dk_at dksX6_isPerson_0 9 rfl rfl)
theorem dX6_isPerson_10 : decode cX6_isPerson 10 = .ok (.isub, 1) := dk_100 (dk_at dksX6_isPerson_0 10 rfl rfl)
theorem dX6_isPerson_11 : decode cX6_isPerson 11 = .ok (.i2l, 1) := dk_133 (dk_at dksX6_isPerson_0 11 rfl rfl)
theorem dX6_isPerson_12 : decode cX6_isPerson 12 = .ok (.invokestatic 93, 3) := dk_184 0 93 (dk_at dksX6_isPerson_0 12 rfl rfl)
theorem dX6_isPerson_15 : decode cX6_isPerson 15 = .ok (.ireturn, 1) := dk_172 (dk_at dksX6_isPerson_0 15 rfl rfl)

theorem okX6_isPerson : wOkV yX6_isPerson cX6_isPerson 2 (some .boolean) 1 := ⟨q1687, qs87, q145, q1688, by decide, by decide, by decide +kernel⟩
def fX6_isPerson (N : Nat)  (a1 : Int32) (μ : wMem) : Option (Int32 × wMem) :=
  wG (ok_in (2 : Int32) 35) (wBind (fX6_in N  (Int32.toInt64 a1) 0 (Int32.toInt64 ((μ.1 7 (Int32.toNatClampNeg (2 : Int32))) - (1 : Int32))) μ) fun v4 μ3 => wG (ok_b v4) (some (v4, μ3)))
set_option maxHeartbeats 4000000 in
set_option maxRecDepth 100000 in
theorem tX6_isPerson (l : Launch) {D : va_G} {E : List wCell} {q : Nat → Nat} {ca : wCA} (N : Nat)   (a1 : Int32) (μ : wMem) (r0 : (Int32 × wMem)) (hf : fX6_isPerson N  a1 μ = some r0) : wMi l yX6_isPerson cX6_isPerson 2 (some .boolean) ({ frames := 1, cells := 0, slots := 0, locals := 25 } : Room) D vwCl (spM ++ E) q ca [.ref (q 0), .int a1] μ r0 := by
  refine wMi_intro (by decide) (Nat.le_of_ble_eq_true rfl) ?_
  intro p e s m args below meth c A C
  unfold fX6_isPerson at hf
  refine wr_sub [(0, .ref (q 0)), (1, .int a1)] [0, 1] rfl ?_
  refine wr_iload_n 0 C dX6_isPerson_0 1 rfl rfl ?_
  refine wr_i2l 1 C dX6_isPerson_1 ?_
  refine wr_lconst 2 C dX6_isPerson_2 (v := 0) rfl ?_
  refine wr_aload_n 3 C dX6_isPerson_3 0 rfl rfl ?_
  refine gespM_0_17_X6 4 C dX6_isPerson_4 ?_
  refine wr_iconst 7 C dX6_isPerson_7 (v := 2) rfl ?_
  obtain ⟨g1, hf⟩ := o_g hf
  refine wr_iald 8 C dX6_isPerson_8 spM_7 g1 ?_
  refine wr_iconst 9 C dX6_isPerson_9 (v := 1) rfl ?_
  refine wr_isub 10 C dX6_isPerson_10 ?_
  refine wr_i2l 11 C dX6_isPerson_11 ?_
  obtain ⟨v4, μ3, h2, hf⟩ := o_bind hf
  refine wr_Si (kc1 := 0) (ks1 := 0) 12 [] C dX6_isPerson_12 (tX6_in l N   (Int32.toInt64 a1) 0 (Int32.toInt64 ((μ.1 7 (Int32.toNatClampNeg (2 : Int32))) - (1 : Int32))) μ (v4, μ3) h2) okX6_in q1552 ⟨rfl, rfl, Nat.le_of_ble_eq_true rfl, Nat.le_of_ble_eq_true rfl, Nat.zero_le _, Nat.zero_le _⟩ (Nat.le_of_ble_eq_true rfl) rfl ?_
  obtain ⟨g5, hf⟩ := o_g hf
  exact wr_zret 15 C dX6_isPerson_15 g5 ⟨Nat.zero_le _, Nat.zero_le _⟩ (Option.some.inj hf)
abbrev cX6_begin : ByteArray := prog_11_method_40_code
def yX6_begin : MethodName := ⟨RX6, "begin", "(I)V"⟩
def dkwX6_begin_2 : List UInt8 := [181, 0, 238, 177]
abbrev dktX6_begin_2 : List UInt8 := dkwX6_begin_2 ++ []
def dkwX6_begin_1 : List UInt8 := [16, 7, 112, 181, 0, 244, 42, 27, 17, 2, 223, 108, 5, 112, 181, 0, 241, 42, 27, 17, 5, 190, 108]
abbrev dktX6_begin_1 : List UInt8 := dkwX6_begin_1 ++ dktX6_begin_2
def dkwX6_begin_0 : List UInt8 := [42, 27, 16, 15, 112, 181, 0, 250, 42, 27, 16, 15, 108, 16, 7, 112, 181, 0, 247, 42, 27, 16, 105, 108]
abbrev dktX6_begin_0 : List UInt8 := dkwX6_begin_0 ++ dktX6_begin_1
theorem dksX6_begin_0 : cX6_begin.data.toList.drop 0 = dktX6_begin_0 := by decide +kernel
theorem dksX6_begin_1 : cX6_begin.data.toList.drop 24 = dktX6_begin_1 := dk_seg dksX6_begin_0 24 rfl rfl
theorem dksX6_begin_2 : cX6_begin.data.toList.drop 47 = dktX6_begin_2 := dk_seg dksX6_begin_1 23 rfl rfl
theorem dX6_begin_0 : decode cX6_begin 0 = .ok (.aload_n 0, 1) := dk_42 (dk_at dksX6_begin_0 0 rfl rfl)
theorem dX6_begin_1 : decode cX6_begin 1 = .ok (.iload_n 1, 1) := dk_27 (dk_at dksX6_begin_0 1 rfl rfl)
theorem dX6_begin_2 : decode cX6_begin 2 = .ok (.bipush 15, 2) := dk_16 15 (dk_at dksX6_begin_0 2 rfl rfl)
theorem dX6_begin_4 : decode cX6_begin 4 = .ok (.irem, 1) := dk_112 (dk_at dksX6_begin_0 4 rfl rfl)
theorem dX6_begin_5 : decode cX6_begin 5 = .ok (.putfield 250, 3) := dk_181 0 250 (dk_at dksX6_begin_0 5 rfl rfl)
theorem dX6_begin_8 : decode cX6_begin 8 = .ok (.aload_n 0, 1) := dk_42 (dk_at dksX6_begin_0 8 rfl rfl)
theorem dX6_begin_9 : decode cX6_begin 9 = .ok (.iload_n 1, 1) := dk_27 (dk_at dksX6_begin_0 9 rfl rfl)
theorem dX6_begin_10 : decode cX6_begin 10 = .ok (.bipush 15, 2) := dk_16 15 (dk_at dksX6_begin_0 10 rfl rfl)
theorem dX6_begin_12 : decode cX6_begin 12 = .ok (.idiv, 1) := dk_108 (dk_at dksX6_begin_0 12 rfl rfl)
theorem dX6_begin_13 : decode cX6_begin 13 = .ok (.bipush 7, 2) := dk_16 7 (dk_at dksX6_begin_0 13 rfl rfl)
theorem dX6_begin_15 : decode cX6_begin 15 = .ok (.irem, 1) := dk_112 (dk_at dksX6_begin_0 15 rfl rfl)
theorem dX6_begin_16 : decode cX6_begin 16 = .ok (.putfield 247, 3) := dk_181 0 247 (dk_at dksX6_begin_0 16 rfl rfl)
theorem dX6_begin_19 : decode cX6_begin 19 = .ok (.aload_n 0, 1) := dk_42 (dk_at dksX6_begin_0 19 rfl rfl)
theorem dX6_begin_20 : decode cX6_begin 20 = .ok (.iload_n 1, 1) := dk_27 (dk_at dksX6_begin_0 20 rfl rfl)
theorem dX6_begin_21 : decode cX6_begin 21 = .ok (.bipush 105, 2) := dk_16 105 (dk_at dksX6_begin_0 21 rfl rfl)
theorem dX6_begin_23 : decode cX6_begin 23 = .ok (.idiv, 1) := dk_108 (dk_at dksX6_begin_0 23 rfl rfl)
theorem dX6_begin_24 : decode cX6_begin 24 = .ok (.bipush 7, 2) := dk_16 7 (dk_at dksX6_begin_1 0 rfl rfl)
theorem dX6_begin_26 : decode cX6_begin 26 = .ok (.irem, 1) := dk_112 (dk_at dksX6_begin_1 2 rfl rfl)
theorem dX6_begin_27 : decode cX6_begin 27 = .ok (.putfield 244, 3) := dk_181 0 244 (dk_at dksX6_begin_1 3 rfl rfl)
theorem dX6_begin_30 : decode cX6_begin 30 = .ok (.aload_n 0, 1) := dk_42 (dk_at dksX6_begin_1 6 rfl rfl)
theorem dX6_begin_31 : decode cX6_begin 31 = .ok (.iload_n 1, 1) := dk_27 (dk_at dksX6_begin_1 7 rfl rfl)
theorem dX6_begin_32 : decode cX6_begin 32 = .ok (.sipush 735, 3) := dk_17 2 223 (dk_at dksX6_begin_1 8 rfl rfl)
theorem dX6_begin_35 : decode cX6_begin 35 = .ok (.idiv, 1) := dk_108 (dk_at dksX6_begin_1 11 rfl rfl)
theorem dX6_begin_36 : decode cX6_begin 36 = .ok (.iconst 2, 1) := dk_5 (dk_at dksX6_begin_1 12 rfl rfl)
theorem dX6_begin_37 : decode cX6_begin 37 = .ok (.irem, 1) := dk_112 (dk_at dksX6_begin_1 13 rfl rfl)
theorem dX6_begin_38 : decode cX6_begin 38 = .ok (.putfield 241, 3) := dk_181 0 241 (dk_at dksX6_begin_1 14 rfl rfl)
theorem dX6_begin_41 : decode cX6_begin 41 = .ok (.aload_n 0, 1) := dk_42 (dk_at dksX6_begin_1 17 rfl rfl)
theorem dX6_begin_42 : decode cX6_begin 42 = .ok (.iload_n 1, 1) := dk_27 (dk_at dksX6_begin_1 18 rfl rfl)
theorem dX6_begin_43 : decode cX6_begin 43 = .ok (.sipush 1470, 3) := dk_17 5 190 (dk_at dksX6_begin_1 19 rfl rfl)
theorem dX6_begin_46 : decode cX6_begin 46 = .ok (.idiv, 1) := dk_108 (dk_at dksX6_begin_1 22 rfl rfl)
theorem dX6_begin_47 : decode cX6_begin 47 = .ok (.putfield 238, 3) := dk_181 0 238 (dk_at dksX6_begin_2 0 rfl rfl)
theorem dX6_begin_50 : decode cX6_begin 50 = .ok (.return_, 1) := dk_177 (dk_at dksX6_begin_2 3 rfl rfl)
theorem puspM_0_23_X6 {p : Program} {l : Launch} {e : Env} {R : Room} {s : State} {m : MethodId} {args : Array Value} {below : List Frame} {meth : Method} {c : Code} {cc : ByteArray} {nL : Nat} {ret : Option FieldType} {D : va_G} {E : List wCell} {q : Nat → Nat} {ca : wCA} {A : Nat → Prop} {Q : State → Prop} {kc ks : Nat} {μ : wMem} {lv : List (Nat × Value)} {st : List Value} {v : Int32} {μ1 : wMem} (pc : Nat) (C : wC p R s m args meth c cc "OnePassportModel" nL ret D vwCl (spM ++ E) q ca A) (hd : decode cc pc = .ok (.putfield 238, 3)) (hμ : μ1 = wSI μ 0 23 v) (k : wJ p l e R s m args below meth c nL D vwCl (spM ++ E) q ca A Q kc ks μ1 (pc + 3) lv st) : wJ p l e R s m args below meth c nL D vwCl (spM ++ E) q ca A Q kc ks μ pc lv (.int v :: .ref (q 0) :: st) := wr_putI pc 23 C hd spM_0 rfl in_X6 tyX6 tyX6_ok nmX6 (by decide) rfl q1422 rfl rfl hμ k
theorem puspM_0_24_X6 {p : Program} {l : Launch} {e : Env} {R : Room} {s : State} {m : MethodId} {args : Array Value} {below : List Frame} {meth : Method} {c : Code} {cc : ByteArray} {nL : Nat} {ret : Option FieldType} {D : va_G} {E : List wCell} {q : Nat → Nat} {ca : wCA} {A : Nat → Prop} {Q : State → Prop} {kc ks : Nat} {μ : wMem} {lv : List (Nat × Value)} {st : List Value} {v : Int32} {μ1 : wMem} (pc : Nat) (C : wC p R s m args meth c cc "OnePassportModel" nL ret D vwCl (spM ++ E) q ca A) (hd : decode cc pc = .ok (.putfield 241, 3)) (hμ : μ1 = wSI μ 0 24 v) (k : wJ p l e R s m args below meth c nL D vwCl (spM ++ E) q ca A Q kc ks μ1 (pc + 3) lv st) : wJ p l e R s m args below meth c nL D vwCl (spM ++ E) q ca A Q kc ks μ pc lv (.int v :: .ref (q 0) :: st) := wr_putI pc 24 C hd spM_0 rfl in_X6 tyX6 tyX6_ok nmX6 (by decide) rfl q1423 rfl rfl hμ k
theorem puspM_0_25_X6 {p : Program} {l : Launch} {e : Env} {R : Room} {s : State} {m : MethodId} {args : Array Value} {below : List Frame} {meth : Method} {c : Code} {cc : ByteArray} {nL : Nat} {ret : Option FieldType} {D : va_G} {E : List wCell} {q : Nat → Nat} {ca : wCA} {A : Nat → Prop} {Q : State → Prop} {kc ks : Nat} {μ : wMem} {lv : List (Nat × Value)} {st : List Value} {v : Int32} {μ1 : wMem} (pc : Nat) (C : wC p R s m args meth c cc "OnePassportModel" nL ret D vwCl (spM ++ E) q ca A) (hd : decode cc pc = .ok (.putfield 244, 3)) (hμ : μ1 = wSI μ 0 25 v) (k : wJ p l e R s m args below meth c nL D vwCl (spM ++ E) q ca A Q kc ks μ1 (pc + 3) lv st) : wJ p l e R s m args below meth c nL D vwCl (spM ++ E) q ca A Q kc ks μ pc lv (.int v :: .ref (q 0) :: st) := wr_putI pc 25 C hd spM_0 rfl in_X6 tyX6 tyX6_ok nmX6 (by decide) rfl q1424 rfl rfl hμ k
theorem puspM_0_26_X6 {p : Program} {l : Launch} {e : Env} {R : Room} {s : State} {m : MethodId} {args : Array Value} {below : List Frame} {meth : Method} {c : Code} {cc : ByteArray} {nL : Nat} {ret : Option FieldType} {D : va_G} {E : List wCell} {q : Nat → Nat} {ca : wCA} {A : Nat → Prop} {Q : State → Prop} {kc ks : Nat} {μ : wMem} {lv : List (Nat × Value)} {st : List Value} {v : Int32} {μ1 : wMem} (pc : Nat) (C : wC p R s m args meth c cc "OnePassportModel" nL ret D vwCl (spM ++ E) q ca A) (hd : decode cc pc = .ok (.putfield 247, 3)) (hμ : μ1 = wSI μ 0 26 v) (k : wJ p l e R s m args below meth c nL D vwCl (spM ++ E) q ca A Q kc ks μ1 (pc + 3) lv st) : wJ p l e R s m args below meth c nL D vwCl (spM ++ E) q ca A Q kc ks μ pc lv (.int v :: .ref (q 0) :: st) := wr_putI pc 26 C hd spM_0 rfl in_X6 tyX6 tyX6_ok nmX6 (by decide) rfl q1425 rfl rfl hμ k
theorem puspM_0_27_X6 {p : Program} {l : Launch} {e : Env} {R : Room} {s : State} {m : MethodId} {args : Array Value} {below : List Frame} {meth : Method} {c : Code} {cc : ByteArray} {nL : Nat} {ret : Option FieldType} {D : va_G} {E : List wCell} {q : Nat → Nat} {ca : wCA} {A : Nat → Prop} {Q : State → Prop} {kc ks : Nat} {μ : wMem} {lv : List (Nat × Value)} {st : List Value} {v : Int32} {μ1 : wMem} (pc : Nat) (C : wC p R s m args meth c cc "OnePassportModel" nL ret D vwCl (spM ++ E) q ca A) (hd : decode cc pc = .ok (.putfield 250, 3)) (hμ : μ1 = wSI μ 0 27 v) (k : wJ p l e R s m args below meth c nL D vwCl (spM ++ E) q ca A Q kc ks μ1 (pc + 3) lv st) : wJ p l e R s m args below meth c nL D vwCl (spM ++ E) q ca A Q kc ks μ pc lv (.int v :: .ref (q 0) :: st) := wr_putI pc 27 C hd spM_0 rfl in_X6 tyX6 tyX6_ok nmX6 (by decide) rfl q1426 rfl rfl hμ k
theorem okX6_begin : wOkV yX6_begin cX6_begin 2 none 1 := ⟨q1700, qs90, q145, q1701, by decide, by decide, by decide +kernel⟩
def fX6_begin (N : Nat)  (a1 : Int32) (μ : wMem) : Option wMem :=
  wLet (wSI μ 0 27 (a1 - a1 / (15 : Int32) * (15 : Int32))) fun μ1 => wLet (wSI μ1 0 26 ((a1 / (15 : Int32)) - (a1 / (15 : Int32)) / (7 : Int32) * (7 : Int32))) fun μ2 => wLet (wSI μ2 0 25 ((a1 / (105 : Int32)) - (a1 / (105 : Int32)) / (7 : Int32) * (7 : Int32))) fun μ3 => wLet (wSI μ3 0 24 ((a1 / (735 : Int32)) - (a1 / (735 : Int32)) / (2 : Int32) * (2 : Int32))) fun μ4 => wLet (wSI μ4 0 23 (a1 / (1470 : Int32))) fun μ5 => some μ5
set_option maxHeartbeats 4000000 in
set_option maxRecDepth 100000 in
theorem tX6_begin (l : Launch) {D : va_G} {E : List wCell} {q : Nat → Nat} {ca : wCA} (N : Nat)   (a1 : Int32) (μ : wMem) (r0 : wMem) (hf : fX6_begin N  a1 μ = some r0) : wMv l yX6_begin cX6_begin 2 none ({ frames := 0, cells := 0, slots := 0, locals := 0 } : Room) D vwCl (spM ++ E) q ca [.ref (q 0), .int a1] μ r0 := by
  refine wMv_intro (by decide) (Nat.le_of_ble_eq_true rfl) ?_
  intro p e s m args below meth c A C
  unfold fX6_begin at hf
  refine wr_sub [(0, .ref (q 0)), (1, .int a1)] [0, 1] rfl ?_
  refine wr_aload_n 0 C dX6_begin_0 0 rfl rfl ?_
  refine wr_iload_n 1 C dX6_begin_1 1 rfl rfl ?_
  refine wr_bipush 2 C dX6_begin_2 (v := 15) rfl ?_
  refine wr_irem 4 C dX6_begin_4 (by decide) ?_
  obtain ⟨μ1, eμ1, hf⟩ := o_let hf
  refine puspM_0_27_X6 5 C dX6_begin_5 eμ1 ?_
  refine wr_aload_n 8 C dX6_begin_8 0 rfl rfl ?_
  refine wr_iload_n 9 C dX6_begin_9 1 rfl rfl ?_
  refine wr_bipush 10 C dX6_begin_10 (v := 15) rfl ?_
  refine wr_idiv 12 C dX6_begin_12 (by decide) ?_
  refine wr_bipush 13 C dX6_begin_13 (v := 7) rfl ?_
  refine wr_irem 15 C dX6_begin_15 (by decide) ?_
  obtain ⟨μ2, eμ2, hf⟩ := o_let hf
  refine puspM_0_26_X6 16 C dX6_begin_16 eμ2 ?_
  refine wr_aload_n 19 C dX6_begin_19 0 rfl rfl ?_
  refine wr_iload_n 20 C dX6_begin_20 1 rfl rfl ?_
  refine wr_bipush 21 C dX6_begin_21 (v := 105) rfl ?_
  refine wr_idiv 23 C dX6_begin_23 (by decide) ?_
  refine wr_bipush 24 C dX6_begin_24 (v := 7) rfl ?_
  refine wr_irem 26 C dX6_begin_26 (by decide) ?_
  obtain ⟨μ3, eμ3, hf⟩ := o_let hf
  refine puspM_0_25_X6 27 C dX6_begin_27 eμ3 ?_
  refine wr_aload_n 30 C dX6_begin_30 0 rfl rfl ?_
  refine wr_iload_n 31 C dX6_begin_31 1 rfl rfl ?_
  refine wr_sipush 32 C dX6_begin_32 (v := 735) rfl ?_
  refine wr_idiv 35 C dX6_begin_35 (by decide) ?_
  refine wr_iconst 36 C dX6_begin_36 (v := 2) rfl ?_
  refine wr_irem 37 C dX6_begin_37 (by decide) ?_
  obtain ⟨μ4, eμ4, hf⟩ := o_let hf
  refine puspM_0_24_X6 38 C dX6_begin_38 eμ4 ?_
  refine wr_aload_n 41 C dX6_begin_41 0 rfl rfl ?_
  refine wr_iload_n 42 C dX6_begin_42 1 rfl rfl ?_
  refine wr_sipush 43 C dX6_begin_43 (v := 1470) rfl ?_
  refine wr_idiv 46 C dX6_begin_46 (by decide) ?_
  obtain ⟨μ5, eμ5, hf⟩ := o_let hf
  refine puspM_0_23_X6 47 C dX6_begin_47 eμ5 ?_
  exact wr_vret 50 C dX6_begin_50 ⟨Nat.zero_le _, Nat.zero_le _⟩ (Option.some.inj hf)
abbrev cX6_start : ByteArray := prog_11_method_52_code
def yX6_start : MethodName := ⟨RX6, "start", "()V"⟩
def dkwX6_start_0 : List UInt8 := [42, 3, 182, 1, 32, 42, 3, 181, 1, 35, 42, 3, 181, 1, 38, 42, 3, 181, 1, 41, 177]
abbrev dktX6_start_0 : List UInt8 := dkwX6_start_0 ++ []
theorem dksX6_start_0 : cX6_start.data.toList.drop 0 = dktX6_start_0 := by decide +kernel
theorem dX6_start_0 : decode cX6_start 0 = .ok (.aload_n 0, 1) := dk_42 (dk_at dksX6_start_0 0 rfl rfl)
theorem dX6_start_1 : decode cX6_start 1 = .ok (.iconst 0, 1) := dk_3 (dk_at dksX6_start_0 1 rfl rfl)
theorem dX6_start_2 : decode cX6_start 2 = .ok (.invokevirtual 288, 3) := dk_182 1 32 (dk_at dksX6_start_0 2 rfl rfl)
theorem dX6_start_5 : decode cX6_start 5 = .ok (.aload_n 0, 1) := dk_42 (dk_at dksX6_start_0 5 rfl rfl)
theorem dX6_start_6 : decode cX6_start 6 = .ok (.iconst 0, 1) := dk_3 (dk_at dksX6_start_0 6 rfl rfl)
theorem dX6_start_7 : decode cX6_start 7 = .ok (.putfield 291, 3) := dk_181 1 35 (dk_at dksX6_start_0 7 rfl rfl)
theorem dX6_start_10 : decode cX6_start 10 = .ok (.aload_n 0, 1) := dk_42 (dk_at dksX6_start_0 10 rfl rfl)
theorem dX6_start_11 : decode cX6_start 11 = .ok (.iconst 0, 1) := dk_3 (dk_at dksX6_start_0 11 rfl rfl)
theorem dX6_start_12 : decode cX6_start 12 = .ok (.putfield 294, 3) := dk_181 1 38 (dk_at dksX6_start_0 12 rfl rfl)
theorem dX6_start_15 : decode cX6_start 15 = .ok (.aload_n 0, 1) := dk_42 (dk_at dksX6_start_0 15 rfl rfl)
theorem dX6_start_16 : decode cX6_start 16 = .ok (.iconst 0, 1) := dk_3 (dk_at dksX6_start_0 16 rfl rfl)
theorem dX6_start_17 : decode cX6_start 17 = .ok (.putfield 297, 3) := dk_181 1 41 (dk_at dksX6_start_0 17 rfl rfl)
theorem dX6_start_20 : decode cX6_start 20 = .ok (.return_, 1) := dk_177 (dk_at dksX6_start_0 20 rfl rfl)
theorem puspM_0_28_X6 {p : Program} {l : Launch} {e : Env} {R : Room} {s : State} {m : MethodId} {args : Array Value} {below : List Frame} {meth : Method} {c : Code} {cc : ByteArray} {nL : Nat} {ret : Option FieldType} {D : va_G} {E : List wCell} {q : Nat → Nat} {ca : wCA} {A : Nat → Prop} {Q : State → Prop} {kc ks : Nat} {μ : wMem} {lv : List (Nat × Value)} {st : List Value} {v : Int32} {μ1 : wMem} (pc : Nat) (C : wC p R s m args meth c cc "OnePassportModel" nL ret D vwCl (spM ++ E) q ca A) (hd : decode cc pc = .ok (.putfield 291, 3)) (hμ : μ1 = wSI μ 0 28 v) (k : wJ p l e R s m args below meth c nL D vwCl (spM ++ E) q ca A Q kc ks μ1 (pc + 3) lv st) : wJ p l e R s m args below meth c nL D vwCl (spM ++ E) q ca A Q kc ks μ pc lv (.int v :: .ref (q 0) :: st) := wr_putI pc 28 C hd spM_0 rfl in_X6 tyX6 tyX6_ok nmX6 (by decide) rfl q1427 rfl rfl hμ k
theorem puspM_0_29_X6 {p : Program} {l : Launch} {e : Env} {R : Room} {s : State} {m : MethodId} {args : Array Value} {below : List Frame} {meth : Method} {c : Code} {cc : ByteArray} {nL : Nat} {ret : Option FieldType} {D : va_G} {E : List wCell} {q : Nat → Nat} {ca : wCA} {A : Nat → Prop} {Q : State → Prop} {kc ks : Nat} {μ : wMem} {lv : List (Nat × Value)} {st : List Value} {v : Int32} {μ1 : wMem} (pc : Nat) (C : wC p R s m args meth c cc "OnePassportModel" nL ret D vwCl (spM ++ E) q ca A) (hd : decode cc pc = .ok (.putfield 294, 3)) (hμ : μ1 = wSI μ 0 29 v) (k : wJ p l e R s m args below meth c nL D vwCl (spM ++ E) q ca A Q kc ks μ1 (pc + 3) lv st) : wJ p l e R s m args below meth c nL D vwCl (spM ++ E) q ca A Q kc ks μ pc lv (.int v :: .ref (q 0) :: st) := wr_putI pc 29 C hd spM_0 rfl in_X6 tyX6 tyX6_ok nmX6 (by decide) rfl q1428 rfl rfl hμ k
theorem puspM_0_30_X6 {p : Program} {l : Launch} {e : Env} {R : Room} {s : State} {m : MethodId} {args : Array Value} {below : List Frame} {meth : Method} {c : Code} {cc : ByteArray} {nL : Nat} {ret : Option FieldType} {D : va_G} {E : List wCell} {q : Nat → Nat} {ca : wCA} {A : Nat → Prop} {Q : State → Prop} {kc ks : Nat} {μ : wMem} {lv : List (Nat × Value)} {st : List Value} {v : Int32} {μ1 : wMem} (pc : Nat) (C : wC p R s m args meth c cc "OnePassportModel" nL ret D vwCl (spM ++ E) q ca A) (hd : decode cc pc = .ok (.putfield 297, 3)) (hμ : μ1 = wSI μ 0 30 v) (k : wJ p l e R s m args below meth c nL D vwCl (spM ++ E) q ca A Q kc ks μ1 (pc + 3) lv st) : wJ p l e R s m args below meth c nL D vwCl (spM ++ E) q ca A Q kc ks μ pc lv (.int v :: .ref (q 0) :: st) := wr_putI pc 30 C hd spM_0 rfl in_X6 tyX6 tyX6_ok nmX6 (by decide) rfl q1429 rfl rfl hμ k
theorem okX6_start : wOkV yX6_start cX6_start 1 none 0 := ⟨q1696, qs89, q145, q1697, by decide, by decide, by decide +kernel⟩
def fX6_start (N : Nat)   (μ : wMem) : Option wMem :=
  wBindV (fX6_begin N  0 μ) fun μ2 => wLet (wSI μ2 0 28 (0 : Int32)) fun μ3 => wLet (wSI μ3 0 29 (0 : Int32)) fun μ4 => wLet (wSI μ4 0 30 (0 : Int32)) fun μ5 => some μ5
set_option maxHeartbeats 4000000 in
set_option maxRecDepth 100000 in
theorem tX6_start (l : Launch) {D : va_G} {E : List wCell} {q : Nat → Nat} {ca : wCA} (N : Nat)    (μ : wMem) (r0 : wMem) (hf : fX6_start N   μ = some r0) : wMv l yX6_start cX6_start 1 none ({ frames := 1, cells := 0, slots := 0, locals := 21 } : Room) D vwCl (spM ++ E) q ca [.ref (q 0)] μ r0 := by
  refine wMv_intro (by decide) (Nat.le_of_ble_eq_true rfl) ?_
  intro p e s m args below meth c A C
  unfold fX6_start at hf
  refine wr_sub [(0, .ref (q 0))] [0] rfl ?_
  refine wr_aload_n 0 C dX6_start_0 0 rfl rfl ?_
  refine wr_iconst 1 C dX6_start_1 (v := 0) rfl ?_
  obtain ⟨μ2, h1, hf⟩ := o_bindV hf
  refine wr_Vv (kc1 := 0) (ks1 := 0) 2 [] C dX6_start_2 (tX6_begin l N   0 μ μ2 h1) okX6_begin q1698 (b := 0) spM_0 rfl ⟨rfl, rfl, Nat.le_of_ble_eq_true rfl, Nat.le_of_ble_eq_true rfl, Nat.zero_le _, Nat.zero_le _⟩ (Nat.le_of_ble_eq_true rfl) rfl ?_
  refine wr_aload_n 5 C dX6_start_5 0 rfl rfl ?_
  refine wr_iconst 6 C dX6_start_6 (v := 0) rfl ?_
  obtain ⟨μ3, eμ3, hf⟩ := o_let hf
  refine puspM_0_28_X6 7 C dX6_start_7 eμ3 ?_
  refine wr_aload_n 10 C dX6_start_10 0 rfl rfl ?_
  refine wr_iconst 11 C dX6_start_11 (v := 0) rfl ?_
  obtain ⟨μ4, eμ4, hf⟩ := o_let hf
  refine puspM_0_29_X6 12 C dX6_start_12 eμ4 ?_
  refine wr_aload_n 15 C dX6_start_15 0 rfl rfl ?_
  refine wr_iconst 16 C dX6_start_16 (v := 0) rfl ?_
  obtain ⟨μ5, eμ5, hf⟩ := o_let hf
  refine puspM_0_30_X6 17 C dX6_start_17 eμ5 ?_
  exact wr_vret 20 C dX6_start_20 ⟨Nat.zero_le _, Nat.zero_le _⟩ (Option.some.inj hf)
abbrev cX6_riskOf : ByteArray := prog_11_method_38_code
def yX6_riskOf : MethodName := ⟨RX6, "riskOf", "(II)I"⟩
def dkwX6_riskOf_0 : List UInt8 := [16, 100, 42, 180, 0, 37, 27, 46, 100, 42, 180, 0, 43, 6, 28, 104, 46, 104, 16, 100, 108, 172]
abbrev dktX6_riskOf_0 : List UInt8 := dkwX6_riskOf_0 ++ []
theorem dksX6_riskOf_0 : cX6_riskOf.data.toList.drop 0 = dktX6_riskOf_0 := by decide +kernel
theorem dX6_riskOf_0 : decode cX6_riskOf 0 = .ok (.bipush 100, 2) := dk_16 100 (dk_at dksX6_riskOf_0 0 rfl rfl)
theorem dX6_riskOf_2 : decode cX6_riskOf 2 = .ok (.aload_n 0, 1) := dk_42 (dk_at dksX6_riskOf_0 2 rfl rfl)
theorem dX6_riskOf_3 : decode cX6_riskOf 3 = .ok (.getfield 37, 3) := dk_180 0 37 (dk_at dksX6_riskOf_0 3 rfl rfl)
theorem dX6_riskOf_6 : decode cX6_riskOf 6 = .ok (.iload_n 1, 1) := dk_27 (dk_at dksX6_riskOf_0 6 rfl rfl)
theorem dX6_riskOf_7 : decode cX6_riskOf 7 = .ok (.iaload, 1) := dk_46 (dk_at dksX6_riskOf_0 7 rfl rfl)
theorem dX6_riskOf_8 : decode cX6_riskOf 8 = .ok (.isub, 1) := dk_100 (dk_at dksX6_riskOf_0 8 rfl rfl)
theorem dX6_riskOf_9 : decode cX6_riskOf 9 = .ok (.aload_n 0, 1) := dk_42 (dk_at dksX6_riskOf_0 9 rfl rfl)
theorem dX6_riskOf_10 : decode cX6_riskOf 10 = .ok (.getfield 43, 3) := dk_180 0 43 (dk_at dksX6_riskOf_0 10 rfl rfl)
theorem dX6_riskOf_13 : decode cX6_riskOf 13 = .ok (.iconst 3, 1) := dk_6 (dk_at dksX6_riskOf_0 13 rfl rfl)
theorem dX6_riskOf_14 : decode cX6_riskOf 14 = .ok (.iload_n 2, 1) := dk_28 (dk_at dksX6_riskOf_0 14 rfl rfl)
theorem dX6_riskOf_15 : decode cX6_riskOf 15 = .ok (.imul, 1) := dk_104 (dk_at dksX6_riskOf_0 15 rfl rfl)
theorem dX6_riskOf_16 : decode cX6_riskOf 16 = .ok (.iaload, 1) := dk_46 (dk_at dksX6_riskOf_0 16 rfl rfl)
theorem dX6_riskOf_17 : decode cX6_riskOf 17 = .ok (.imul, 1) := dk_104 (dk_at dksX6_riskOf_0 17 rfl rfl)
theorem dX6_riskOf_18 : decode cX6_riskOf 18 = .ok (.bipush 100, 2) := dk_16 100 (dk_at dksX6_riskOf_0 18 rfl rfl)
theorem dX6_riskOf_20 : decode cX6_riskOf 20 = .ok (.idiv, 1) := dk_108 (dk_at dksX6_riskOf_0 20 rfl rfl)
theorem dX6_riskOf_21 : decode cX6_riskOf 21 = .ok (.ireturn, 1) := dk_172 (dk_at dksX6_riskOf_0 21 rfl rfl)

theorem okX6_riskOf : wOkV yX6_riskOf cX6_riskOf 3 (some .int) 2 := ⟨q1708, qs92, q145, q1709, by decide, by decide, by decide +kernel⟩
def fX6_riskOf (N : Nat)  (a1 : Int32) (a2 : Int32) (μ : wMem) : Option (Int32 × wMem) :=
  wG (ok_in a1 30) (wG (ok_in ((3 : Int32) * a2) 30) (some ((((100 : Int32) - (μ.1 8 (Int32.toNatClampNeg a1))) * (μ.1 10 (Int32.toNatClampNeg ((3 : Int32) * a2)))) / (100 : Int32), μ)))
set_option maxHeartbeats 4000000 in
set_option maxRecDepth 100000 in
theorem tX6_riskOf (l : Launch) {D : va_G} {E : List wCell} {q : Nat → Nat} {ca : wCA} (N : Nat)   (a1 : Int32) (a2 : Int32) (μ : wMem) (r0 : (Int32 × wMem)) (hf : fX6_riskOf N  a1 a2 μ = some r0) : wMi l yX6_riskOf cX6_riskOf 3 (some .int) ({ frames := 0, cells := 0, slots := 0, locals := 0 } : Room) D vwCl (spM ++ E) q ca [.ref (q 0), .int a1, .int a2] μ r0 := by
  refine wMi_intro (by decide) (Nat.le_of_ble_eq_true rfl) ?_
  intro p e s m args below meth c A C
  unfold fX6_riskOf at hf
  refine wr_sub [(0, .ref (q 0)), (1, .int a1), (2, .int a2)] [0, 1, 2] rfl ?_
  refine wr_bipush 0 C dX6_riskOf_0 (v := 100) rfl ?_
  refine wr_aload_n 2 C dX6_riskOf_2 0 rfl rfl ?_
  refine gespM_0_18_X6 3 C dX6_riskOf_3 ?_
  refine wr_iload_n 6 C dX6_riskOf_6 1 rfl rfl ?_
  obtain ⟨g1, hf⟩ := o_g hf
  refine wr_iald 7 C dX6_riskOf_7 spM_8 g1 ?_
  refine wr_isub 8 C dX6_riskOf_8 ?_
  refine wr_aload_n 9 C dX6_riskOf_9 0 rfl rfl ?_
  refine gespM_0_20_X6 10 C dX6_riskOf_10 ?_
  refine wr_iconst 13 C dX6_riskOf_13 (v := 3) rfl ?_
  refine wr_iload_n 14 C dX6_riskOf_14 2 rfl rfl ?_
  refine wr_imul 15 C dX6_riskOf_15 ?_
  obtain ⟨g2, hf⟩ := o_g hf
  refine wr_iald 16 C dX6_riskOf_16 spM_10 g2 ?_
  refine wr_imul 17 C dX6_riskOf_17 ?_
  refine wr_bipush 18 C dX6_riskOf_18 (v := 100) rfl ?_
  refine wr_idiv 20 C dX6_riskOf_20 (by decide) ?_
  exact wr_iret 21 C dX6_riskOf_21 ⟨Nat.zero_le _, Nat.zero_le _⟩ (Option.some.inj hf)
abbrev cX6_sideOf : ByteArray := prog_11_method_43_code
def yX6_sideOf : MethodName := ⟨RX6, "sideOf", "(I)I"⟩
def dkwX6_sideOf_0 : List UInt8 := [42, 180, 0, 238, 27, 122, 4, 126, 172]
abbrev dktX6_sideOf_0 : List UInt8 := dkwX6_sideOf_0 ++ []
theorem dksX6_sideOf_0 : cX6_sideOf.data.toList.drop 0 = dktX6_sideOf_0 := by decide +kernel
theorem dX6_sideOf_0 : decode cX6_sideOf 0 = .ok (.aload_n 0, 1) := dk_42 (dk_at dksX6_sideOf_0 0 rfl rfl)
theorem dX6_sideOf_1 : decode cX6_sideOf 1 = .ok (.getfield 238, 3) := dk_180 0 238 (dk_at dksX6_sideOf_0 1 rfl rfl)
theorem dX6_sideOf_4 : decode cX6_sideOf 4 = .ok (.iload_n 1, 1) := dk_27 (dk_at dksX6_sideOf_0 4 rfl rfl)
theorem dX6_sideOf_5 : decode cX6_sideOf 5 = .ok (.ishr, 1) := dk_122 (dk_at dksX6_sideOf_0 5 rfl rfl)
theorem dX6_sideOf_6 : decode cX6_sideOf 6 = .ok (.iconst 1, 1) := dk_4 (dk_at dksX6_sideOf_0 6 rfl rfl)
theorem dX6_sideOf_7 : decode cX6_sideOf 7 = .ok (.iand, 1) := dk_126 (dk_at dksX6_sideOf_0 7 rfl rfl)
theorem dX6_sideOf_8 : decode cX6_sideOf 8 = .ok (.ireturn, 1) := dk_172 (dk_at dksX6_sideOf_0 8 rfl rfl)
theorem gespM_0_23_X6 {p : Program} {l : Launch} {e : Env} {R : Room} {s : State} {m : MethodId} {args : Array Value} {below : List Frame} {meth : Method} {c : Code} {cc : ByteArray} {nL : Nat} {ret : Option FieldType} {D : va_G} {E : List wCell} {q : Nat → Nat} {ca : wCA} {A : Nat → Prop} {Q : State → Prop} {kc ks : Nat} {μ : wMem} {lv : List (Nat × Value)} {st : List Value} (pc : Nat) (C : wC p R s m args meth c cc "OnePassportModel" nL ret D vwCl (spM ++ E) q ca A) (hd : decode cc pc = .ok (.getfield 238, 3)) (k : wJ p l e R s m args below meth c nL D vwCl (spM ++ E) q ca A Q kc ks μ (pc + 3) lv (.int (μ.1 0 23) :: st)) : wJ p l e R s m args below meth c nL D vwCl (spM ++ E) q ca A Q kc ks μ pc lv (.ref (q 0) :: st) := wr_getI pc 23 C hd spM_0 rfl in_X6 (by decide) rfl q1422 k
theorem okX6_sideOf : wOkV yX6_sideOf cX6_sideOf 2 (some .int) 1 := ⟨q1720, qs95, q145, q1721, by decide, by decide, by decide +kernel⟩
def fX6_sideOf (N : Nat)  (a1 : Int32) (μ : wMem) : Option (Int32 × wMem) :=
  some (((μ.1 0 23) >>> (a1 &&& 31)) &&& (1 : Int32), μ)
set_option maxHeartbeats 4000000 in
set_option maxRecDepth 100000 in
theorem tX6_sideOf (l : Launch) {D : va_G} {E : List wCell} {q : Nat → Nat} {ca : wCA} (N : Nat)   (a1 : Int32) (μ : wMem) (r0 : (Int32 × wMem)) (hf : fX6_sideOf N  a1 μ = some r0) : wMi l yX6_sideOf cX6_sideOf 2 (some .int) ({ frames := 0, cells := 0, slots := 0, locals := 0 } : Room) D vwCl (spM ++ E) q ca [.ref (q 0), .int a1] μ r0 := by
  refine wMi_intro (by decide) (Nat.le_of_ble_eq_true rfl) ?_
  intro p e s m args below meth c A C
  unfold fX6_sideOf at hf
  refine wr_sub [(0, .ref (q 0)), (1, .int a1)] [0, 1] rfl ?_
  refine wr_aload_n 0 C dX6_sideOf_0 0 rfl rfl ?_
  refine gespM_0_23_X6 1 C dX6_sideOf_1 ?_
  refine wr_iload_n 4 C dX6_sideOf_4 1 rfl rfl ?_
  refine wr_ishr 5 C dX6_sideOf_5 ?_
  refine wr_iconst 6 C dX6_sideOf_6 (v := 1) rfl ?_
  refine wr_iand 7 C dX6_sideOf_7 ?_
  exact wr_iret 8 C dX6_sideOf_8 ⟨Nat.zero_le _, Nat.zero_le _⟩ (Option.some.inj hf)
abbrev cX6_marks : ByteArray := prog_11_method_46_code
def yX6_marks : MethodName := ⟨RX6, "marks", "(I)V"⟩
def dkwX6_marks_3 : List UInt8 := [120, 27, 128, 4, 21, 4, 120, 4, 100, 126, 96, 181, 0, 250, 177]
abbrev dktX6_marks_3 : List UInt8 := dkwX6_marks_3 ++ []
def dkwX6_marks_2 : List UInt8 := [62, 28, 6, 162, 0, 9, 28, 4, 96, 167, 0, 4, 6, 54, 4, 42, 4, 21, 4, 120, 4, 100, 29, 4]
abbrev dktX6_marks_2 : List UInt8 := dkwX6_marks_2 ++ dktX6_marks_3
def dkwX6_marks_1 : List UInt8 := [180, 0, 250, 16, 7, 162, 0, 7, 5, 167, 0, 4, 6, 61, 42, 180, 0, 250, 4, 28, 120, 100, 4, 96]
abbrev dktX6_marks_1 : List UInt8 := dkwX6_marks_1 ++ dktX6_marks_2
def dkwX6_marks_0 : List UInt8 := [42, 180, 0, 250, 154, 0, 7, 3, 167, 0, 29, 42, 180, 0, 250, 6, 162, 0, 7, 4, 167, 0, 17, 42]
abbrev dktX6_marks_0 : List UInt8 := dkwX6_marks_0 ++ dktX6_marks_1
theorem dksX6_marks_0 : cX6_marks.data.toList.drop 0 = dktX6_marks_0 := by decide +kernel
theorem dksX6_marks_1 : cX6_marks.data.toList.drop 24 = dktX6_marks_1 := dk_seg dksX6_marks_0 24 rfl rfl
theorem dksX6_marks_2 : cX6_marks.data.toList.drop 48 = dktX6_marks_2 := dk_seg dksX6_marks_1 24 rfl rfl
theorem dksX6_marks_3 : cX6_marks.data.toList.drop 72 = dktX6_marks_3 := dk_seg dksX6_marks_2 24 rfl rfl
theorem dX6_marks_0 : decode cX6_marks 0 = .ok (.aload_n 0, 1) := dk_42 (dk_at dksX6_marks_0 0 rfl rfl)
theorem dX6_marks_1 : decode cX6_marks 1 = .ok (.getfield 250, 3) := dk_180 0 250 (dk_at dksX6_marks_0 1 rfl rfl)
theorem dX6_marks_4 : decode cX6_marks 4 = .ok (.ifCond .ne 7, 3) := dk_154 0 7 (dk_at dksX6_marks_0 4 rfl rfl)
theorem dX6_marks_7 : decode cX6_marks 7 = .ok (.iconst 0, 1) := dk_3 (dk_at dksX6_marks_0 7 rfl rfl)
theorem dX6_marks_8 : decode cX6_marks 8 = .ok (.goto 29, 3) := dk_167 0 29 (dk_at dksX6_marks_0 8 rfl rfl)
theorem dX6_marks_11 : decode cX6_marks 11 = .ok (.aload_n 0, 1) := dk_42 (dk_at dksX6_marks_0 11 rfl rfl)
theorem dX6_marks_12 : decode cX6_marks 12 = .ok (.getfield 250, 3) := dk_180 0 250 (dk_at dksX6_marks_0 12 rfl rfl)
theorem dX6_marks_15 : decode cX6_marks 15 = .ok (.iconst 3, 1) := dk_6 (dk_at dksX6_marks_0 15 rfl rfl)
theorem dX6_marks_16 : decode cX6_marks 16 = .ok (.if_icmp .ge 7, 3) := dk_162 0 7 (dk_at dksX6_marks_0 16 rfl rfl)
theorem dX6_marks_19 : decode cX6_marks 19 = .ok (.iconst 1, 1) := dk_4 (dk_at dksX6_marks_0 19 rfl rfl)
theorem dX6_marks_20 : decode cX6_marks 20 = .ok (.goto 17, 3) := dk_167 0 17 (dk_at dksX6_marks_0 20 rfl rfl)
theorem dX6_marks_23 : decode cX6_marks 23 = .ok (.aload_n 0, 1) := dk_42 (dk_at dksX6_marks_0 23 rfl rfl)
theorem dX6_marks_24 : decode cX6_marks 24 = .ok (.getfield 250, 3) := dk_180 0 250 (dk_at dksX6_marks_1 0 rfl rfl)
theorem dX6_marks_27 : decode cX6_marks 27 = .ok (.bipush 7, 2) := dk_16 7 (dk_at dksX6_marks_1 3 rfl rfl)
theorem dX6_marks_29 : decode cX6_marks 29 = .ok (.if_icmp .ge 7, 3) := dk_162 0 7 (dk_at dksX6_marks_1 5 rfl rfl)
theorem dX6_marks_32 : decode cX6_marks 32 = .ok (.iconst 2, 1) := dk_5 (dk_at dksX6_marks_1 8 rfl rfl)
theorem dX6_marks_33 : decode cX6_marks 33 = .ok (.goto 4, 3) := dk_167 0 4 (dk_at dksX6_marks_1 9 rfl rfl)
theorem dX6_marks_36 : decode cX6_marks 36 = .ok (.iconst 3, 1) := dk_6 (dk_at dksX6_marks_1 12 rfl rfl)
theorem dX6_marks_37 : decode cX6_marks 37 = .ok (.istore_n 2, 1) := dk_61 (dk_at dksX6_marks_1 13 rfl rfl)
theorem dX6_marks_38 : decode cX6_marks 38 = .ok (.aload_n 0, 1) := dk_42 (dk_at dksX6_marks_1 14 rfl rfl)
theorem dX6_marks_39 : decode cX6_marks 39 = .ok (.getfield 250, 3) := dk_180 0 250 (dk_at dksX6_marks_1 15 rfl rfl)
theorem dX6_marks_42 : decode cX6_marks 42 = .ok (.iconst 1, 1) := dk_4 (dk_at dksX6_marks_1 18 rfl rfl)
theorem dX6_marks_43 : decode cX6_marks 43 = .ok (.iload_n 2, 1) := dk_28 (dk_at dksX6_marks_1 19 rfl rfl)
theorem dX6_marks_44 : decode cX6_marks 44 = .ok (.ishl, 1) := dk_120 (dk_at dksX6_marks_1 20 rfl rfl)
theorem dX6_marks_45 : decode cX6_marks 45 = .ok (.isub, 1) := dk_100 (dk_at dksX6_marks_1 21 rfl rfl)
theorem dX6_marks_46 : decode cX6_marks 46 = .ok (.iconst 1, 1) := dk_4 (dk_at dksX6_marks_1 22 rfl rfl)
theorem dX6_marks_47 : decode cX6_marks 47 = .ok (.iadd, 1) := dk_96 (dk_at dksX6_marks_1 23 rfl rfl)
theorem dX6_marks_48 : decode cX6_marks 48 = .ok (.istore_n 3, 1) := dk_62 (dk_at dksX6_marks_2 0 rfl rfl)
theorem dX6_marks_49 : decode cX6_marks 49 = .ok (.iload_n 2, 1) := dk_28 (dk_at dksX6_marks_2 1 rfl rfl)
theorem dX6_marks_50 : decode cX6_marks 50 = .ok (.iconst 3, 1) := dk_6 (dk_at dksX6_marks_2 2 rfl rfl)
theorem dX6_marks_51 : decode cX6_marks 51 = .ok (.if_icmp .ge 9, 3) := dk_162 0 9 (dk_at dksX6_marks_2 3 rfl rfl)
theorem dX6_marks_54 : decode cX6_marks 54 = .ok (.iload_n 2, 1) := dk_28 (dk_at dksX6_marks_2 6 rfl rfl)
theorem dX6_marks_55 : decode cX6_marks 55 = .ok (.iconst 1, 1) := dk_4 (dk_at dksX6_marks_2 7 rfl rfl)
theorem dX6_marks_56 : decode cX6_marks 56 = .ok (.iadd, 1) := dk_96 (dk_at dksX6_marks_2 8 rfl rfl)
theorem dX6_marks_57 : decode cX6_marks 57 = .ok (.goto 4, 3) := dk_167 0 4 (dk_at dksX6_marks_2 9 rfl rfl)
theorem dX6_marks_60 : decode cX6_marks 60 = .ok (.iconst 3, 1) := dk_6 (dk_at dksX6_marks_2 12 rfl rfl)
theorem dX6_marks_61 : decode cX6_marks 61 = .ok (.istore 4, 2) := dk_54 4 (dk_at dksX6_marks_2 13 rfl rfl)
theorem dX6_marks_63 : decode cX6_marks 63 = .ok (.aload_n 0, 1) := dk_42 (dk_at dksX6_marks_2 15 rfl rfl)
theorem dX6_marks_64 : decode cX6_marks 64 = .ok (.iconst 1, 1) := dk_4 (dk_at dksX6_marks_2 16 rfl rfl)
theorem dX6_marks_65 : decode cX6_marks 65 = .ok (.iload 4, 2) := dk_21 4 (dk_at dksX6_marks_2 17 rfl rfl)
theorem dX6_marks_67 : decode cX6_marks 67 = .ok (.ishl, 1) := dk_120 (dk_at dksX6_marks_2 19 rfl rfl)
theorem dX6_marks_68 : decode cX6_marks 68 = .ok (.iconst 1, 1) := dk_4 (dk_at dksX6_marks_2 20 rfl rfl)
theorem dX6_marks_69 : decode cX6_marks 69 = .ok (.isub, 1) := dk_100 (dk_at dksX6_marks_2 21 rfl rfl)
theorem dX6_marks_70 : decode cX6_marks 70 = .ok (.iload_n 3, 1) := dk_29 (dk_at dksX6_marks_2 22 rfl rfl)
theorem dX6_marks_71 : decode cX6_marks 71 = .ok (.iconst 1, 1) := dk_4 (dk_at dksX6_marks_2 23 rfl rfl)
theorem dX6_marks_72 : decode cX6_marks 72 = .ok (.ishl, 1) := dk_120 (dk_at dksX6_marks_3 0 rfl rfl)
theorem dX6_marks_73 : decode cX6_marks 73 = .ok (.iload_n 1, 1) := dk_27 (dk_at dksX6_marks_3 1 rfl rfl)
theorem dX6_marks_74 : decode cX6_marks 74 = .ok (.ior, 1) := dk_128 (dk_at dksX6_marks_3 2 rfl rfl)
theorem dX6_marks_75 : decode cX6_marks 75 = .ok (.iconst 1, 1) := dk_4 (dk_at dksX6_marks_3 3 rfl rfl)
theorem dX6_marks_76 : decode cX6_marks 76 = .ok (.iload 4, 2) := dk_21 4 (dk_at dksX6_marks_3 4 rfl rfl)
theorem dX6_marks_78 : decode cX6_marks 78 = .ok (.ishl, 1) := dk_120 (dk_at dksX6_marks_3 6 rfl rfl)
theorem dX6_marks_79 : decode cX6_marks 79 = .ok (.iconst 1, 1) := dk_4 (dk_at dksX6_marks_3 7 rfl rfl)
theorem dX6_marks_80 : decode cX6_marks 80 = .ok (.isub, 1) := dk_100 (dk_at dksX6_marks_3 8 rfl rfl)
theorem dX6_marks_81 : decode cX6_marks 81 = .ok (.iand, 1) := dk_126 (dk_at dksX6_marks_3 9 rfl rfl)
theorem dX6_marks_82 : decode cX6_marks 82 = .ok (.iadd, 1) := dk_96 (dk_at dksX6_marks_3 10 rfl rfl)
theorem dX6_marks_83 : decode cX6_marks 83 = .ok (.putfield 250, 3) := dk_181 0 250 (dk_at dksX6_marks_3 11 rfl rfl)
theorem dX6_marks_86 : decode cX6_marks 86 = .ok (.return_, 1) := dk_177 (dk_at dksX6_marks_3 14 rfl rfl)
theorem gespM_0_27_X6 {p : Program} {l : Launch} {e : Env} {R : Room} {s : State} {m : MethodId} {args : Array Value} {below : List Frame} {meth : Method} {c : Code} {cc : ByteArray} {nL : Nat} {ret : Option FieldType} {D : va_G} {E : List wCell} {q : Nat → Nat} {ca : wCA} {A : Nat → Prop} {Q : State → Prop} {kc ks : Nat} {μ : wMem} {lv : List (Nat × Value)} {st : List Value} (pc : Nat) (C : wC p R s m args meth c cc "OnePassportModel" nL ret D vwCl (spM ++ E) q ca A) (hd : decode cc pc = .ok (.getfield 250, 3)) (k : wJ p l e R s m args below meth c nL D vwCl (spM ++ E) q ca A Q kc ks μ (pc + 3) lv (.int (μ.1 0 27) :: st)) : wJ p l e R s m args below meth c nL D vwCl (spM ++ E) q ca A Q kc ks μ pc lv (.ref (q 0) :: st) := wr_getI pc 27 C hd spM_0 rfl in_X6 (by decide) rfl q1426 k
theorem okX6_marks : wOkV yX6_marks cX6_marks 5 none 1 := ⟨q1724, qs96, q145, q1725, by decide, by decide, by decide +kernel⟩
def fX6_marks (N : Nat)  (a1 : Int32) (μ : wMem) : Option wMem :=
  wLet (fun (v2 : Int32) (μ1 : wMem) => wLet (((μ1.1 0 27) - ((1 : Int32) <<< (v2 &&& 31))) + (1 : Int32) : Int32) fun x3 => wLet (fun (v5 : Int32) (μ4 : wMem) => wLet (wSI μ4 0 27 ((((1 : Int32) <<< (v5 &&& 31)) - (1 : Int32)) + (((x3 <<< ((1 : Int32) &&& 31)) ||| a1) &&& (((1 : Int32) <<< (v5 &&& 31)) - (1 : Int32))))) fun μ6 => some μ6) fun Jmarks61 => if (3 : Int32) ≤ v2 then Jmarks61 3 μ1 else Jmarks61 (v2 + (1 : Int32)) μ1) fun Jmarks37 => if (μ.1 0 27) = 0 then Jmarks37 0 μ else if (3 : Int32) ≤ (μ.1 0 27) then if (7 : Int32) ≤ (μ.1 0 27) then Jmarks37 3 μ else Jmarks37 2 μ else Jmarks37 1 μ
set_option maxHeartbeats 4000000 in
set_option maxRecDepth 100000 in
theorem tX6_marks (l : Launch) {D : va_G} {E : List wCell} {q : Nat → Nat} {ca : wCA} (N : Nat)   (a1 : Int32) (μ : wMem) (r0 : wMem) (hf : fX6_marks N  a1 μ = some r0) : wMv l yX6_marks cX6_marks 5 none ({ frames := 0, cells := 0, slots := 0, locals := 0 } : Room) D vwCl (spM ++ E) q ca [.ref (q 0), .int a1] μ r0 := by
  refine wMv_intro (by decide) (Nat.le_of_ble_eq_true rfl) ?_
  intro p e s m args below meth c A C
  unfold fX6_marks at hf
  refine wr_sub [(0, .ref (q 0)), (1, .int a1)] [0, 1] rfl ?_
  refine wr_aload_n 0 C dX6_marks_0 0 rfl rfl ?_
  refine gespM_0_27_X6 1 C dX6_marks_1 ?_
  obtain ⟨Jmarks37, eJmarks37, hf⟩ := o_let hf
  have hJmarks37 : ∀ (v2 : Int32) (μ1 : wMem), Jmarks37 v2 μ1 = some r0 → wJ p l e ({ frames := 0, cells := 0, slots := 0, locals := 0 } : Room) s m args below meth c 5 D vwCl (spM ++ E) q ca A (wQv ({ frames := 0, cells := 0, slots := 0, locals := 0 } : Room) D vwCl (spM ++ E) q ca below args s A r0) 0 0 μ1 37 [(0, .ref (q 0)), (1, .int a1)] [.int v2] := by
    intro v2 μ1 hf
    rw [eJmarks37] at hf
    refine wr_istore_n 37 [(2, .int v2), (0, .ref (q 0)), (1, .int a1)] C dX6_marks_37 rfl rfl (Nat.le_of_ble_eq_true rfl) rfl ?_
    refine wr_aload_n 38 C dX6_marks_38 1 rfl rfl ?_
    refine gespM_0_27_X6 39 C dX6_marks_39 ?_
    refine wr_iconst 42 C dX6_marks_42 (v := 1) rfl ?_
    refine wr_iload_n 43 C dX6_marks_43 0 rfl rfl ?_
    refine wr_ishl 44 C dX6_marks_44 ?_
    refine wr_isub 45 C dX6_marks_45 ?_
    refine wr_iconst 46 C dX6_marks_46 (v := 1) rfl ?_
    refine wr_iadd 47 C dX6_marks_47 ?_
    obtain ⟨x3, ex3, hf⟩ := o_let hf
    refine wr_istore_n 48 [(3, .int x3), (2, .int v2), (0, .ref (q 0)), (1, .int a1)] C dX6_marks_48 ex3 rfl (Nat.le_of_ble_eq_true rfl) rfl ?_
    refine wr_iload_n 49 C dX6_marks_49 1 rfl rfl ?_
    refine wr_iconst 50 C dX6_marks_50 (v := 3) rfl ?_
    obtain ⟨Jmarks61, eJmarks61, hf⟩ := o_let hf
    have hJmarks61 : ∀ (v5 : Int32) (μ4 : wMem), Jmarks61 v5 μ4 = some r0 → wJ p l e ({ frames := 0, cells := 0, slots := 0, locals := 0 } : Room) s m args below meth c 5 D vwCl (spM ++ E) q ca A (wQv ({ frames := 0, cells := 0, slots := 0, locals := 0 } : Room) D vwCl (spM ++ E) q ca below args s A r0) 0 0 μ4 61 [(0, .ref (q 0)), (1, .int a1), (3, .int x3)] [.int v5] := by
      intro v5 μ4 hf
      rw [eJmarks61] at hf
      refine wr_istore 61 [(4, .int v5), (0, .ref (q 0)), (1, .int a1), (3, .int x3)] C dX6_marks_61 rfl (Nat.le_of_ble_eq_true rfl) rfl ?_
      refine wr_aload_n 63 C dX6_marks_63 1 rfl rfl ?_
      refine wr_iconst 64 C dX6_marks_64 (v := 1) rfl ?_
      refine wr_iload 65 C dX6_marks_65 0 rfl ?_
      refine wr_ishl 67 C dX6_marks_67 ?_
      refine wr_iconst 68 C dX6_marks_68 (v := 1) rfl ?_
      refine wr_isub 69 C dX6_marks_69 ?_
      refine wr_iload_n 70 C dX6_marks_70 3 rfl rfl ?_
      refine wr_iconst 71 C dX6_marks_71 (v := 1) rfl ?_
      refine wr_ishl 72 C dX6_marks_72 ?_
      refine wr_iload_n 73 C dX6_marks_73 2 rfl rfl ?_
      refine wr_ior 74 C dX6_marks_74 ?_
      refine wr_iconst 75 C dX6_marks_75 (v := 1) rfl ?_
      refine wr_iload 76 C dX6_marks_76 0 rfl ?_
      refine wr_ishl 78 C dX6_marks_78 ?_
      refine wr_iconst 79 C dX6_marks_79 (v := 1) rfl ?_
      refine wr_isub 80 C dX6_marks_80 ?_
      refine wr_iand 81 C dX6_marks_81 ?_
      refine wr_iadd 82 C dX6_marks_82 ?_
      obtain ⟨μ6, eμ6, hf⟩ := o_let hf
      refine puspM_0_27_X6 83 C dX6_marks_83 eμ6 ?_
      exact wr_vret 86 C dX6_marks_86 ⟨Nat.zero_le _, Nat.zero_le _⟩ (Option.some.inj hf)
    refine wr_icmp_ge 51 60 C dX6_marks_51 (by decide) (fun c7 => ?_) (fun c7 => ?_)
    · replace hf := o_pos c7 hf
      refine wr_iconst 60 C dX6_marks_60 (v := 3) rfl ?_
      refine wr_sub [(0, .ref (q 0)), (1, .int a1), (3, .int x3)] [2, 3, 0] rfl ?_
      exact hJmarks61 3 μ1 hf
    · replace hf := o_neg c7 hf
      refine wr_iload_n 54 C dX6_marks_54 1 rfl rfl ?_
      refine wr_iconst 55 C dX6_marks_55 (v := 1) rfl ?_
      refine wr_iadd 56 C dX6_marks_56 ?_
      refine wr_goto 57 C dX6_marks_57 (tgt := 61) (by decide) ?_
      refine wr_sub [(0, .ref (q 0)), (1, .int a1), (3, .int x3)] [2, 3, 0] rfl ?_
      exact hJmarks61 (v2 + (1 : Int32)) μ1 hf
  refine wr_if_ne 4 11 C dX6_marks_4 (by decide) (fun c8 => ?_) (fun c8 => ?_)
  · replace hf := o_neg c8 hf
    refine wr_aload_n 11 C dX6_marks_11 0 rfl rfl ?_
    refine gespM_0_27_X6 12 C dX6_marks_12 ?_
    refine wr_iconst 15 C dX6_marks_15 (v := 3) rfl ?_
    refine wr_icmp_ge 16 23 C dX6_marks_16 (by decide) (fun c9 => ?_) (fun c9 => ?_)
    · replace hf := o_pos c9 hf
      refine wr_aload_n 23 C dX6_marks_23 0 rfl rfl ?_
      refine gespM_0_27_X6 24 C dX6_marks_24 ?_
      refine wr_bipush 27 C dX6_marks_27 (v := 7) rfl ?_
      refine wr_icmp_ge 29 36 C dX6_marks_29 (by decide) (fun c10 => ?_) (fun c10 => ?_)
      · replace hf := o_pos c10 hf
        refine wr_iconst 36 C dX6_marks_36 (v := 3) rfl ?_
        exact hJmarks37 3 μ hf
      · replace hf := o_neg c10 hf
        refine wr_iconst 32 C dX6_marks_32 (v := 2) rfl ?_
        refine wr_goto 33 C dX6_marks_33 (tgt := 37) (by decide) ?_
        exact hJmarks37 2 μ hf
    · replace hf := o_neg c9 hf
      refine wr_iconst 19 C dX6_marks_19 (v := 1) rfl ?_
      refine wr_goto 20 C dX6_marks_20 (tgt := 37) (by decide) ?_
      exact hJmarks37 1 μ hf
  · replace hf := o_pos c8 hf
    refine wr_iconst 7 C dX6_marks_7 (v := 0) rfl ?_
    refine wr_goto 8 C dX6_marks_8 (tgt := 37) (by decide) ?_
    exact hJmarks37 0 μ hf
abbrev cX6_crosses : ByteArray := prog_11_method_47_code
def yX6_crosses : MethodName := ⟨RX6, "crosses", "(III)V"⟩
def dkwX6_crosses_4 : List UInt8 := [159, 0, 8, 21, 5, 153, 0, 10, 42, 27, 4, 96, 181, 0, 247, 177]
abbrev dktX6_crosses_4 : List UInt8 := dkwX6_crosses_4 ++ []
def dkwX6_crosses_3 : List UInt8 := [21, 5, 153, 0, 10, 42, 27, 4, 96, 181, 0, 244, 42, 180, 0, 34, 6, 46, 4, 164, 0, 20, 29, 4]
abbrev dktX6_crosses_3 : List UInt8 := dkwX6_crosses_3 ++ dktX6_crosses_4
def dkwX6_crosses_2 : List UInt8 := [182, 1, 10, 42, 180, 0, 34, 4, 46, 4, 160, 0, 7, 4, 167, 0, 4, 3, 54, 5, 29, 153, 0, 8]
abbrev dktX6_crosses_2 : List UInt8 := dkwX6_crosses_2 ++ dktX6_crosses_3
def dkwX6_crosses_1 : List UInt8 := [42, 89, 180, 0, 238, 4, 28, 120, 130, 181, 0, 238, 42, 4, 21, 4, 100, 181, 0, 241, 42, 21, 4]
abbrev dktX6_crosses_1 : List UInt8 := dkwX6_crosses_1 ++ dktX6_crosses_2
def dkwX6_crosses_0 : List UInt8 := [42, 27, 182, 0, 253, 54, 4, 42, 89, 180, 0, 238, 4, 27, 120, 130, 181, 0, 238, 28, 2, 159, 0, 15]
abbrev dktX6_crosses_0 : List UInt8 := dkwX6_crosses_0 ++ dktX6_crosses_1
theorem dksX6_crosses_0 : cX6_crosses.data.toList.drop 0 = dktX6_crosses_0 := by decide +kernel
theorem dksX6_crosses_1 : cX6_crosses.data.toList.drop 24 = dktX6_crosses_1 := dk_seg dksX6_crosses_0 24 rfl rfl
theorem dksX6_crosses_2 : cX6_crosses.data.toList.drop 47 = dktX6_crosses_2 := dk_seg dksX6_crosses_1 23 rfl rfl
theorem dksX6_crosses_3 : cX6_crosses.data.toList.drop 71 = dktX6_crosses_3 := dk_seg dksX6_crosses_2 24 rfl rfl
theorem dksX6_crosses_4 : cX6_crosses.data.toList.drop 95 = dktX6_crosses_4 := dk_seg dksX6_crosses_3 24 rfl rfl
theorem dX6_crosses_0 : decode cX6_crosses 0 = .ok (.aload_n 0, 1) := dk_42 (dk_at dksX6_crosses_0 0 rfl rfl)
theorem dX6_crosses_1 : decode cX6_crosses 1 = .ok (.iload_n 1, 1) := dk_27 (dk_at dksX6_crosses_0 1 rfl rfl)
theorem dX6_crosses_2 : decode cX6_crosses 2 = .ok (.invokevirtual 253, 3) := dk_182 0 253 (dk_at dksX6_crosses_0 2 rfl rfl)
theorem dX6_crosses_5 : decode cX6_crosses 5 = .ok (.istore 4, 2) := dk_54 4 (dk_at dksX6_crosses_0 5 rfl rfl)
theorem dX6_crosses_7 : decode cX6_crosses 7 = .ok (.aload_n 0, 1) := dk_42 (dk_at dksX6_crosses_0 7 rfl rfl)
theorem dX6_crosses_8 : decode cX6_crosses 8 = .ok (.dup, 1) := dk_89 (dk_at dksX6_crosses_0 8 rfl rfl)
theorem dX6_crosses_9 : decode cX6_crosses 9 = .ok (.getfield 238, 3) := dk_180 0 238 (dk_at dksX6_crosses_0 9 rfl rfl)
theorem dX6_crosses_12 : decode cX6_crosses 12 = .ok (.iconst 1, 1) := dk_4 (dk_at dksX6_crosses_0 12 rfl rfl)
theorem dX6_crosses_13 : decode cX6_crosses 13 = .ok (.iload_n 1, 1) := dk_27 (dk_at dksX6_crosses_0 13 rfl rfl)
theorem dX6_crosses_14 : decode cX6_crosses 14 = .ok (.ishl, 1) := dk_120 (dk_at dksX6_crosses_0 14 rfl rfl)
theorem dX6_crosses_15 : decode cX6_crosses 15 = .ok (.ixor, 1) := dk_130 (dk_at dksX6_crosses_0 15 rfl rfl)
theorem dX6_crosses_16 : decode cX6_crosses 16 = .ok (.putfield 238, 3) := dk_181 0 238 (dk_at dksX6_crosses_0 16 rfl rfl)
theorem dX6_crosses_19 : decode cX6_crosses 19 = .ok (.iload_n 2, 1) := dk_28 (dk_at dksX6_crosses_0 19 rfl rfl)
theorem dX6_crosses_20 : decode cX6_crosses 20 = .ok (.iconst (-1), 1) := dk_2 (dk_at dksX6_crosses_0 20 rfl rfl)
theorem dX6_crosses_21 : decode cX6_crosses 21 = .ok (.if_icmp .eq 15, 3) := dk_159 0 15 (dk_at dksX6_crosses_0 21 rfl rfl)
theorem dX6_crosses_24 : decode cX6_crosses 24 = .ok (.aload_n 0, 1) := dk_42 (dk_at dksX6_crosses_1 0 rfl rfl)
theorem dX6_crosses_25 : decode cX6_crosses 25 = .ok (.dup, 1) := dk_89 (dk_at dksX6_crosses_1 1 rfl rfl)
theorem dX6_crosses_26 : decode cX6_crosses 26 = .ok (.getfield 238, 3) := dk_180 0 238 (dk_at dksX6_crosses_1 2 rfl rfl)
theorem dX6_crosses_29 : decode cX6_crosses 29 = .ok (.iconst 1, 1) := dk_4 (dk_at dksX6_crosses_1 5 rfl rfl)
theorem dX6_crosses_30 : decode cX6_crosses 30 = .ok (.iload_n 2, 1) := dk_28 (dk_at dksX6_crosses_1 6 rfl rfl)
theorem dX6_crosses_31 : decode cX6_crosses 31 = .ok (.ishl, 1) := dk_120 (dk_at dksX6_crosses_1 7 rfl rfl)
theorem dX6_crosses_32 : decode cX6_crosses 32 = .ok (.ixor, 1) := dk_130 (dk_at dksX6_crosses_1 8 rfl rfl)
theorem dX6_crosses_33 : decode cX6_crosses 33 = .ok (.putfield 238, 3) := dk_181 0 238 (dk_at dksX6_crosses_1 9 rfl rfl)
theorem dX6_crosses_36 : decode cX6_crosses 36 = .ok (.aload_n 0, 1) := dk_42 (dk_at dksX6_crosses_1 12 rfl rfl)
theorem dX6_crosses_37 : decode cX6_crosses 37 = .ok (.iconst 1, 1) := dk_4 (dk_at dksX6_crosses_1 13 rfl rfl)
theorem dX6_crosses_38 : decode cX6_crosses 38 = .ok (.iload 4, 2) := dk_21 4 (dk_at dksX6_crosses_1 14 rfl rfl)
theorem dX6_crosses_40 : decode cX6_crosses 40 = .ok (.isub, 1) := dk_100 (dk_at dksX6_crosses_1 16 rfl rfl)
theorem dX6_crosses_41 : decode cX6_crosses 41 = .ok (.putfield 241, 3) := dk_181 0 241 (dk_at dksX6_crosses_1 17 rfl rfl)
theorem dX6_crosses_44 : decode cX6_crosses 44 = .ok (.aload_n 0, 1) := dk_42 (dk_at dksX6_crosses_1 20 rfl rfl)
theorem dX6_crosses_45 : decode cX6_crosses 45 = .ok (.iload 4, 2) := dk_21 4 (dk_at dksX6_crosses_1 21 rfl rfl)
theorem dX6_crosses_47 : decode cX6_crosses 47 = .ok (.invokevirtual 266, 3) := dk_182 1 10 (dk_at dksX6_crosses_2 0 rfl rfl)
theorem dX6_crosses_50 : decode cX6_crosses 50 = .ok (.aload_n 0, 1) := dk_42 (dk_at dksX6_crosses_2 3 rfl rfl)
theorem dX6_crosses_51 : decode cX6_crosses 51 = .ok (.getfield 34, 3) := dk_180 0 34 (dk_at dksX6_crosses_2 4 rfl rfl)
theorem dX6_crosses_54 : decode cX6_crosses 54 = .ok (.iconst 1, 1) := dk_4 (dk_at dksX6_crosses_2 7 rfl rfl)
theorem dX6_crosses_55 : decode cX6_crosses 55 = .ok (.iaload, 1) := dk_46 (dk_at dksX6_crosses_2 8 rfl rfl)
theorem dX6_crosses_56 : decode cX6_crosses 56 = .ok (.iconst 1, 1) := dk_4 (dk_at dksX6_crosses_2 9 rfl rfl)
theorem dX6_crosses_57 : decode cX6_crosses 57 = .ok (.if_icmp .ne 7, 3) := dk_160 0 7 (dk_at dksX6_crosses_2 10 rfl rfl)
theorem dX6_crosses_60 : decode cX6_crosses 60 = .ok (.iconst 1, 1) := dk_4 (dk_at dksX6_crosses_2 13 rfl rfl)
theorem dX6_crosses_61 : decode cX6_crosses 61 = .ok (.goto 4, 3) := dk_167 0 4 (dk_at dksX6_crosses_2 14 rfl rfl)
theorem dX6_crosses_64 : decode cX6_crosses 64 = .ok (.iconst 0, 1) := dk_3 (dk_at dksX6_crosses_2 17 rfl rfl)
theorem dX6_crosses_65 : decode cX6_crosses 65 = .ok (.istore 5, 2) := dk_54 5 (dk_at dksX6_crosses_2 18 rfl rfl)
theorem dX6_crosses_67 : decode cX6_crosses 67 = .ok (.iload_n 3, 1) := dk_29 (dk_at dksX6_crosses_2 20 rfl rfl)
theorem dX6_crosses_68 : decode cX6_crosses 68 = .ok (.ifCond .eq 8, 3) := dk_153 0 8 (dk_at dksX6_crosses_2 21 rfl rfl)
theorem dX6_crosses_71 : decode cX6_crosses 71 = .ok (.iload 5, 2) := dk_21 5 (dk_at dksX6_crosses_3 0 rfl rfl)
theorem dX6_crosses_73 : decode cX6_crosses 73 = .ok (.ifCond .eq 10, 3) := dk_153 0 10 (dk_at dksX6_crosses_3 2 rfl rfl)
theorem dX6_crosses_76 : decode cX6_crosses 76 = .ok (.aload_n 0, 1) := dk_42 (dk_at dksX6_crosses_3 5 rfl rfl)
theorem dX6_crosses_77 : decode cX6_crosses 77 = .ok (.iload_n 1, 1) := dk_27 (dk_at dksX6_crosses_3 6 rfl rfl)
theorem dX6_crosses_78 : decode cX6_crosses 78 = .ok (.iconst 1, 1) := dk_4 (dk_at dksX6_crosses_3 7 rfl rfl)
theorem dX6_crosses_79 : decode cX6_crosses 79 = .ok (.iadd, 1) := dk_96 (dk_at dksX6_crosses_3 8 rfl rfl)
theorem dX6_crosses_80 : decode cX6_crosses 80 = .ok (.putfield 244, 3) := dk_181 0 244 (dk_at dksX6_crosses_3 9 rfl rfl)
theorem dX6_crosses_83 : decode cX6_crosses 83 = .ok (.aload_n 0, 1) := dk_42 (dk_at dksX6_crosses_3 12 rfl rfl)
theorem dX6_crosses_84 : decode cX6_crosses 84 = .ok (.getfield 34, 3) := dk_180 0 34 (dk_at dksX6_crosses_3 13 rfl rfl)
theorem dX6_crosses_87 : decode cX6_crosses 87 = .ok (.iconst 3, 1) := dk_6 (dk_at dksX6_crosses_3 16 rfl rfl)
theorem dX6_crosses_88 : decode cX6_crosses 88 = .ok (.iaload, 1) := dk_46 (dk_at dksX6_crosses_3 17 rfl rfl)
theorem dX6_crosses_89 : decode cX6_crosses 89 = .ok (.iconst 1, 1) := dk_4 (dk_at dksX6_crosses_3 18 rfl rfl)
theorem dX6_crosses_90 : decode cX6_crosses 90 = .ok (.if_icmp .le 20, 3) := dk_164 0 20 (dk_at dksX6_crosses_3 19 rfl rfl)
theorem dX6_crosses_93 : decode cX6_crosses 93 = .ok (.iload_n 3, 1) := dk_29 (dk_at dksX6_crosses_3 22 rfl rfl)
theorem dX6_crosses_94 : decode cX6_crosses 94 = .ok (.iconst 1, 1) := dk_4 (dk_at dksX6_crosses_3 23 rfl rfl)
theorem dX6_crosses_95 : decode cX6_crosses 95 = .ok (.if_icmp .eq 8, 3) := dk_159 0 8 (dk_at dksX6_crosses_4 0 rfl rfl)
theorem dX6_crosses_98 : decode cX6_crosses 98 = .ok (.iload 5, 2) := dk_21 5 (dk_at dksX6_crosses_4 3 rfl rfl)
theorem dX6_crosses_100 : decode cX6_crosses 100 = .ok (.ifCond .eq 10, 3) := dk_153 0 10 (dk_at dksX6_crosses_4 5 rfl rfl)
theorem dX6_crosses_103 : decode cX6_crosses 103 = .ok (.aload_n 0, 1) := dk_42 (dk_at dksX6_crosses_4 8 rfl rfl)
theorem dX6_crosses_104 : decode cX6_crosses 104 = .ok (.iload_n 1, 1) := dk_27 (dk_at dksX6_crosses_4 9 rfl rfl)
theorem dX6_crosses_105 : decode cX6_crosses 105 = .ok (.iconst 1, 1) := dk_4 (dk_at dksX6_crosses_4 10 rfl rfl)
theorem dX6_crosses_106 : decode cX6_crosses 106 = .ok (.iadd, 1) := dk_96 (dk_at dksX6_crosses_4 11 rfl rfl)
theorem dX6_crosses_107 : decode cX6_crosses 107 = .ok (.putfield 247, 3) := dk_181 0 247 (dk_at dksX6_crosses_4 12 rfl rfl)
theorem dX6_crosses_110 : decode cX6_crosses 110 = .ok (.return_, 1) := dk_177 (dk_at dksX6_crosses_4 15 rfl rfl)

theorem okX6_crosses : wOkV yX6_crosses cX6_crosses 6 none 3 := ⟨q1716, qs94, q145, q1717, by decide, by decide, by decide +kernel⟩
def fX6_crosses (N : Nat)  (a1 : Int32) (a2 : Int32) (a3 : Int32) (μ : wMem) : Option wMem :=
  wBind (fX6_sideOf N  a1 μ) fun v3 μ2 => wLet (wSI μ2 0 23 ((μ2.1 0 23) ^^^ ((1 : Int32) <<< (a1 &&& 31)))) fun μ4 => wLet (fun  (μ5 : wMem) => wLet (wSI μ5 0 24 ((1 : Int32) - v3)) fun μ6 => wBindV (fX6_marks N  v3 μ6) fun μ8 => wG (ok_in (1 : Int32) 35) (wLet (fun (v11 : Int32) (μ10 : wMem) => wLet (fun  (μ12 : wMem) => wG (ok_in (3 : Int32) 35) (if (μ12.1 7 (Int32.toNatClampNeg (3 : Int32))) ≤ (1 : Int32) then some μ12 else wLet (fun  (μ15 : wMem) => wLet (wSI μ15 0 26 (a1 + (1 : Int32))) fun μ16 => some μ16) fun Jcrosses103 => if a3 = (1 : Int32) then Jcrosses103  μ12 else if v11 = 0 then some μ12 else Jcrosses103  μ12)) fun Jcrosses83 => wLet (fun  (μ19 : wMem) => wLet (wSI μ19 0 25 (a1 + (1 : Int32))) fun μ20 => Jcrosses83  μ20) fun Jcrosses76 => if a3 = 0 then Jcrosses76  μ10 else if v11 = 0 then Jcrosses83  μ10 else Jcrosses76  μ10) fun Jcrosses65 => if (μ8.1 7 (Int32.toNatClampNeg (1 : Int32))) = (1 : Int32) then Jcrosses65 1 μ8 else Jcrosses65 0 μ8)) fun Jcrosses36 => if a2 = (-1 : Int32) then Jcrosses36  μ4 else wLet (wSI μ4 0 23 ((μ4.1 0 23) ^^^ ((1 : Int32) <<< (a2 &&& 31)))) fun μ25 => Jcrosses36  μ25
set_option maxHeartbeats 4000000 in
set_option maxRecDepth 100000 in
theorem tX6_crosses (l : Launch) {D : va_G} {E : List wCell} {q : Nat → Nat} {ca : wCA} (N : Nat)   (a1 : Int32) (a2 : Int32) (a3 : Int32) (μ : wMem) (r0 : wMem) (hf : fX6_crosses N  a1 a2 a3 μ = some r0) : wMv l yX6_crosses cX6_crosses 6 none ({ frames := 1, cells := 0, slots := 0, locals := 24 } : Room) D vwCl (spM ++ E) q ca [.ref (q 0), .int a1, .int a2, .int a3] μ r0 := by
  refine wMv_intro (by decide) (Nat.le_of_ble_eq_true rfl) ?_
  intro p e s m args below meth c A C
  unfold fX6_crosses at hf
  refine wr_sub [(0, .ref (q 0)), (1, .int a1), (2, .int a2), (3, .int a3)] [0, 1, 2, 3] rfl ?_
  refine wr_aload_n 0 C dX6_crosses_0 0 rfl rfl ?_
  refine wr_iload_n 1 C dX6_crosses_1 1 rfl rfl ?_
  obtain ⟨v3, μ2, h1, hf⟩ := o_bind hf
  refine wr_Vi (kc1 := 0) (ks1 := 0) 2 [] C dX6_crosses_2 (tX6_sideOf l N   a1 μ (v3, μ2) h1) okX6_sideOf q1718 (b := 0) spM_0 rfl ⟨rfl, rfl, Nat.le_of_ble_eq_true rfl, Nat.le_of_ble_eq_true rfl, Nat.zero_le _, Nat.zero_le _⟩ (Nat.le_of_ble_eq_true rfl) rfl ?_
  refine wr_istore 5 [(4, .int v3), (0, .ref (q 0)), (1, .int a1), (2, .int a2), (3, .int a3)] C dX6_crosses_5 rfl (Nat.le_of_ble_eq_true rfl) rfl ?_
  refine wr_aload_n 7 C dX6_crosses_7 1 rfl rfl ?_
  refine wr_dup 8 C dX6_crosses_8 rfl ?_
  refine gespM_0_23_X6 9 C dX6_crosses_9 ?_
  refine wr_iconst 12 C dX6_crosses_12 (v := 1) rfl ?_
  refine wr_iload_n 13 C dX6_crosses_13 2 rfl rfl ?_
  refine wr_ishl 14 C dX6_crosses_14 ?_
  refine wr_ixor 15 C dX6_crosses_15 ?_
  obtain ⟨μ4, eμ4, hf⟩ := o_let hf
  refine puspM_0_23_X6 16 C dX6_crosses_16 eμ4 ?_
  refine wr_iload_n 19 C dX6_crosses_19 3 rfl rfl ?_
  refine wr_iconst 20 C dX6_crosses_20 (v := (-1)) rfl ?_
  obtain ⟨Jcrosses36, eJcrosses36, hf⟩ := o_let hf
  have hJcrosses36 : ∀  (μ5 : wMem), Jcrosses36  μ5 = some r0 → wJ p l e ({ frames := 1, cells := 0, slots := 0, locals := 24 } : Room) s m args below meth c 6 D vwCl (spM ++ E) q ca A (wQv ({ frames := 1, cells := 0, slots := 0, locals := 24 } : Room) D vwCl (spM ++ E) q ca below args s A r0) 0 0 μ5 36 [(0, .ref (q 0)), (1, .int a1), (3, .int a3), (4, .int v3)] [] := by
    intro  μ5 hf
    rw [eJcrosses36] at hf
    refine wr_aload_n 36 C dX6_crosses_36 0 rfl rfl ?_
    refine wr_iconst 37 C dX6_crosses_37 (v := 1) rfl ?_
    refine wr_iload 38 C dX6_crosses_38 3 rfl ?_
    refine wr_isub 40 C dX6_crosses_40 ?_
    obtain ⟨μ6, eμ6, hf⟩ := o_let hf
    refine puspM_0_24_X6 41 C dX6_crosses_41 eμ6 ?_
    refine wr_aload_n 44 C dX6_crosses_44 0 rfl rfl ?_
    refine wr_iload 45 C dX6_crosses_45 3 rfl ?_
    obtain ⟨μ8, h7, hf⟩ := o_bindV hf
    refine wr_Vv (kc1 := 0) (ks1 := 0) 47 [] C dX6_crosses_47 (tX6_marks l N   v3 μ6 μ8 h7) okX6_marks q1722 (b := 0) spM_0 rfl ⟨rfl, rfl, Nat.le_of_ble_eq_true rfl, Nat.le_of_ble_eq_true rfl, Nat.zero_le _, Nat.zero_le _⟩ (Nat.le_of_ble_eq_true rfl) rfl ?_
    refine wr_aload_n 50 C dX6_crosses_50 0 rfl rfl ?_
    refine gespM_0_17_X6 51 C dX6_crosses_51 ?_
    refine wr_iconst 54 C dX6_crosses_54 (v := 1) rfl ?_
    obtain ⟨g9, hf⟩ := o_g hf
    refine wr_iald 55 C dX6_crosses_55 spM_7 g9 ?_
    refine wr_iconst 56 C dX6_crosses_56 (v := 1) rfl ?_
    obtain ⟨Jcrosses65, eJcrosses65, hf⟩ := o_let hf
    have hJcrosses65 : ∀ (v11 : Int32) (μ10 : wMem), Jcrosses65 v11 μ10 = some r0 → wJ p l e ({ frames := 1, cells := 0, slots := 0, locals := 24 } : Room) s m args below meth c 6 D vwCl (spM ++ E) q ca A (wQv ({ frames := 1, cells := 0, slots := 0, locals := 24 } : Room) D vwCl (spM ++ E) q ca below args s A r0) 0 0 μ10 65 [(0, .ref (q 0)), (1, .int a1), (3, .int a3)] [.int v11] := by
      intro v11 μ10 hf
      rw [eJcrosses65] at hf
      refine wr_istore 65 [(5, .int v11), (0, .ref (q 0)), (1, .int a1), (3, .int a3)] C dX6_crosses_65 rfl (Nat.le_of_ble_eq_true rfl) rfl ?_
      refine wr_iload_n 67 C dX6_crosses_67 3 rfl rfl ?_
      obtain ⟨Jcrosses83, eJcrosses83, hf⟩ := o_let hf
      have hJcrosses83 : ∀  (μ12 : wMem), Jcrosses83  μ12 = some r0 → wJ p l e ({ frames := 1, cells := 0, slots := 0, locals := 24 } : Room) s m args below meth c 6 D vwCl (spM ++ E) q ca A (wQv ({ frames := 1, cells := 0, slots := 0, locals := 24 } : Room) D vwCl (spM ++ E) q ca below args s A r0) 0 0 μ12 83 [(0, .ref (q 0)), (1, .int a1), (3, .int a3), (5, .int v11)] [] := by
        intro  μ12 hf
        rw [eJcrosses83] at hf
        refine wr_aload_n 83 C dX6_crosses_83 0 rfl rfl ?_
        refine gespM_0_17_X6 84 C dX6_crosses_84 ?_
        refine wr_iconst 87 C dX6_crosses_87 (v := 3) rfl ?_
        obtain ⟨g13, hf⟩ := o_g hf
        refine wr_iald 88 C dX6_crosses_88 spM_7 g13 ?_
        refine wr_iconst 89 C dX6_crosses_89 (v := 1) rfl ?_
        refine wr_icmp_le 90 110 C dX6_crosses_90 (by decide) (fun c14 => ?_) (fun c14 => ?_)
        · replace hf := o_pos c14 hf
          exact wr_vret 110 C dX6_crosses_110 ⟨Nat.zero_le _, Nat.zero_le _⟩ (Option.some.inj hf)
        · replace hf := o_neg c14 hf
          refine wr_iload_n 93 C dX6_crosses_93 2 rfl rfl ?_
          refine wr_iconst 94 C dX6_crosses_94 (v := 1) rfl ?_
          obtain ⟨Jcrosses103, eJcrosses103, hf⟩ := o_let hf
          have hJcrosses103 : ∀  (μ15 : wMem), Jcrosses103  μ15 = some r0 → wJ p l e ({ frames := 1, cells := 0, slots := 0, locals := 24 } : Room) s m args below meth c 6 D vwCl (spM ++ E) q ca A (wQv ({ frames := 1, cells := 0, slots := 0, locals := 24 } : Room) D vwCl (spM ++ E) q ca below args s A r0) 0 0 μ15 103 [(0, .ref (q 0)), (1, .int a1)] [] := by
            intro  μ15 hf
            rw [eJcrosses103] at hf
            refine wr_aload_n 103 C dX6_crosses_103 0 rfl rfl ?_
            refine wr_iload_n 104 C dX6_crosses_104 1 rfl rfl ?_
            refine wr_iconst 105 C dX6_crosses_105 (v := 1) rfl ?_
            refine wr_iadd 106 C dX6_crosses_106 ?_
            obtain ⟨μ16, eμ16, hf⟩ := o_let hf
            refine puspM_0_26_X6 107 C dX6_crosses_107 eμ16 ?_
            exact wr_vret 110 C dX6_crosses_110 ⟨Nat.zero_le _, Nat.zero_le _⟩ (Option.some.inj hf)
          refine wr_icmp_eq 95 103 C dX6_crosses_95 (by decide) (fun c17 => ?_) (fun c17 => ?_)
          · replace hf := o_pos c17 hf
            refine wr_sub [(0, .ref (q 0)), (1, .int a1)] [0, 1] rfl ?_
            exact hJcrosses103  μ12 hf
          · replace hf := o_neg c17 hf
            refine wr_iload 98 C dX6_crosses_98 3 rfl ?_
            refine wr_if_eq 100 110 C dX6_crosses_100 (by decide) (fun c18 => ?_) (fun c18 => ?_)
            · replace hf := o_pos c18 hf
              exact wr_vret 110 C dX6_crosses_110 ⟨Nat.zero_le _, Nat.zero_le _⟩ (Option.some.inj hf)
            · replace hf := o_neg c18 hf
              refine wr_sub [(0, .ref (q 0)), (1, .int a1)] [0, 1] rfl ?_
              exact hJcrosses103  μ12 hf
      obtain ⟨Jcrosses76, eJcrosses76, hf⟩ := o_let hf
      have hJcrosses76 : ∀  (μ19 : wMem), Jcrosses76  μ19 = some r0 → wJ p l e ({ frames := 1, cells := 0, slots := 0, locals := 24 } : Room) s m args below meth c 6 D vwCl (spM ++ E) q ca A (wQv ({ frames := 1, cells := 0, slots := 0, locals := 24 } : Room) D vwCl (spM ++ E) q ca below args s A r0) 0 0 μ19 76 [(0, .ref (q 0)), (1, .int a1), (3, .int a3), (5, .int v11)] [] := by
        intro  μ19 hf
        rw [eJcrosses76] at hf
        refine wr_aload_n 76 C dX6_crosses_76 0 rfl rfl ?_
        refine wr_iload_n 77 C dX6_crosses_77 1 rfl rfl ?_
        refine wr_iconst 78 C dX6_crosses_78 (v := 1) rfl ?_
        refine wr_iadd 79 C dX6_crosses_79 ?_
        obtain ⟨μ20, eμ20, hf⟩ := o_let hf
        refine puspM_0_25_X6 80 C dX6_crosses_80 eμ20 ?_
        exact hJcrosses83  μ20 hf
      refine wr_if_eq 68 76 C dX6_crosses_68 (by decide) (fun c21 => ?_) (fun c21 => ?_)
      · replace hf := o_pos c21 hf
        refine wr_sub [(0, .ref (q 0)), (1, .int a1), (3, .int a3), (5, .int v11)] [1, 2, 3, 0] rfl ?_
        exact hJcrosses76  μ10 hf
      · replace hf := o_neg c21 hf
        refine wr_iload 71 C dX6_crosses_71 0 rfl ?_
        refine wr_if_eq 73 83 C dX6_crosses_73 (by decide) (fun c22 => ?_) (fun c22 => ?_)
        · replace hf := o_pos c22 hf
          refine wr_sub [(0, .ref (q 0)), (1, .int a1), (3, .int a3), (5, .int v11)] [1, 2, 3, 0] rfl ?_
          exact hJcrosses83  μ10 hf
        · replace hf := o_neg c22 hf
          refine wr_sub [(0, .ref (q 0)), (1, .int a1), (3, .int a3), (5, .int v11)] [1, 2, 3, 0] rfl ?_
          exact hJcrosses76  μ10 hf
    refine wr_icmp_ne 57 64 C dX6_crosses_57 (by decide) (fun c23 => ?_) (fun c23 => ?_)
    · replace hf := o_neg c23 hf
      refine wr_iconst 64 C dX6_crosses_64 (v := 0) rfl ?_
      refine wr_sub [(0, .ref (q 0)), (1, .int a1), (3, .int a3)] [0, 1, 2] rfl ?_
      exact hJcrosses65 0 μ8 hf
    · replace hf := o_pos c23 hf
      refine wr_iconst 60 C dX6_crosses_60 (v := 1) rfl ?_
      refine wr_goto 61 C dX6_crosses_61 (tgt := 65) (by decide) ?_
      refine wr_sub [(0, .ref (q 0)), (1, .int a1), (3, .int a3)] [0, 1, 2] rfl ?_
      exact hJcrosses65 1 μ8 hf
  refine wr_icmp_eq 21 36 C dX6_crosses_21 (by decide) (fun c24 => ?_) (fun c24 => ?_)
  · replace hf := o_pos c24 hf
    refine wr_sub [(0, .ref (q 0)), (1, .int a1), (3, .int a3), (4, .int v3)] [1, 2, 4, 0] rfl ?_
    exact hJcrosses36  μ4 hf
  · replace hf := o_neg c24 hf
    refine wr_aload_n 24 C dX6_crosses_24 1 rfl rfl ?_
    refine wr_dup 25 C dX6_crosses_25 rfl ?_
    refine gespM_0_23_X6 26 C dX6_crosses_26 ?_
    refine wr_iconst 29 C dX6_crosses_29 (v := 1) rfl ?_
    refine wr_iload_n 30 C dX6_crosses_30 3 rfl rfl ?_
    refine wr_ishl 31 C dX6_crosses_31 ?_
    refine wr_ixor 32 C dX6_crosses_32 ?_
    obtain ⟨μ25, eμ25, hf⟩ := o_let hf
    refine puspM_0_23_X6 33 C dX6_crosses_33 eμ25 ?_
    refine wr_sub [(0, .ref (q 0)), (1, .int a1), (3, .int a3), (4, .int v3)] [1, 2, 4, 0] rfl ?_
    exact hJcrosses36  μ25 hf
abbrev cX6_does : ByteArray := prog_11_method_50_code
def yX6_does : MethodName := ⟨RX6, "does", "(I)V"⟩
def dkwX6_does_1 : List UInt8 := [112, 27, 16, 100, 112, 16, 10, 108, 4, 100, 27, 16, 100, 108, 182, 1, 22, 177]
abbrev dktX6_does_1 : List UInt8 := dkwX6_does_1 ++ []
def dkwX6_does_0 : List UInt8 := [27, 17, 0, 200, 160, 0, 16, 42, 4, 42, 180, 0, 241, 100, 181, 0, 241, 167, 0, 24, 42, 27, 16, 10]
abbrev dktX6_does_0 : List UInt8 := dkwX6_does_0 ++ dktX6_does_1
theorem dksX6_does_0 : cX6_does.data.toList.drop 0 = dktX6_does_0 := by decide +kernel
theorem dksX6_does_1 : cX6_does.data.toList.drop 24 = dktX6_does_1 := dk_seg dksX6_does_0 24 rfl rfl
theorem dX6_does_0 : decode cX6_does 0 = .ok (.iload_n 1, 1) := dk_27 (dk_at dksX6_does_0 0 rfl rfl)
theorem dX6_does_1 : decode cX6_does 1 = .ok (.sipush 200, 3) := dk_17 0 200 (dk_at dksX6_does_0 1 rfl rfl)
theorem dX6_does_4 : decode cX6_does 4 = .ok (.if_icmp .ne 16, 3) := dk_160 0 16 (dk_at dksX6_does_0 4 rfl rfl)
theorem dX6_does_7 : decode cX6_does 7 = .ok (.aload_n 0, 1) := dk_42 (dk_at dksX6_does_0 7 rfl rfl)
theorem dX6_does_8 : decode cX6_does 8 = .ok (.iconst 1, 1) := dk_4 (dk_at dksX6_does_0 8 rfl rfl)
theorem dX6_does_9 : decode cX6_does 9 = .ok (.aload_n 0, 1) := dk_42 (dk_at dksX6_does_0 9 rfl rfl)
theorem dX6_does_10 : decode cX6_does 10 = .ok (.getfield 241, 3) := dk_180 0 241 (dk_at dksX6_does_0 10 rfl rfl)
theorem dX6_does_13 : decode cX6_does 13 = .ok (.isub, 1) := dk_100 (dk_at dksX6_does_0 13 rfl rfl)
theorem dX6_does_14 : decode cX6_does 14 = .ok (.putfield 241, 3) := dk_181 0 241 (dk_at dksX6_does_0 14 rfl rfl)
theorem dX6_does_17 : decode cX6_does 17 = .ok (.goto 24, 3) := dk_167 0 24 (dk_at dksX6_does_0 17 rfl rfl)
theorem dX6_does_20 : decode cX6_does 20 = .ok (.aload_n 0, 1) := dk_42 (dk_at dksX6_does_0 20 rfl rfl)
theorem dX6_does_21 : decode cX6_does 21 = .ok (.iload_n 1, 1) := dk_27 (dk_at dksX6_does_0 21 rfl rfl)
theorem dX6_does_22 : decode cX6_does 22 = .ok (.bipush 10, 2) := dk_16 10 (dk_at dksX6_does_0 22 rfl rfl)
theorem dX6_does_24 : decode cX6_does 24 = .ok (.irem, 1) := dk_112 (dk_at dksX6_does_1 0 rfl rfl)
theorem dX6_does_25 : decode cX6_does 25 = .ok (.iload_n 1, 1) := dk_27 (dk_at dksX6_does_1 1 rfl rfl)
theorem dX6_does_26 : decode cX6_does 26 = .ok (.bipush 100, 2) := dk_16 100 (dk_at dksX6_does_1 2 rfl rfl)
theorem dX6_does_28 : decode cX6_does 28 = .ok (.irem, 1) := dk_112 (dk_at dksX6_does_1 4 rfl rfl)
theorem dX6_does_29 : decode cX6_does 29 = .ok (.bipush 10, 2) := dk_16 10 (dk_at dksX6_does_1 5 rfl rfl)
theorem dX6_does_31 : decode cX6_does 31 = .ok (.idiv, 1) := dk_108 (dk_at dksX6_does_1 7 rfl rfl)
theorem dX6_does_32 : decode cX6_does 32 = .ok (.iconst 1, 1) := dk_4 (dk_at dksX6_does_1 8 rfl rfl)
theorem dX6_does_33 : decode cX6_does 33 = .ok (.isub, 1) := dk_100 (dk_at dksX6_does_1 9 rfl rfl)
theorem dX6_does_34 : decode cX6_does 34 = .ok (.iload_n 1, 1) := dk_27 (dk_at dksX6_does_1 10 rfl rfl)
theorem dX6_does_35 : decode cX6_does 35 = .ok (.bipush 100, 2) := dk_16 100 (dk_at dksX6_does_1 11 rfl rfl)
theorem dX6_does_37 : decode cX6_does 37 = .ok (.idiv, 1) := dk_108 (dk_at dksX6_does_1 13 rfl rfl)
theorem dX6_does_38 : decode cX6_does 38 = .ok (.invokevirtual 278, 3) := dk_182 1 22 (dk_at dksX6_does_1 14 rfl rfl)
theorem dX6_does_41 : decode cX6_does 41 = .ok (.return_, 1) := dk_177 (dk_at dksX6_does_1 17 rfl rfl)
theorem gespM_0_24_X6 {p : Program} {l : Launch} {e : Env} {R : Room} {s : State} {m : MethodId} {args : Array Value} {below : List Frame} {meth : Method} {c : Code} {cc : ByteArray} {nL : Nat} {ret : Option FieldType} {D : va_G} {E : List wCell} {q : Nat → Nat} {ca : wCA} {A : Nat → Prop} {Q : State → Prop} {kc ks : Nat} {μ : wMem} {lv : List (Nat × Value)} {st : List Value} (pc : Nat) (C : wC p R s m args meth c cc "OnePassportModel" nL ret D vwCl (spM ++ E) q ca A) (hd : decode cc pc = .ok (.getfield 241, 3)) (k : wJ p l e R s m args below meth c nL D vwCl (spM ++ E) q ca A Q kc ks μ (pc + 3) lv (.int (μ.1 0 24) :: st)) : wJ p l e R s m args below meth c nL D vwCl (spM ++ E) q ca A Q kc ks μ pc lv (.ref (q 0) :: st) := wr_getI pc 24 C hd spM_0 rfl in_X6 (by decide) rfl q1423 k
theorem okX6_does : wOkV yX6_does cX6_does 2 none 1 := ⟨q1712, qs93, q145, q1713, by decide, by decide, by decide +kernel⟩
def fX6_does (N : Nat)  (a1 : Int32) (μ : wMem) : Option wMem :=
  if a1 = (200 : Int32) then wLet (wSI μ 0 24 ((1 : Int32) - (μ.1 0 24))) fun μ4 => some μ4 else wBindV (fX6_crosses N  (a1 - a1 / (10 : Int32) * (10 : Int32)) (((a1 - a1 / (100 : Int32) * (100 : Int32)) / (10 : Int32)) - (1 : Int32)) (a1 / (100 : Int32)) μ) fun μ3 => some μ3
set_option maxHeartbeats 4000000 in
set_option maxRecDepth 100000 in
theorem tX6_does (l : Launch) {D : va_G} {E : List wCell} {q : Nat → Nat} {ca : wCA} (N : Nat)   (a1 : Int32) (μ : wMem) (r0 : wMem) (hf : fX6_does N  a1 μ = some r0) : wMv l yX6_does cX6_does 2 none ({ frames := 2, cells := 0, slots := 0, locals := 49 } : Room) D vwCl (spM ++ E) q ca [.ref (q 0), .int a1] μ r0 := by
  refine wMv_intro (by decide) (Nat.le_of_ble_eq_true rfl) ?_
  intro p e s m args below meth c A C
  unfold fX6_does at hf
  refine wr_sub [(0, .ref (q 0)), (1, .int a1)] [0, 1] rfl ?_
  refine wr_iload_n 0 C dX6_does_0 1 rfl rfl ?_
  refine wr_sipush 1 C dX6_does_1 (v := 200) rfl ?_
  refine wr_icmp_ne 4 20 C dX6_does_4 (by decide) (fun c1 => ?_) (fun c1 => ?_)
  · replace hf := o_neg c1 hf
    refine wr_aload_n 20 C dX6_does_20 0 rfl rfl ?_
    refine wr_iload_n 21 C dX6_does_21 1 rfl rfl ?_
    refine wr_bipush 22 C dX6_does_22 (v := 10) rfl ?_
    refine wr_irem 24 C dX6_does_24 (by decide) ?_
    refine wr_iload_n 25 C dX6_does_25 1 rfl rfl ?_
    refine wr_bipush 26 C dX6_does_26 (v := 100) rfl ?_
    refine wr_irem 28 C dX6_does_28 (by decide) ?_
    refine wr_bipush 29 C dX6_does_29 (v := 10) rfl ?_
    refine wr_idiv 31 C dX6_does_31 (by decide) ?_
    refine wr_iconst 32 C dX6_does_32 (v := 1) rfl ?_
    refine wr_isub 33 C dX6_does_33 ?_
    refine wr_iload_n 34 C dX6_does_34 1 rfl rfl ?_
    refine wr_bipush 35 C dX6_does_35 (v := 100) rfl ?_
    refine wr_idiv 37 C dX6_does_37 (by decide) ?_
    obtain ⟨μ3, h2, hf⟩ := o_bindV hf
    refine wr_Vv (kc1 := 0) (ks1 := 0) 38 [] C dX6_does_38 (tX6_crosses l N   (a1 - a1 / (10 : Int32) * (10 : Int32)) (((a1 - a1 / (100 : Int32) * (100 : Int32)) / (10 : Int32)) - (1 : Int32)) (a1 / (100 : Int32)) μ μ3 h2) okX6_crosses q1714 (b := 0) spM_0 rfl ⟨rfl, rfl, Nat.le_of_ble_eq_true rfl, Nat.le_of_ble_eq_true rfl, Nat.zero_le _, Nat.zero_le _⟩ (Nat.le_of_ble_eq_true rfl) rfl ?_
    exact wr_vret 41 C dX6_does_41 ⟨Nat.zero_le _, Nat.zero_le _⟩ (Option.some.inj hf)
  · replace hf := o_pos c1 hf
    refine wr_aload_n 7 C dX6_does_7 0 rfl rfl ?_
    refine wr_iconst 8 C dX6_does_8 (v := 1) rfl ?_
    refine wr_aload_n 9 C dX6_does_9 0 rfl rfl ?_
    refine gespM_0_24_X6 10 C dX6_does_10 ?_
    refine wr_isub 13 C dX6_does_13 ?_
    obtain ⟨μ4, eμ4, hf⟩ := o_let hf
    refine puspM_0_24_X6 14 C dX6_does_14 eμ4 ?_
    refine wr_goto 17 C dX6_does_17 (tgt := 41) (by decide) ?_
    exact wr_vret 41 C dX6_does_41 ⟨Nat.zero_le _, Nat.zero_le _⟩ (Option.some.inj hf)
abbrev cX6_goes : ByteArray := prog_11_method_53_code
def yX6_goes : MethodName := ⟨RX6, "goes", "(I)V"⟩
def dkwX6_goes_4 : List UInt8 := [177]
abbrev dktX6_goes_4 : List UInt8 := dkwX6_goes_4 ++ []
def dkwX6_goes_3 : List UInt8 := [180, 1, 38, 42, 27, 16, 10, 112, 27, 16, 100, 108, 182, 1, 44, 96, 181, 1, 38, 42, 27, 182, 1, 47]
abbrev dktX6_goes_3 : List UInt8 := dkwX6_goes_3 ++ dktX6_goes_4
def dkwX6_goes_2 : List UInt8 := [42, 89, 180, 1, 41, 4, 96, 181, 1, 41, 42, 89, 180, 1, 35, 4, 96, 181, 1, 35, 42, 89]
abbrev dktX6_goes_2 : List UInt8 := dkwX6_goes_2 ++ dktX6_goes_3
def dkwX6_goes_1 : List UInt8 := [167, 0, 65, 42, 180, 0, 53, 42, 180, 1, 41, 16, 10, 27, 16, 100, 108, 104, 42, 180, 0, 241, 96, 79]
abbrev dktX6_goes_1 : List UInt8 := dkwX6_goes_1 ++ dktX6_goes_2
def dkwX6_goes_0 : List UInt8 := [27, 17, 0, 200, 160, 0, 21, 42, 89, 180, 1, 35, 42, 180, 0, 34, 3, 46, 96, 181, 1, 35]
abbrev dktX6_goes_0 : List UInt8 := dkwX6_goes_0 ++ dktX6_goes_1
theorem dksX6_goes_0 : cX6_goes.data.toList.drop 0 = dktX6_goes_0 := by decide +kernel
theorem dksX6_goes_1 : cX6_goes.data.toList.drop 22 = dktX6_goes_1 := dk_seg dksX6_goes_0 22 rfl rfl
theorem dksX6_goes_2 : cX6_goes.data.toList.drop 46 = dktX6_goes_2 := dk_seg dksX6_goes_1 24 rfl rfl
theorem dksX6_goes_3 : cX6_goes.data.toList.drop 68 = dktX6_goes_3 := dk_seg dksX6_goes_2 22 rfl rfl
theorem dksX6_goes_4 : cX6_goes.data.toList.drop 92 = dktX6_goes_4 := dk_seg dksX6_goes_3 24 rfl rfl
theorem dX6_goes_0 : decode cX6_goes 0 = .ok (.iload_n 1, 1) := dk_27 (dk_at dksX6_goes_0 0 rfl rfl)
theorem dX6_goes_1 : decode cX6_goes 1 = .ok (.sipush 200, 3) := dk_17 0 200 (dk_at dksX6_goes_0 1 rfl rfl)
theorem dX6_goes_4 : decode cX6_goes 4 = .ok (.if_icmp .ne 21, 3) := dk_160 0 21 (dk_at dksX6_goes_0 4 rfl rfl)
theorem dX6_goes_7 : decode cX6_goes 7 = .ok (.aload_n 0, 1) := dk_42 (dk_at dksX6_goes_0 7 rfl rfl)
theorem dX6_goes_8 : decode cX6_goes 8 = .ok (.dup, 1) := dk_89 (dk_at dksX6_goes_0 8 rfl rfl)
theorem dX6_goes_9 : decode cX6_goes 9 = .ok (.getfield 291, 3) := dk_180 1 35 (dk_at dksX6_goes_0 9 rfl rfl)
theorem dX6_goes_12 : decode cX6_goes 12 = .ok (.aload_n 0, 1) := dk_42 (dk_at dksX6_goes_0 12 rfl rfl)
theorem dX6_goes_13 : decode cX6_goes 13 = .ok (.getfield 34, 3) := dk_180 0 34 (dk_at dksX6_goes_0 13 rfl rfl)
theorem dX6_goes_16 : decode cX6_goes 16 = .ok (.iconst 0, 1) := dk_3 (dk_at dksX6_goes_0 16 rfl rfl)
theorem dX6_goes_17 : decode cX6_goes 17 = .ok (.iaload, 1) := dk_46 (dk_at dksX6_goes_0 17 rfl rfl)
theorem dX6_goes_18 : decode cX6_goes 18 = .ok (.iadd, 1) := dk_96 (dk_at dksX6_goes_0 18 rfl rfl)
theorem dX6_goes_19 : decode cX6_goes 19 = .ok (.putfield 291, 3) := dk_181 1 35 (dk_at dksX6_goes_0 19 rfl rfl)
theorem dX6_goes_22 : decode cX6_goes 22 = .ok (.goto 65, 3) := dk_167 0 65 (dk_at dksX6_goes_1 0 rfl rfl)
theorem dX6_goes_25 : decode cX6_goes 25 = .ok (.aload_n 0, 1) := dk_42 (dk_at dksX6_goes_1 3 rfl rfl)
theorem dX6_goes_26 : decode cX6_goes 26 = .ok (.getfield 53, 3) := dk_180 0 53 (dk_at dksX6_goes_1 4 rfl rfl)
theorem dX6_goes_29 : decode cX6_goes 29 = .ok (.aload_n 0, 1) := dk_42 (dk_at dksX6_goes_1 7 rfl rfl)
theorem dX6_goes_30 : decode cX6_goes 30 = .ok (.getfield 297, 3) := dk_180 1 41 (dk_at dksX6_goes_1 8 rfl rfl)
theorem dX6_goes_33 : decode cX6_goes 33 = .ok (.bipush 10, 2) := dk_16 10 (dk_at dksX6_goes_1 11 rfl rfl)
theorem dX6_goes_35 : decode cX6_goes 35 = .ok (.iload_n 1, 1) := dk_27 (dk_at dksX6_goes_1 13 rfl rfl)
theorem dX6_goes_36 : decode cX6_goes 36 = .ok (.bipush 100, 2) := dk_16 100 (dk_at dksX6_goes_1 14 rfl rfl)
theorem dX6_goes_38 : decode cX6_goes 38 = .ok (.idiv, 1) := dk_108 (dk_at dksX6_goes_1 16 rfl rfl)
theorem dX6_goes_39 : decode cX6_goes 39 = .ok (.imul, 1) := dk_104 (dk_at dksX6_goes_1 17 rfl rfl)
theorem dX6_goes_40 : decode cX6_goes 40 = .ok (.aload_n 0, 1) := dk_42 (dk_at dksX6_goes_1 18 rfl rfl)
theorem dX6_goes_41 : decode cX6_goes 41 = .ok (.getfield 241, 3) := dk_180 0 241 (dk_at dksX6_goes_1 19 rfl rfl)
theorem dX6_goes_44 : decode cX6_goes 44 = .ok (.iadd, 1) := dk_96 (dk_at dksX6_goes_1 22 rfl rfl)
theorem dX6_goes_45 : decode cX6_goes 45 = .ok (.iastore, 1) := dk_79 (dk_at dksX6_goes_1 23 rfl rfl)
theorem dX6_goes_46 : decode cX6_goes 46 = .ok (.aload_n 0, 1) := dk_42 (dk_at dksX6_goes_2 0 rfl rfl)
theorem dX6_goes_47 : decode cX6_goes 47 = .ok (.dup, 1) := dk_89 (dk_at dksX6_goes_2 1 rfl rfl)
theorem dX6_goes_48 : decode cX6_goes 48 = .ok (.getfield 297, 3) := dk_180 1 41 (dk_at dksX6_goes_2 2 rfl rfl)
theorem dX6_goes_51 : decode cX6_goes 51 = .ok (.iconst 1, 1) := dk_4 (dk_at dksX6_goes_2 5 rfl rfl)
theorem dX6_goes_52 : decode cX6_goes 52 = .ok (.iadd, 1) := dk_96 (dk_at dksX6_goes_2 6 rfl rfl)
theorem dX6_goes_53 : decode cX6_goes 53 = .ok (.putfield 297, 3) := dk_181 1 41 (dk_at dksX6_goes_2 7 rfl rfl)
theorem dX6_goes_56 : decode cX6_goes 56 = .ok (.aload_n 0, 1) := dk_42 (dk_at dksX6_goes_2 10 rfl rfl)
theorem dX6_goes_57 : decode cX6_goes 57 = .ok (.dup, 1) := dk_89 (dk_at dksX6_goes_2 11 rfl rfl)
theorem dX6_goes_58 : decode cX6_goes 58 = .ok (.getfield 291, 3) := dk_180 1 35 (dk_at dksX6_goes_2 12 rfl rfl)
theorem dX6_goes_61 : decode cX6_goes 61 = .ok (.iconst 1, 1) := dk_4 (dk_at dksX6_goes_2 15 rfl rfl)
theorem dX6_goes_62 : decode cX6_goes 62 = .ok (.iadd, 1) := dk_96 (dk_at dksX6_goes_2 16 rfl rfl)
theorem dX6_goes_63 : decode cX6_goes 63 = .ok (.putfield 291, 3) := dk_181 1 35 (dk_at dksX6_goes_2 17 rfl rfl)
theorem dX6_goes_66 : decode cX6_goes 66 = .ok (.aload_n 0, 1) := dk_42 (dk_at dksX6_goes_2 20 rfl rfl)
theorem dX6_goes_67 : decode cX6_goes 67 = .ok (.dup, 1) := dk_89 (dk_at dksX6_goes_2 21 rfl rfl)
theorem dX6_goes_68 : decode cX6_goes 68 = .ok (.getfield 294, 3) := dk_180 1 38 (dk_at dksX6_goes_3 0 rfl rfl)
theorem dX6_goes_71 : decode cX6_goes 71 = .ok (.aload_n 0, 1) := dk_42 (dk_at dksX6_goes_3 3 rfl rfl)
theorem dX6_goes_72 : decode cX6_goes 72 = .ok (.iload_n 1, 1) := dk_27 (dk_at dksX6_goes_3 4 rfl rfl)
theorem dX6_goes_73 : decode cX6_goes 73 = .ok (.bipush 10, 2) := dk_16 10 (dk_at dksX6_goes_3 5 rfl rfl)
theorem dX6_goes_75 : decode cX6_goes 75 = .ok (.irem, 1) := dk_112 (dk_at dksX6_goes_3 7 rfl rfl)
theorem dX6_goes_76 : decode cX6_goes 76 = .ok (.iload_n 1, 1) := dk_27 (dk_at dksX6_goes_3 8 rfl rfl)
theorem dX6_goes_77 : decode cX6_goes 77 = .ok (.bipush 100, 2) := dk_16 100 (dk_at dksX6_goes_3 9 rfl rfl)
theorem dX6_goes_79 : decode cX6_goes 79 = .ok (.idiv, 1) := dk_108 (dk_at dksX6_goes_3 11 rfl rfl)
theorem dX6_goes_80 : decode cX6_goes 80 = .ok (.invokevirtual 300, 3) := dk_182 1 44 (dk_at dksX6_goes_3 12 rfl rfl)
theorem dX6_goes_83 : decode cX6_goes 83 = .ok (.iadd, 1) := dk_96 (dk_at dksX6_goes_3 15 rfl rfl)
theorem dX6_goes_84 : decode cX6_goes 84 = .ok (.putfield 294, 3) := dk_181 1 38 (dk_at dksX6_goes_3 16 rfl rfl)
theorem dX6_goes_87 : decode cX6_goes 87 = .ok (.aload_n 0, 1) := dk_42 (dk_at dksX6_goes_3 19 rfl rfl)
theorem dX6_goes_88 : decode cX6_goes 88 = .ok (.iload_n 1, 1) := dk_27 (dk_at dksX6_goes_3 20 rfl rfl)
theorem dX6_goes_89 : decode cX6_goes 89 = .ok (.invokevirtual 303, 3) := dk_182 1 47 (dk_at dksX6_goes_3 21 rfl rfl)
theorem dX6_goes_92 : decode cX6_goes 92 = .ok (.return_, 1) := dk_177 (dk_at dksX6_goes_4 0 rfl rfl)
theorem gespM_0_28_X6 {p : Program} {l : Launch} {e : Env} {R : Room} {s : State} {m : MethodId} {args : Array Value} {below : List Frame} {meth : Method} {c : Code} {cc : ByteArray} {nL : Nat} {ret : Option FieldType} {D : va_G} {E : List wCell} {q : Nat → Nat} {ca : wCA} {A : Nat → Prop} {Q : State → Prop} {kc ks : Nat} {μ : wMem} {lv : List (Nat × Value)} {st : List Value} (pc : Nat) (C : wC p R s m args meth c cc "OnePassportModel" nL ret D vwCl (spM ++ E) q ca A) (hd : decode cc pc = .ok (.getfield 291, 3)) (k : wJ p l e R s m args below meth c nL D vwCl (spM ++ E) q ca A Q kc ks μ (pc + 3) lv (.int (μ.1 0 28) :: st)) : wJ p l e R s m args below meth c nL D vwCl (spM ++ E) q ca A Q kc ks μ pc lv (.ref (q 0) :: st) := wr_getI pc 28 C hd spM_0 rfl in_X6 (by decide) rfl q1427 k
theorem gespM_0_29_X6 {p : Program} {l : Launch} {e : Env} {R : Room} {s : State} {m : MethodId} {args : Array Value} {below : List Frame} {meth : Method} {c : Code} {cc : ByteArray} {nL : Nat} {ret : Option FieldType} {D : va_G} {E : List wCell} {q : Nat → Nat} {ca : wCA} {A : Nat → Prop} {Q : State → Prop} {kc ks : Nat} {μ : wMem} {lv : List (Nat × Value)} {st : List Value} (pc : Nat) (C : wC p R s m args meth c cc "OnePassportModel" nL ret D vwCl (spM ++ E) q ca A) (hd : decode cc pc = .ok (.getfield 294, 3)) (k : wJ p l e R s m args below meth c nL D vwCl (spM ++ E) q ca A Q kc ks μ (pc + 3) lv (.int (μ.1 0 29) :: st)) : wJ p l e R s m args below meth c nL D vwCl (spM ++ E) q ca A Q kc ks μ pc lv (.ref (q 0) :: st) := wr_getI pc 29 C hd spM_0 rfl in_X6 (by decide) rfl q1428 k
theorem gespM_0_30_X6 {p : Program} {l : Launch} {e : Env} {R : Room} {s : State} {m : MethodId} {args : Array Value} {below : List Frame} {meth : Method} {c : Code} {cc : ByteArray} {nL : Nat} {ret : Option FieldType} {D : va_G} {E : List wCell} {q : Nat → Nat} {ca : wCA} {A : Nat → Prop} {Q : State → Prop} {kc ks : Nat} {μ : wMem} {lv : List (Nat × Value)} {st : List Value} (pc : Nat) (C : wC p R s m args meth c cc "OnePassportModel" nL ret D vwCl (spM ++ E) q ca A) (hd : decode cc pc = .ok (.getfield 297, 3)) (k : wJ p l e R s m args below meth c nL D vwCl (spM ++ E) q ca A Q kc ks μ (pc + 3) lv (.int (μ.1 0 30) :: st)) : wJ p l e R s m args below meth c nL D vwCl (spM ++ E) q ca A Q kc ks μ pc lv (.ref (q 0) :: st) := wr_getI pc 30 C hd spM_0 rfl in_X6 (by decide) rfl q1429 k
theorem gespM_0_31_X6 {p : Program} {l : Launch} {e : Env} {R : Room} {s : State} {m : MethodId} {args : Array Value} {below : List Frame} {meth : Method} {c : Code} {cc : ByteArray} {nL : Nat} {ret : Option FieldType} {D : va_G} {E : List wCell} {q : Nat → Nat} {ca : wCA} {A : Nat → Prop} {Q : State → Prop} {kc ks : Nat} {μ : wMem} {lv : List (Nat × Value)} {st : List Value} (pc : Nat) (C : wC p R s m args meth c cc "OnePassportModel" nL ret D vwCl (spM ++ E) q ca A) (hd : decode cc pc = .ok (.getfield 53, 3)) (k : wJ p l e R s m args below meth c nL D vwCl (spM ++ E) q ca A Q kc ks μ (pc + 3) lv (.ref (q 13) :: st)) : wJ p l e R s m args below meth c nL D vwCl (spM ++ E) q ca A Q kc ks μ pc lv (.ref (q 0) :: st) := wr_getR pc 31 C hd spM_0 rfl in_X6 (by decide) rfl q1430 k
theorem okX6_goes : wOkV yX6_goes cX6_goes 2 none 1 := ⟨q1704, qs91, q145, q1705, by decide, by decide, by decide +kernel⟩
def fX6_goes (N : Nat)  (a1 : Int32) (μ : wMem) : Option wMem :=
  wLet (fun  (μ1 : wMem) => wBindV (fX6_does N  a1 μ1) fun μ3 => some μ3) fun Jgoes87 => if a1 = (200 : Int32) then wG (ok_in (0 : Int32) 35) (wLet (wSI μ 0 28 ((μ.1 0 28) + (μ.1 7 (Int32.toNatClampNeg (0 : Int32))))) fun μ14 => Jgoes87  μ14) else wG (ok_in (μ.1 0 30) 60) (wLet (wSI μ 13 (Int32.toNatClampNeg (μ.1 0 30)) (((10 : Int32) * (a1 / (100 : Int32))) + (μ.1 0 24))) fun μ6 => wLet (wSI μ6 0 30 ((μ6.1 0 30) + (1 : Int32))) fun μ7 => wLet (wSI μ7 0 28 ((μ7.1 0 28) + (1 : Int32))) fun μ8 => wBind (fX6_riskOf N  (a1 - a1 / (10 : Int32) * (10 : Int32)) (a1 / (100 : Int32)) μ8) fun v11 μ10 => wLet (wSI μ10 0 29 ((μ8.1 0 29) + v11)) fun μ12 => Jgoes87  μ12)
set_option maxHeartbeats 4000000 in
set_option maxRecDepth 100000 in
theorem tX6_goes (l : Launch) {D : va_G} {E : List wCell} {q : Nat → Nat} {ca : wCA} (N : Nat)   (a1 : Int32) (μ : wMem) (r0 : wMem) (hf : fX6_goes N  a1 μ = some r0) : wMv l yX6_goes cX6_goes 2 none ({ frames := 3, cells := 0, slots := 0, locals := 70 } : Room) D vwCl (spM ++ E) q ca [.ref (q 0), .int a1] μ r0 := by
  refine wMv_intro (by decide) (Nat.le_of_ble_eq_true rfl) ?_
  intro p e s m args below meth c A C
  unfold fX6_goes at hf
  refine wr_sub [(0, .ref (q 0)), (1, .int a1)] [0, 1] rfl ?_
  refine wr_iload_n 0 C dX6_goes_0 1 rfl rfl ?_
  refine wr_sipush 1 C dX6_goes_1 (v := 200) rfl ?_
  obtain ⟨Jgoes87, eJgoes87, hf⟩ := o_let hf
  have hJgoes87 : ∀  (μ1 : wMem), Jgoes87  μ1 = some r0 → wJ p l e ({ frames := 3, cells := 0, slots := 0, locals := 70 } : Room) s m args below meth c 2 D vwCl (spM ++ E) q ca A (wQv ({ frames := 3, cells := 0, slots := 0, locals := 70 } : Room) D vwCl (spM ++ E) q ca below args s A r0) 0 0 μ1 87 [(0, .ref (q 0)), (1, .int a1)] [] := by
    intro  μ1 hf
    rw [eJgoes87] at hf
    refine wr_aload_n 87 C dX6_goes_87 0 rfl rfl ?_
    refine wr_iload_n 88 C dX6_goes_88 1 rfl rfl ?_
    obtain ⟨μ3, h2, hf⟩ := o_bindV hf
    refine wr_Vv (kc1 := 0) (ks1 := 0) 89 [] C dX6_goes_89 (tX6_does l N   a1 μ1 μ3 h2) okX6_does q1710 (b := 0) spM_0 rfl ⟨rfl, rfl, Nat.le_of_ble_eq_true rfl, Nat.le_of_ble_eq_true rfl, Nat.zero_le _, Nat.zero_le _⟩ (Nat.le_of_ble_eq_true rfl) rfl ?_
    exact wr_vret 92 C dX6_goes_92 ⟨Nat.zero_le _, Nat.zero_le _⟩ (Option.some.inj hf)
  refine wr_icmp_ne 4 25 C dX6_goes_4 (by decide) (fun c4 => ?_) (fun c4 => ?_)
  · replace hf := o_neg c4 hf
    refine wr_aload_n 25 C dX6_goes_25 0 rfl rfl ?_
    refine gespM_0_31_X6 26 C dX6_goes_26 ?_
    refine wr_aload_n 29 C dX6_goes_29 0 rfl rfl ?_
    refine gespM_0_30_X6 30 C dX6_goes_30 ?_
    refine wr_bipush 33 C dX6_goes_33 (v := 10) rfl ?_
    refine wr_iload_n 35 C dX6_goes_35 1 rfl rfl ?_
    refine wr_bipush 36 C dX6_goes_36 (v := 100) rfl ?_
    refine wr_idiv 38 C dX6_goes_38 (by decide) ?_
    refine wr_imul 39 C dX6_goes_39 ?_
    refine wr_aload_n 40 C dX6_goes_40 0 rfl rfl ?_
    refine gespM_0_24_X6 41 C dX6_goes_41 ?_
    refine wr_iadd 44 C dX6_goes_44 ?_
    obtain ⟨g5, hf⟩ := o_g hf
    obtain ⟨μ6, eμ6, hf⟩ := o_let hf
    refine wr_iast 45 C dX6_goes_45 spM_13 g5 eμ6 ?_
    refine wr_aload_n 46 C dX6_goes_46 0 rfl rfl ?_
    refine wr_dup 47 C dX6_goes_47 rfl ?_
    refine gespM_0_30_X6 48 C dX6_goes_48 ?_
    refine wr_iconst 51 C dX6_goes_51 (v := 1) rfl ?_
    refine wr_iadd 52 C dX6_goes_52 ?_
    obtain ⟨μ7, eμ7, hf⟩ := o_let hf
    refine puspM_0_30_X6 53 C dX6_goes_53 eμ7 ?_
    refine wr_aload_n 56 C dX6_goes_56 0 rfl rfl ?_
    refine wr_dup 57 C dX6_goes_57 rfl ?_
    refine gespM_0_28_X6 58 C dX6_goes_58 ?_
    refine wr_iconst 61 C dX6_goes_61 (v := 1) rfl ?_
    refine wr_iadd 62 C dX6_goes_62 ?_
    obtain ⟨μ8, eμ8, hf⟩ := o_let hf
    refine puspM_0_28_X6 63 C dX6_goes_63 eμ8 ?_
    refine wr_aload_n 66 C dX6_goes_66 0 rfl rfl ?_
    refine wr_dup 67 C dX6_goes_67 rfl ?_
    refine gespM_0_29_X6 68 C dX6_goes_68 ?_
    refine wr_aload_n 71 C dX6_goes_71 0 rfl rfl ?_
    refine wr_iload_n 72 C dX6_goes_72 1 rfl rfl ?_
    refine wr_bipush 73 C dX6_goes_73 (v := 10) rfl ?_
    refine wr_irem 75 C dX6_goes_75 (by decide) ?_
    refine wr_iload_n 76 C dX6_goes_76 1 rfl rfl ?_
    refine wr_bipush 77 C dX6_goes_77 (v := 100) rfl ?_
    refine wr_idiv 79 C dX6_goes_79 (by decide) ?_
    obtain ⟨v11, μ10, h9, hf⟩ := o_bind hf
    refine wr_Vi (kc1 := 0) (ks1 := 0) 80 [.int (μ8.1 0 29), .ref (q 0)] C dX6_goes_80 (tX6_riskOf l N   (a1 - a1 / (10 : Int32) * (10 : Int32)) (a1 / (100 : Int32)) μ8 (v11, μ10) h9) okX6_riskOf q1706 (b := 0) spM_0 rfl ⟨rfl, rfl, Nat.le_of_ble_eq_true rfl, Nat.le_of_ble_eq_true rfl, Nat.zero_le _, Nat.zero_le _⟩ (Nat.le_of_ble_eq_true rfl) rfl ?_
    refine wr_iadd 83 C dX6_goes_83 ?_
    obtain ⟨μ12, eμ12, hf⟩ := o_let hf
    refine puspM_0_29_X6 84 C dX6_goes_84 eμ12 ?_
    exact hJgoes87  μ12 hf
  · replace hf := o_pos c4 hf
    refine wr_aload_n 7 C dX6_goes_7 0 rfl rfl ?_
    refine wr_dup 8 C dX6_goes_8 rfl ?_
    refine gespM_0_28_X6 9 C dX6_goes_9 ?_
    refine wr_aload_n 12 C dX6_goes_12 0 rfl rfl ?_
    refine gespM_0_17_X6 13 C dX6_goes_13 ?_
    refine wr_iconst 16 C dX6_goes_16 (v := 0) rfl ?_
    obtain ⟨g13, hf⟩ := o_g hf
    refine wr_iald 17 C dX6_goes_17 spM_7 g13 ?_
    refine wr_iadd 18 C dX6_goes_18 ?_
    obtain ⟨μ14, eμ14, hf⟩ := o_let hf
    refine puspM_0_28_X6 19 C dX6_goes_19 eμ14 ?_
    refine wr_goto 22 C dX6_goes_22 (tgt := 87) (by decide) ?_
    exact hJgoes87  μ14 hf
abbrev cX6_lays : ByteArray := prog_11_method_54_code
def yX6_lays : MethodName := ⟨RX6, "lays", "()V"⟩
def dkwX6_lays_1 : List UInt8 := [182, 1, 53, 132, 1, 1, 167, 255, 232, 177]
abbrev dktX6_lays_1 : List UInt8 := dkwX6_lays_1 ++ []
def dkwX6_lays_0 : List UInt8 := [42, 182, 1, 50, 3, 60, 27, 42, 180, 0, 34, 16, 6, 46, 162, 0, 19, 42, 42, 180, 0, 46, 27, 46]
abbrev dktX6_lays_0 : List UInt8 := dkwX6_lays_0 ++ dktX6_lays_1
theorem dksX6_lays_0 : cX6_lays.data.toList.drop 0 = dktX6_lays_0 := by decide +kernel
theorem dksX6_lays_1 : cX6_lays.data.toList.drop 24 = dktX6_lays_1 := dk_seg dksX6_lays_0 24 rfl rfl
theorem dX6_lays_0 : decode cX6_lays 0 = .ok (.aload_n 0, 1) := dk_42 (dk_at dksX6_lays_0 0 rfl rfl)
theorem dX6_lays_1 : decode cX6_lays 1 = .ok (.invokevirtual 306, 3) := dk_182 1 50 (dk_at dksX6_lays_0 1 rfl rfl)
theorem dX6_lays_4 : decode cX6_lays 4 = .ok (.iconst 0, 1) := dk_3 (dk_at dksX6_lays_0 4 rfl rfl)
theorem dX6_lays_5 : decode cX6_lays 5 = .ok (.istore_n 1, 1) := dk_60 (dk_at dksX6_lays_0 5 rfl rfl)
theorem dX6_lays_6 : decode cX6_lays 6 = .ok (.iload_n 1, 1) := dk_27 (dk_at dksX6_lays_0 6 rfl rfl)
theorem dX6_lays_7 : decode cX6_lays 7 = .ok (.aload_n 0, 1) := dk_42 (dk_at dksX6_lays_0 7 rfl rfl)
theorem dX6_lays_8 : decode cX6_lays 8 = .ok (.getfield 34, 3) := dk_180 0 34 (dk_at dksX6_lays_0 8 rfl rfl)
theorem dX6_lays_11 : decode cX6_lays 11 = .ok (.bipush 6, 2) := dk_16 6 (dk_at dksX6_lays_0 11 rfl rfl)
theorem dX6_lays_13 : decode cX6_lays 13 = .ok (.iaload, 1) := dk_46 (dk_at dksX6_lays_0 13 rfl rfl)
theorem dX6_lays_14 : decode cX6_lays 14 = .ok (.if_icmp .ge 19, 3) := dk_162 0 19 (dk_at dksX6_lays_0 14 rfl rfl)
theorem dX6_lays_17 : decode cX6_lays 17 = .ok (.aload_n 0, 1) := dk_42 (dk_at dksX6_lays_0 17 rfl rfl)
theorem dX6_lays_18 : decode cX6_lays 18 = .ok (.aload_n 0, 1) := dk_42 (dk_at dksX6_lays_0 18 rfl rfl)
theorem dX6_lays_19 : decode cX6_lays 19 = .ok (.getfield 46, 3) := dk_180 0 46 (dk_at dksX6_lays_0 19 rfl rfl)
theorem dX6_lays_22 : decode cX6_lays 22 = .ok (.iload_n 1, 1) := dk_27 (dk_at dksX6_lays_0 22 rfl rfl)
theorem dX6_lays_23 : decode cX6_lays 23 = .ok (.iaload, 1) := dk_46 (dk_at dksX6_lays_0 23 rfl rfl)
theorem dX6_lays_24 : decode cX6_lays 24 = .ok (.invokevirtual 309, 3) := dk_182 1 53 (dk_at dksX6_lays_1 0 rfl rfl)
theorem dX6_lays_27 : decode cX6_lays 27 = .ok (.iinc 1 1, 3) := dk_132 1 1 (dk_at dksX6_lays_1 3 rfl rfl)
theorem dX6_lays_30 : decode cX6_lays 30 = .ok (.goto (-24), 3) := dk_167 255 232 (dk_at dksX6_lays_1 6 rfl rfl)
theorem dX6_lays_33 : decode cX6_lays 33 = .ok (.return_, 1) := dk_177 (dk_at dksX6_lays_1 9 rfl rfl)

theorem okX6_lays : wOkV yX6_lays cX6_lays 2 none 0 := ⟨q1692, qs88, q145, q1693, by decide, by decide, by decide +kernel⟩
def gbX6_lays_6 (N : Nat)   (K : (wMem → Option wMem)) (rec : (Int32 → wMem → Option wMem)) (x1_ : Int32) (μ : wMem) : Option wMem :=
  wG (ok_in (6 : Int32) 35) (if (μ.1 7 (Int32.toNatClampNeg (6 : Int32))) ≤ x1_ then K  μ else wG (ok_in x1_ 200) (wBindV (fX6_goes N  (μ.1 11 (Int32.toNatClampNeg x1_)) μ) fun μ7 => wLet (x1_ + 1 : Int32) fun x8 => rec x8 μ7))
def gX6_lays_6 (N : Nat)   (K : (wMem → Option wMem)) : Nat → (Int32 → wMem → Option wMem)
  | 0 => fun _ _ => none
  | k + 1 => gbX6_lays_6 N   K (gX6_lays_6 N   K k)
set_option maxHeartbeats 4000000 in
set_option maxRecDepth 100000 in
theorem tX6_lays_6 {p : Program} {l : Launch} {e : Env} {s : State} {m : MethodId} {args : Array Value} {below : List Frame} {meth : Method} {c : Code} {D : va_G} {E : List wCell} {q : Nat → Nat} {ca : wCA} {A : Nat → Prop} (C : wC p ({ frames := 4, cells := 0, slots := 0, locals := 91 } : Room) s m args meth c cX6_lays yX6_lays.cls 2 none D vwCl (spM ++ E) q ca A) (N : Nat)    (K : (wMem → Option wMem)) (r0 : wMem) (hK : ∀  (μ : wMem), K  μ = some r0 → wJ p l e ({ frames := 4, cells := 0, slots := 0, locals := 91 } : Room) s m args below meth c 2 D vwCl (spM ++ E) q ca A (wQv ({ frames := 4, cells := 0, slots := 0, locals := 91 } : Room) D vwCl (spM ++ E) q ca below args s A r0) 0 0 μ 33 [] []) : ∀ (k : Nat) (x1_ : Int32) (μ : wMem), gX6_lays_6 N   K k x1_ μ = some r0 → wJ p l e ({ frames := 4, cells := 0, slots := 0, locals := 91 } : Room) s m args below meth c 2 D vwCl (spM ++ E) q ca A (wQv ({ frames := 4, cells := 0, slots := 0, locals := 91 } : Room) D vwCl (spM ++ E) q ca below args s A r0) 0 0 μ 6 [(0, .ref (q 0)), (1, .int x1_)] [] := by
  intro k
  induction k with
  | zero =>
    intro x1_ μ hf
    cases hf
  | succ k ih =>
    intro x1_ μ hf
    replace hf : gbX6_lays_6 N   K (gX6_lays_6 N   K k) x1_ μ = some r0 := hf
    unfold gbX6_lays_6 at hf
    refine wr_iload_n 6 C dX6_lays_6 1 rfl rfl ?_
    refine wr_aload_n 7 C dX6_lays_7 0 rfl rfl ?_
    refine gespM_0_17_X6 8 C dX6_lays_8 ?_
    refine wr_bipush 11 C dX6_lays_11 (v := 6) rfl ?_
    obtain ⟨g3, hf⟩ := o_g hf
    refine wr_iald 13 C dX6_lays_13 spM_7 g3 ?_
    refine wr_icmp_ge 14 33 C dX6_lays_14 (by decide) (fun c4 => ?_) (fun c4 => ?_)
    · replace hf := o_pos c4 hf
      refine wr_sub [] [] rfl ?_
      exact hK  μ hf
    · replace hf := o_neg c4 hf
      refine wr_aload_n 17 C dX6_lays_17 0 rfl rfl ?_
      refine wr_aload_n 18 C dX6_lays_18 0 rfl rfl ?_
      refine gespM_0_21_X6 19 C dX6_lays_19 ?_
      refine wr_iload_n 22 C dX6_lays_22 1 rfl rfl ?_
      obtain ⟨g5, hf⟩ := o_g hf
      refine wr_iald 23 C dX6_lays_23 spM_11 g5 ?_
      obtain ⟨μ7, h6, hf⟩ := o_bindV hf
      refine wr_Vv (kc1 := 0) (ks1 := 0) 24 [] C dX6_lays_24 (tX6_goes l N   (μ.1 11 (Int32.toNatClampNeg x1_)) μ μ7 h6) okX6_goes q1702 (b := 0) spM_0 rfl ⟨rfl, rfl, Nat.le_of_ble_eq_true rfl, Nat.le_of_ble_eq_true rfl, Nat.zero_le _, Nat.zero_le _⟩ (Nat.le_of_ble_eq_true rfl) rfl ?_
      obtain ⟨x8, ex8, hf⟩ := o_let hf
      refine wr_iinc 27 [(1, .int x8), (0, .ref (q 0))] C dX6_lays_27 1 rfl (ex8.trans rfl) (Nat.le_of_ble_eq_true rfl) rfl ?_
      refine wr_goto 30 C dX6_lays_30 (tgt := 6) (by decide) ?_
      refine wr_sub [(0, .ref (q 0)), (1, .int x8)] [1, 0] rfl ?_
      exact ih x8 μ7 hf
def fX6_lays (N : Nat)   (μ : wMem) : Option wMem :=
  wBindV (fX6_start N   μ) fun μ2 => gX6_lays_6 N   (fun  (μ9 : wMem) => some μ9) N 0 μ2
set_option maxHeartbeats 4000000 in
set_option maxRecDepth 100000 in
theorem tX6_lays (l : Launch) {D : va_G} {E : List wCell} {q : Nat → Nat} {ca : wCA} (N : Nat)    (μ : wMem) (r0 : wMem) (hf : fX6_lays N   μ = some r0) : wMv l yX6_lays cX6_lays 2 none ({ frames := 4, cells := 0, slots := 0, locals := 91 } : Room) D vwCl (spM ++ E) q ca [.ref (q 0)] μ r0 := by
  refine wMv_intro (by decide) (Nat.le_of_ble_eq_true rfl) ?_
  intro p e s m args below meth c A C
  unfold fX6_lays at hf
  refine wr_sub [(0, .ref (q 0))] [0] rfl ?_
  refine wr_aload_n 0 C dX6_lays_0 0 rfl rfl ?_
  obtain ⟨μ2, h1, hf⟩ := o_bindV hf
  refine wr_Vv (kc1 := 0) (ks1 := 0) 1 [] C dX6_lays_1 (tX6_start l N    μ μ2 h1) okX6_start q1694 (b := 0) spM_0 rfl ⟨rfl, rfl, Nat.le_of_ble_eq_true rfl, Nat.le_of_ble_eq_true rfl, Nat.zero_le _, Nat.zero_le _⟩ (Nat.le_of_ble_eq_true rfl) rfl ?_
  refine wr_iconst 4 C dX6_lays_4 (v := 0) rfl ?_
  refine wr_istore_n 5 [(1, .int 0), (0, .ref (q 0))] C dX6_lays_5 rfl rfl (Nat.le_of_ble_eq_true rfl) rfl ?_
  refine wr_sub [(0, .ref (q 0)), (1, .int 0)] [1, 0] rfl ?_
  refine tX6_lays_6 C N    _ r0 (fun  μ9 hf => ?_) N 0 μ2 hf
  · replace hf := hf
    exact wr_vret 33 C dX6_lays_33 ⟨Nat.zero_le _, Nat.zero_le _⟩ (Option.some.inj hf)
abbrev cX6_person : ByteArray := prog_11_method_56_code
def yX6_person : MethodName := ⟨RX6, "person", "(II)I"⟩
def dkwX6_person_4 : List UInt8 := [126, 172]
abbrev dktX6_person_4 : List UInt8 := dkwX6_person_4 ++ []
def dkwX6_person_3 : List UInt8 := [167, 0, 21, 28, 6, 160, 0, 12, 42, 180, 0, 34, 8, 46, 167, 0, 7, 42, 180, 0, 238, 27, 122, 4]
abbrev dktX6_person_3 : List UInt8 := dkwX6_person_3 ++ dktX6_person_4
def dkwX6_person_2 : List UInt8 := [42, 180, 0, 40, 27, 46, 172, 42, 182, 1, 61, 28, 5, 160, 0, 12, 42, 180, 0, 34, 7, 46]
abbrev dktX6_person_2 : List UInt8 := dkwX6_person_2 ++ dktX6_person_3
def dkwX6_person_1 : List UInt8 := [154, 0, 6, 16, 254, 172, 28, 5, 162, 0, 23, 28, 154, 0, 12, 42, 180, 0, 37, 27, 46, 167, 0, 9]
abbrev dktX6_person_1 : List UInt8 := dkwX6_person_1 ++ dktX6_person_2
def dkwX6_person_0 : List UInt8 := [42, 3, 181, 0, 88, 42, 27, 182, 1, 56, 153, 0, 15, 28, 133, 9, 20, 1, 59, 184, 0, 93]
abbrev dktX6_person_0 : List UInt8 := dkwX6_person_0 ++ dktX6_person_1
theorem dksX6_person_0 : cX6_person.data.toList.drop 0 = dktX6_person_0 := by decide +kernel
theorem dksX6_person_1 : cX6_person.data.toList.drop 22 = dktX6_person_1 := dk_seg dksX6_person_0 22 rfl rfl
theorem dksX6_person_2 : cX6_person.data.toList.drop 46 = dktX6_person_2 := dk_seg dksX6_person_1 24 rfl rfl
theorem dksX6_person_3 : cX6_person.data.toList.drop 68 = dktX6_person_3 := dk_seg dksX6_person_2 22 rfl rfl
theorem dksX6_person_4 : cX6_person.data.toList.drop 92 = dktX6_person_4 := dk_seg dksX6_person_3 24 rfl rfl
theorem dX6_person_0 : decode cX6_person 0 = .ok (.aload_n 0, 1) := dk_42 (dk_at dksX6_person_0 0 rfl rfl)
theorem dX6_person_1 : decode cX6_person 1 = .ok (.iconst 0, 1) := dk_3 (dk_at dksX6_person_0 1 rfl rfl)
theorem dX6_person_2 : decode cX6_person 2 = .ok (.putfield 88, 3) := dk_181 0 88 (dk_at dksX6_person_0 2 rfl rfl)
theorem dX6_person_5 : decode cX6_person 5 = .ok (.aload_n 0, 1) := dk_42 (dk_at dksX6_person_0 5 rfl rfl)
theorem dX6_person_6 : decode cX6_person 6 = .ok (.iload_n 1, 1) := dk_27 (dk_at dksX6_person_0 6 rfl rfl)
theorem dX6_person_7 : decode cX6_person 7 = .ok (.invokevirtual 312, 3) := dk_182 1 56 (dk_at dksX6_person_0 7 rfl rfl)
theorem dX6_person_10 : decode cX6_person 10 = .ok (.ifCond .eq 15, 3) := dk_153 0 15 (dk_at dksX6_person_0 10 rfl rfl)
theorem dX6_person_13 : decode cX6_person 13 = .ok (.iload_n 2, 1) := dk_28 (dk_at dksX6_person_0 13 rfl rfl)
theorem dX6_person_14 : decode cX6_person 14 = .ok (.i2l, 1) := dk_133 (dk_at dksX6_person_0 14 rfl rfl)
theorem dX6_person_15 : decode cX6_person 15 = .ok (.lconst 0, 1) := dk_9 (dk_at dksX6_person_0 15 rfl rfl)
theorem dX6_person_16 : decode cX6_person 16 = .ok (.ldc2_w 315, 3) := dk_20 1 59 (dk_at dksX6_person_0 16 rfl rfl)
theorem dX6_person_19 : decode cX6_person 19 = .ok (.invokestatic 93, 3) := dk_184 0 93 (dk_at dksX6_person_0 19 rfl rfl)
theorem dX6_person_22 : decode cX6_person 22 = .ok (.ifCond .ne 6, 3) := dk_154 0 6 (dk_at dksX6_person_1 0 rfl rfl)
theorem dX6_person_25 : decode cX6_person 25 = .ok (.bipush (-2), 2) := dk_16 254 (dk_at dksX6_person_1 3 rfl rfl)
theorem dX6_person_27 : decode cX6_person 27 = .ok (.ireturn, 1) := dk_172 (dk_at dksX6_person_1 5 rfl rfl)
theorem dX6_person_28 : decode cX6_person 28 = .ok (.iload_n 2, 1) := dk_28 (dk_at dksX6_person_1 6 rfl rfl)
theorem dX6_person_29 : decode cX6_person 29 = .ok (.iconst 2, 1) := dk_5 (dk_at dksX6_person_1 7 rfl rfl)
theorem dX6_person_30 : decode cX6_person 30 = .ok (.if_icmp .ge 23, 3) := dk_162 0 23 (dk_at dksX6_person_1 8 rfl rfl)
theorem dX6_person_33 : decode cX6_person 33 = .ok (.iload_n 2, 1) := dk_28 (dk_at dksX6_person_1 11 rfl rfl)
theorem dX6_person_34 : decode cX6_person 34 = .ok (.ifCond .ne 12, 3) := dk_154 0 12 (dk_at dksX6_person_1 12 rfl rfl)
theorem dX6_person_37 : decode cX6_person 37 = .ok (.aload_n 0, 1) := dk_42 (dk_at dksX6_person_1 15 rfl rfl)
theorem dX6_person_38 : decode cX6_person 38 = .ok (.getfield 37, 3) := dk_180 0 37 (dk_at dksX6_person_1 16 rfl rfl)
theorem dX6_person_41 : decode cX6_person 41 = .ok (.iload_n 1, 1) := dk_27 (dk_at dksX6_person_1 19 rfl rfl)
theorem dX6_person_42 : decode cX6_person 42 = .ok (.iaload, 1) := dk_46 (dk_at dksX6_person_1 20 rfl rfl)
theorem dX6_person_43 : decode cX6_person 43 = .ok (.goto 9, 3) := dk_167 0 9 (dk_at dksX6_person_1 21 rfl rfl)
theorem dX6_person_46 : decode cX6_person 46 = .ok (.aload_n 0, 1) := dk_42 (dk_at dksX6_person_2 0 rfl rfl)
theorem dX6_person_47 : decode cX6_person 47 = .ok (.getfield 40, 3) := dk_180 0 40 (dk_at dksX6_person_2 1 rfl rfl)
theorem dX6_person_50 : decode cX6_person 50 = .ok (.iload_n 1, 1) := dk_27 (dk_at dksX6_person_2 4 rfl rfl)
theorem dX6_person_51 : decode cX6_person 51 = .ok (.iaload, 1) := dk_46 (dk_at dksX6_person_2 5 rfl rfl)
theorem dX6_person_52 : decode cX6_person 52 = .ok (.ireturn, 1) := dk_172 (dk_at dksX6_person_2 6 rfl rfl)
theorem dX6_person_53 : decode cX6_person 53 = .ok (.aload_n 0, 1) := dk_42 (dk_at dksX6_person_2 7 rfl rfl)
theorem dX6_person_54 : decode cX6_person 54 = .ok (.invokevirtual 317, 3) := dk_182 1 61 (dk_at dksX6_person_2 8 rfl rfl)
theorem dX6_person_57 : decode cX6_person 57 = .ok (.iload_n 2, 1) := dk_28 (dk_at dksX6_person_2 11 rfl rfl)
theorem dX6_person_58 : decode cX6_person 58 = .ok (.iconst 2, 1) := dk_5 (dk_at dksX6_person_2 12 rfl rfl)
theorem dX6_person_59 : decode cX6_person 59 = .ok (.if_icmp .ne 12, 3) := dk_160 0 12 (dk_at dksX6_person_2 13 rfl rfl)
theorem dX6_person_62 : decode cX6_person 62 = .ok (.aload_n 0, 1) := dk_42 (dk_at dksX6_person_2 16 rfl rfl)
theorem dX6_person_63 : decode cX6_person 63 = .ok (.getfield 34, 3) := dk_180 0 34 (dk_at dksX6_person_2 17 rfl rfl)
theorem dX6_person_66 : decode cX6_person 66 = .ok (.iconst 4, 1) := dk_7 (dk_at dksX6_person_2 20 rfl rfl)
theorem dX6_person_67 : decode cX6_person 67 = .ok (.iaload, 1) := dk_46 (dk_at dksX6_person_2 21 rfl rfl)
theorem dX6_person_68 : decode cX6_person 68 = .ok (.goto 21, 3) := dk_167 0 21 (dk_at dksX6_person_3 0 rfl rfl)
theorem dX6_person_71 : decode cX6_person 71 = .ok (.iload_n 2, 1) := dk_28 (dk_at dksX6_person_3 3 rfl rfl)
theorem dX6_person_72 : decode cX6_person 72 = .ok (.iconst 3, 1) := dk_6 (dk_at dksX6_person_3 4 rfl rfl)
theorem dX6_person_73 : decode cX6_person 73 = .ok (.if_icmp .ne 12, 3) := dk_160 0 12 (dk_at dksX6_person_3 5 rfl rfl)
theorem dX6_person_76 : decode cX6_person 76 = .ok (.aload_n 0, 1) := dk_42 (dk_at dksX6_person_3 8 rfl rfl)
theorem dX6_person_77 : decode cX6_person 77 = .ok (.getfield 34, 3) := dk_180 0 34 (dk_at dksX6_person_3 9 rfl rfl)
theorem dX6_person_80 : decode cX6_person 80 = .ok (.iconst 5, 1) := dk_8 (dk_at dksX6_person_3 12 rfl rfl)
theorem dX6_person_81 : decode cX6_person 81 = .ok (.iaload, 1) := dk_46 (dk_at dksX6_person_3 13 rfl rfl)
theorem dX6_person_82 : decode cX6_person 82 = .ok (.goto 7, 3) := dk_167 0 7 (dk_at dksX6_person_3 14 rfl rfl)
theorem dX6_person_85 : decode cX6_person 85 = .ok (.aload_n 0, 1) := dk_42 (dk_at dksX6_person_3 17 rfl rfl)
theorem dX6_person_86 : decode cX6_person 86 = .ok (.getfield 238, 3) := dk_180 0 238 (dk_at dksX6_person_3 18 rfl rfl)
theorem dX6_person_89 : decode cX6_person 89 = .ok (.iload_n 1, 1) := dk_27 (dk_at dksX6_person_3 21 rfl rfl)
theorem dX6_person_90 : decode cX6_person 90 = .ok (.ishr, 1) := dk_122 (dk_at dksX6_person_3 22 rfl rfl)
theorem dX6_person_91 : decode cX6_person 91 = .ok (.iconst 1, 1) := dk_4 (dk_at dksX6_person_3 23 rfl rfl)
theorem dX6_person_92 : decode cX6_person 92 = .ok (.iand, 1) := dk_126 (dk_at dksX6_person_4 0 rfl rfl)
theorem dX6_person_93 : decode cX6_person 93 = .ok (.ireturn, 1) := dk_172 (dk_at dksX6_person_4 1 rfl rfl)

theorem okX6_person : wOkV yX6_person cX6_person 3 (some .int) 2 := ⟨q1682, q1683, q145, q1684, by decide, by decide, by decide +kernel⟩
def fX6_person (N : Nat)  (a1 : Int32) (a2 : Int32) (μ : wMem) : Option (Int32 × wMem) :=
  wLet (wSI μ 0 0 (0 : Int32)) fun μ1 => wBind (fX6_isPerson N  a1 μ1) fun v4 μ3 => wLet (fun  (μ5 : wMem) => some ((-2), μ5)) fun Jperson25 => if v4 = 0 then Jperson25  μ3 else wBind (fX6_in N  (Int32.toInt64 a2) 0 4 μ3) fun v9 μ8 => if v9 = 0 then Jperson25  μ8 else if (2 : Int32) ≤ a2 then wBindV (fX6_lays N   μ8) fun μ13 => wLet (fun (v15 : Int32) (μ14 : wMem) => some ((v15 >>> (a1 &&& 31)) &&& (1 : Int32), μ14)) fun Jperson89 => if a2 = (2 : Int32) then wG (ok_in (4 : Int32) 35) (Jperson89 (μ13.1 7 (Int32.toNatClampNeg (4 : Int32))) μ13) else if a2 = (3 : Int32) then wG (ok_in (5 : Int32) 35) (Jperson89 (μ13.1 7 (Int32.toNatClampNeg (5 : Int32))) μ13) else Jperson89 (μ13.1 0 23) μ13 else if a2 = 0 then wG (ok_in a1 30) (some (μ8.1 8 (Int32.toNatClampNeg a1), μ8)) else wG (ok_in a1 30) (some (μ8.1 9 (Int32.toNatClampNeg a1), μ8))
set_option maxHeartbeats 4000000 in
set_option maxRecDepth 100000 in
theorem tX6_person (l : Launch) {D : va_G} {E : List wCell} {q : Nat → Nat} {ca : wCA} (N : Nat)   (a1 : Int32) (a2 : Int32) (μ : wMem) (r0 : (Int32 × wMem)) (hf : fX6_person N  a1 a2 μ = some r0) : wMi l yX6_person cX6_person 3 (some .int) ({ frames := 5, cells := 0, slots := 0, locals := 112 } : Room) D vwCl (spM ++ E) q ca [.ref (q 0), .int a1, .int a2] μ r0 := by
  refine wMi_intro (by decide) (Nat.le_of_ble_eq_true rfl) ?_
  intro p e s m args below meth c A C
  unfold fX6_person at hf
  refine wr_sub [(0, .ref (q 0)), (1, .int a1), (2, .int a2)] [0, 1, 2] rfl ?_
  refine wr_aload_n 0 C dX6_person_0 0 rfl rfl ?_
  refine wr_iconst 1 C dX6_person_1 (v := 0) rfl ?_
  obtain ⟨μ1, eμ1, hf⟩ := o_let hf
  refine puspM_0_0_X6 2 C dX6_person_2 eμ1 ?_
  refine wr_aload_n 5 C dX6_person_5 0 rfl rfl ?_
  refine wr_iload_n 6 C dX6_person_6 1 rfl rfl ?_
  obtain ⟨v4, μ3, h2, hf⟩ := o_bind hf
  refine wr_Vi (kc1 := 0) (ks1 := 0) 7 [] C dX6_person_7 (tX6_isPerson l N   a1 μ1 (v4, μ3) h2) okX6_isPerson q1685 (b := 0) spM_0 rfl ⟨rfl, rfl, Nat.le_of_ble_eq_true rfl, Nat.le_of_ble_eq_true rfl, Nat.zero_le _, Nat.zero_le _⟩ (Nat.le_of_ble_eq_true rfl) rfl ?_
  obtain ⟨Jperson25, eJperson25, hf⟩ := o_let hf
  have hJperson25 : ∀  (μ5 : wMem), Jperson25  μ5 = some r0 → wJ p l e ({ frames := 5, cells := 0, slots := 0, locals := 112 } : Room) s m args below meth c 3 D vwCl (spM ++ E) q ca A (wQi ({ frames := 5, cells := 0, slots := 0, locals := 112 } : Room) D vwCl (spM ++ E) q ca below args s A r0) 0 0 μ5 25 [] [] := by
    intro  μ5 hf
    rw [eJperson25] at hf
    refine wr_bipush 25 C dX6_person_25 (v := (-2)) rfl ?_
    exact wr_iret 27 C dX6_person_27 ⟨Nat.zero_le _, Nat.zero_le _⟩ (Option.some.inj hf)
  refine wr_if_eq 10 25 C dX6_person_10 (by decide) (fun c6 => ?_) (fun c6 => ?_)
  · replace hf := o_pos c6 hf
    refine wr_sub [] [] rfl ?_
    exact hJperson25  μ3 hf
  · replace hf := o_neg c6 hf
    refine wr_iload_n 13 C dX6_person_13 2 rfl rfl ?_
    refine wr_i2l 14 C dX6_person_14 ?_
    refine wr_lconst 15 C dX6_person_15 (v := 0) rfl ?_
    refine wr_ldc2 16 C dX6_person_16 q1689 ?_
    obtain ⟨v9, μ8, h7, hf⟩ := o_bind hf
    refine wr_Si (kc1 := 0) (ks1 := 0) 19 [] C dX6_person_19 (tX6_in l N   (Int32.toInt64 a2) 0 4 μ3 (v9, μ8) h7) okX6_in q1552 ⟨rfl, rfl, Nat.le_of_ble_eq_true rfl, Nat.le_of_ble_eq_true rfl, Nat.zero_le _, Nat.zero_le _⟩ (Nat.le_of_ble_eq_true rfl) rfl ?_
    refine wr_if_ne 22 28 C dX6_person_22 (by decide) (fun c10 => ?_) (fun c10 => ?_)
    · replace hf := o_neg c10 hf
      refine wr_iload_n 28 C dX6_person_28 2 rfl rfl ?_
      refine wr_iconst 29 C dX6_person_29 (v := 2) rfl ?_
      refine wr_icmp_ge 30 53 C dX6_person_30 (by decide) (fun c11 => ?_) (fun c11 => ?_)
      · replace hf := o_pos c11 hf
        refine wr_aload_n 53 C dX6_person_53 0 rfl rfl ?_
        obtain ⟨μ13, h12, hf⟩ := o_bindV hf
        refine wr_Vv (kc1 := 0) (ks1 := 0) 54 [] C dX6_person_54 (tX6_lays l N    μ8 μ13 h12) okX6_lays q1690 (b := 0) spM_0 rfl ⟨rfl, rfl, Nat.le_of_ble_eq_true rfl, Nat.le_of_ble_eq_true rfl, Nat.zero_le _, Nat.zero_le _⟩ (Nat.le_of_ble_eq_true rfl) rfl ?_
        refine wr_iload_n 57 C dX6_person_57 2 rfl rfl ?_
        refine wr_iconst 58 C dX6_person_58 (v := 2) rfl ?_
        obtain ⟨Jperson89, eJperson89, hf⟩ := o_let hf
        have hJperson89 : ∀ (v15 : Int32) (μ14 : wMem), Jperson89 v15 μ14 = some r0 → wJ p l e ({ frames := 5, cells := 0, slots := 0, locals := 112 } : Room) s m args below meth c 3 D vwCl (spM ++ E) q ca A (wQi ({ frames := 5, cells := 0, slots := 0, locals := 112 } : Room) D vwCl (spM ++ E) q ca below args s A r0) 0 0 μ14 89 [(1, .int a1)] [.int v15] := by
          intro v15 μ14 hf
          rw [eJperson89] at hf
          refine wr_iload_n 89 C dX6_person_89 0 rfl rfl ?_
          refine wr_ishr 90 C dX6_person_90 ?_
          refine wr_iconst 91 C dX6_person_91 (v := 1) rfl ?_
          refine wr_iand 92 C dX6_person_92 ?_
          exact wr_iret 93 C dX6_person_93 ⟨Nat.zero_le _, Nat.zero_le _⟩ (Option.some.inj hf)
        refine wr_icmp_ne 59 71 C dX6_person_59 (by decide) (fun c16 => ?_) (fun c16 => ?_)
        · replace hf := o_neg c16 hf
          refine wr_iload_n 71 C dX6_person_71 2 rfl rfl ?_
          refine wr_iconst 72 C dX6_person_72 (v := 3) rfl ?_
          refine wr_icmp_ne 73 85 C dX6_person_73 (by decide) (fun c17 => ?_) (fun c17 => ?_)
          · replace hf := o_neg c17 hf
            refine wr_aload_n 85 C dX6_person_85 0 rfl rfl ?_
            refine gespM_0_23_X6 86 C dX6_person_86 ?_
            refine wr_sub [(1, .int a1)] [1] rfl ?_
            exact hJperson89 (μ13.1 0 23) μ13 hf
          · replace hf := o_pos c17 hf
            refine wr_aload_n 76 C dX6_person_76 0 rfl rfl ?_
            refine gespM_0_17_X6 77 C dX6_person_77 ?_
            refine wr_iconst 80 C dX6_person_80 (v := 5) rfl ?_
            obtain ⟨g18, hf⟩ := o_g hf
            refine wr_iald 81 C dX6_person_81 spM_7 g18 ?_
            refine wr_goto 82 C dX6_person_82 (tgt := 89) (by decide) ?_
            refine wr_sub [(1, .int a1)] [1] rfl ?_
            exact hJperson89 (μ13.1 7 (Int32.toNatClampNeg (5 : Int32))) μ13 hf
        · replace hf := o_pos c16 hf
          refine wr_aload_n 62 C dX6_person_62 0 rfl rfl ?_
          refine gespM_0_17_X6 63 C dX6_person_63 ?_
          refine wr_iconst 66 C dX6_person_66 (v := 4) rfl ?_
          obtain ⟨g19, hf⟩ := o_g hf
          refine wr_iald 67 C dX6_person_67 spM_7 g19 ?_
          refine wr_goto 68 C dX6_person_68 (tgt := 89) (by decide) ?_
          refine wr_sub [(1, .int a1)] [1] rfl ?_
          exact hJperson89 (μ13.1 7 (Int32.toNatClampNeg (4 : Int32))) μ13 hf
      · replace hf := o_neg c11 hf
        refine wr_iload_n 33 C dX6_person_33 2 rfl rfl ?_
        refine wr_if_ne 34 46 C dX6_person_34 (by decide) (fun c20 => ?_) (fun c20 => ?_)
        · replace hf := o_neg c20 hf
          refine wr_aload_n 46 C dX6_person_46 0 rfl rfl ?_
          refine gespM_0_19_X6 47 C dX6_person_47 ?_
          refine wr_iload_n 50 C dX6_person_50 1 rfl rfl ?_
          obtain ⟨g21, hf⟩ := o_g hf
          refine wr_iald 51 C dX6_person_51 spM_9 g21 ?_
          exact wr_iret 52 C dX6_person_52 ⟨Nat.zero_le _, Nat.zero_le _⟩ (Option.some.inj hf)
        · replace hf := o_pos c20 hf
          refine wr_aload_n 37 C dX6_person_37 0 rfl rfl ?_
          refine gespM_0_18_X6 38 C dX6_person_38 ?_
          refine wr_iload_n 41 C dX6_person_41 1 rfl rfl ?_
          obtain ⟨g22, hf⟩ := o_g hf
          refine wr_iald 42 C dX6_person_42 spM_8 g22 ?_
          refine wr_goto 43 C dX6_person_43 (tgt := 52) (by decide) ?_
          exact wr_iret 52 C dX6_person_52 ⟨Nat.zero_le _, Nat.zero_le _⟩ (Option.some.inj hf)
    · replace hf := o_pos c10 hf
      refine wr_sub [] [] rfl ?_
      exact hJperson25  μ8 hf
abbrev cX6_isPost : ByteArray := prog_11_method_35_code
def yX6_isPost : MethodName := ⟨RX6, "isPost", "(I)Z"⟩
def dkwX6_isPost_0 : List UInt8 := [27, 133, 9, 42, 180, 0, 34, 6, 46, 4, 100, 133, 184, 0, 93, 172]
abbrev dktX6_isPost_0 : List UInt8 := dkwX6_isPost_0 ++ []
theorem dksX6_isPost_0 : cX6_isPost.data.toList.drop 0 = dktX6_isPost_0 := by decide +kernel
theorem dX6_isPost_0 : decode cX6_isPost 0 = .ok (.iload_n 1, 1) := dk_27 (dk_at dksX6_isPost_0 0 rfl rfl)
theorem dX6_isPost_1 : decode cX6_isPost 1 = .ok (.i2l, 1) := dk_133 (dk_at dksX6_isPost_0 1 rfl rfl)
theorem dX6_isPost_2 : decode cX6_isPost 2 = .ok (.lconst 0, 1) := dk_9 (dk_at dksX6_isPost_0 2 rfl rfl)
theorem dX6_isPost_3 : decode cX6_isPost 3 = .ok (.aload_n 0, 1) := dk_42 (dk_at dksX6_isPost_0 3 rfl rfl)
theorem dX6_isPost_4 : decode cX6_isPost 4 = .ok (.getfield 34, 3) := dk_180 0 34 (dk_at dksX6_isPost_0 4 rfl rfl)
theorem dX6_isPost_7 : decode cX6_isPost 7 = .ok (.iconst 3, 1) := dk_6 (dk_at dksX6_isPost_0 7 rfl rfl)
theorem dX6_isPost_8 : decode cX6_isPost 8 = .ok (.iaload, 1) := dk_46 (dk_at dksX6_isPost_0 8 rfl rfl)
theorem dX6_isPost_9 : decode cX6_isPost 9 = .ok (.iconst 1, 1) := dk_4 (dk_at dksX6_isPost_0 9 rfl rfl)
theorem dX6_isPost_10 : decode cX6_isPost 10 = .ok (.isub, 1) := dk_100 (dk_at dksX6_isPost_0 10 rfl rfl)
theorem dX6_isPost_11 : decode cX6_isPost 11 = .ok (.i2l, 1) := dk_133 (dk_at dksX6_isPost_0 11 rfl rfl)
theorem dX6_isPost_12 : decode cX6_isPost 12 = .ok (.invokestatic 93, 3) := dk_184 0 93 (dk_at dksX6_isPost_0 12 rfl rfl)
theorem dX6_isPost_15 : decode cX6_isPost 15 = .ok (.ireturn, 1) := dk_172 (dk_at dksX6_isPost_0 15 rfl rfl)

theorem okX6_isPost : wOkV yX6_isPost cX6_isPost 2 (some .boolean) 1 := ⟨q1732, qs97, q145, q1733, by decide, by decide, by decide +kernel⟩
def fX6_isPost (N : Nat)  (a1 : Int32) (μ : wMem) : Option (Int32 × wMem) :=
  wG (ok_in (3 : Int32) 35) (wBind (fX6_in N  (Int32.toInt64 a1) 0 (Int32.toInt64 ((μ.1 7 (Int32.toNatClampNeg (3 : Int32))) - (1 : Int32))) μ) fun v4 μ3 => wG (ok_b v4) (some (v4, μ3)))
set_option maxHeartbeats 4000000 in
set_option maxRecDepth 100000 in
theorem tX6_isPost (l : Launch) {D : va_G} {E : List wCell} {q : Nat → Nat} {ca : wCA} (N : Nat)   (a1 : Int32) (μ : wMem) (r0 : (Int32 × wMem)) (hf : fX6_isPost N  a1 μ = some r0) : wMi l yX6_isPost cX6_isPost 2 (some .boolean) ({ frames := 1, cells := 0, slots := 0, locals := 25 } : Room) D vwCl (spM ++ E) q ca [.ref (q 0), .int a1] μ r0 := by
  refine wMi_intro (by decide) (Nat.le_of_ble_eq_true rfl) ?_
  intro p e s m args below meth c A C
  unfold fX6_isPost at hf
  refine wr_sub [(0, .ref (q 0)), (1, .int a1)] [0, 1] rfl ?_
  refine wr_iload_n 0 C dX6_isPost_0 1 rfl rfl ?_
  refine wr_i2l 1 C dX6_isPost_1 ?_
  refine wr_lconst 2 C dX6_isPost_2 (v := 0) rfl ?_
  refine wr_aload_n 3 C dX6_isPost_3 0 rfl rfl ?_
  refine gespM_0_17_X6 4 C dX6_isPost_4 ?_
  refine wr_iconst 7 C dX6_isPost_7 (v := 3) rfl ?_
  obtain ⟨g1, hf⟩ := o_g hf
  refine wr_iald 8 C dX6_isPost_8 spM_7 g1 ?_
  refine wr_iconst 9 C dX6_isPost_9 (v := 1) rfl ?_
  refine wr_isub 10 C dX6_isPost_10 ?_
  refine wr_i2l 11 C dX6_isPost_11 ?_
  obtain ⟨v4, μ3, h2, hf⟩ := o_bind hf
  refine wr_Si (kc1 := 0) (ks1 := 0) 12 [] C dX6_isPost_12 (tX6_in l N   (Int32.toInt64 a1) 0 (Int32.toInt64 ((μ.1 7 (Int32.toNatClampNeg (3 : Int32))) - (1 : Int32))) μ (v4, μ3) h2) okX6_in q1552 ⟨rfl, rfl, Nat.le_of_ble_eq_true rfl, Nat.le_of_ble_eq_true rfl, Nat.zero_le _, Nat.zero_le _⟩ (Nat.le_of_ble_eq_true rfl) rfl ?_
  obtain ⟨g5, hf⟩ := o_g hf
  exact wr_zret 15 C dX6_isPost_15 g5 ⟨Nat.zero_le _, Nat.zero_le _⟩ (Option.some.inj hf)
abbrev cX6_post : ByteArray := prog_11_method_57_code
def yX6_post : MethodName := ⟨RX6, "post", "(II)I"⟩
def dkwX6_post_2 : List UInt8 := [46, 167, 0, 20, 27, 154, 0, 10, 42, 180, 0, 244, 167, 0, 7, 42, 180, 0, 247, 4, 100, 172]
abbrev dktX6_post_2 : List UInt8 := dkwX6_post_2 ++ []
def dkwX6_post_1 : List UInt8 := [154, 0, 6, 16, 254, 172, 42, 182, 1, 61, 28, 6, 162, 0, 16, 42, 180, 0, 43, 6, 27, 104, 28, 96]
abbrev dktX6_post_1 : List UInt8 := dkwX6_post_1 ++ dktX6_post_2
def dkwX6_post_0 : List UInt8 := [42, 3, 181, 0, 88, 42, 27, 182, 1, 64, 153, 0, 15, 28, 133, 9, 20, 0, 91, 184, 0, 93]
abbrev dktX6_post_0 : List UInt8 := dkwX6_post_0 ++ dktX6_post_1
theorem dksX6_post_0 : cX6_post.data.toList.drop 0 = dktX6_post_0 := by decide +kernel
theorem dksX6_post_1 : cX6_post.data.toList.drop 22 = dktX6_post_1 := dk_seg dksX6_post_0 22 rfl rfl
theorem dksX6_post_2 : cX6_post.data.toList.drop 46 = dktX6_post_2 := dk_seg dksX6_post_1 24 rfl rfl
theorem dX6_post_0 : decode cX6_post 0 = .ok (.aload_n 0, 1) := dk_42 (dk_at dksX6_post_0 0 rfl rfl)
theorem dX6_post_1 : decode cX6_post 1 = .ok (.iconst 0, 1) := dk_3 (dk_at dksX6_post_0 1 rfl rfl)
theorem dX6_post_2 : decode cX6_post 2 = .ok (.putfield 88, 3) := dk_181 0 88 (dk_at dksX6_post_0 2 rfl rfl)
theorem dX6_post_5 : decode cX6_post 5 = .ok (.aload_n 0, 1) := dk_42 (dk_at dksX6_post_0 5 rfl rfl)
theorem dX6_post_6 : decode cX6_post 6 = .ok (.iload_n 1, 1) := dk_27 (dk_at dksX6_post_0 6 rfl rfl)
theorem dX6_post_7 : decode cX6_post 7 = .ok (.invokevirtual 320, 3) := dk_182 1 64 (dk_at dksX6_post_0 7 rfl rfl)
theorem dX6_post_10 : decode cX6_post 10 = .ok (.ifCond .eq 15, 3) := dk_153 0 15 (dk_at dksX6_post_0 10 rfl rfl)
theorem dX6_post_13 : decode cX6_post 13 = .ok (.iload_n 2, 1) := dk_28 (dk_at dksX6_post_0 13 rfl rfl)
theorem dX6_post_14 : decode cX6_post 14 = .ok (.i2l, 1) := dk_133 (dk_at dksX6_post_0 14 rfl rfl)
theorem dX6_post_15 : decode cX6_post 15 = .ok (.lconst 0, 1) := dk_9 (dk_at dksX6_post_0 15 rfl rfl)
theorem dX6_post_16 : decode cX6_post 16 = .ok (.ldc2_w 91, 3) := dk_20 0 91 (dk_at dksX6_post_0 16 rfl rfl)
theorem dX6_post_19 : decode cX6_post 19 = .ok (.invokestatic 93, 3) := dk_184 0 93 (dk_at dksX6_post_0 19 rfl rfl)
theorem dX6_post_22 : decode cX6_post 22 = .ok (.ifCond .ne 6, 3) := dk_154 0 6 (dk_at dksX6_post_1 0 rfl rfl)
theorem dX6_post_25 : decode cX6_post 25 = .ok (.bipush (-2), 2) := dk_16 254 (dk_at dksX6_post_1 3 rfl rfl)
theorem dX6_post_27 : decode cX6_post 27 = .ok (.ireturn, 1) := dk_172 (dk_at dksX6_post_1 5 rfl rfl)
theorem dX6_post_28 : decode cX6_post 28 = .ok (.aload_n 0, 1) := dk_42 (dk_at dksX6_post_1 6 rfl rfl)
theorem dX6_post_29 : decode cX6_post 29 = .ok (.invokevirtual 317, 3) := dk_182 1 61 (dk_at dksX6_post_1 7 rfl rfl)
theorem dX6_post_32 : decode cX6_post 32 = .ok (.iload_n 2, 1) := dk_28 (dk_at dksX6_post_1 10 rfl rfl)
theorem dX6_post_33 : decode cX6_post 33 = .ok (.iconst 3, 1) := dk_6 (dk_at dksX6_post_1 11 rfl rfl)
theorem dX6_post_34 : decode cX6_post 34 = .ok (.if_icmp .ge 16, 3) := dk_162 0 16 (dk_at dksX6_post_1 12 rfl rfl)
theorem dX6_post_37 : decode cX6_post 37 = .ok (.aload_n 0, 1) := dk_42 (dk_at dksX6_post_1 15 rfl rfl)
theorem dX6_post_38 : decode cX6_post 38 = .ok (.getfield 43, 3) := dk_180 0 43 (dk_at dksX6_post_1 16 rfl rfl)
theorem dX6_post_41 : decode cX6_post 41 = .ok (.iconst 3, 1) := dk_6 (dk_at dksX6_post_1 19 rfl rfl)
theorem dX6_post_42 : decode cX6_post 42 = .ok (.iload_n 1, 1) := dk_27 (dk_at dksX6_post_1 20 rfl rfl)
theorem dX6_post_43 : decode cX6_post 43 = .ok (.imul, 1) := dk_104 (dk_at dksX6_post_1 21 rfl rfl)
theorem dX6_post_44 : decode cX6_post 44 = .ok (.iload_n 2, 1) := dk_28 (dk_at dksX6_post_1 22 rfl rfl)
theorem dX6_post_45 : decode cX6_post 45 = .ok (.iadd, 1) := dk_96 (dk_at dksX6_post_1 23 rfl rfl)
theorem dX6_post_46 : decode cX6_post 46 = .ok (.iaload, 1) := dk_46 (dk_at dksX6_post_2 0 rfl rfl)
theorem dX6_post_47 : decode cX6_post 47 = .ok (.goto 20, 3) := dk_167 0 20 (dk_at dksX6_post_2 1 rfl rfl)
theorem dX6_post_50 : decode cX6_post 50 = .ok (.iload_n 1, 1) := dk_27 (dk_at dksX6_post_2 4 rfl rfl)
theorem dX6_post_51 : decode cX6_post 51 = .ok (.ifCond .ne 10, 3) := dk_154 0 10 (dk_at dksX6_post_2 5 rfl rfl)
theorem dX6_post_54 : decode cX6_post 54 = .ok (.aload_n 0, 1) := dk_42 (dk_at dksX6_post_2 8 rfl rfl)
theorem dX6_post_55 : decode cX6_post 55 = .ok (.getfield 244, 3) := dk_180 0 244 (dk_at dksX6_post_2 9 rfl rfl)
theorem dX6_post_58 : decode cX6_post 58 = .ok (.goto 7, 3) := dk_167 0 7 (dk_at dksX6_post_2 12 rfl rfl)
theorem dX6_post_61 : decode cX6_post 61 = .ok (.aload_n 0, 1) := dk_42 (dk_at dksX6_post_2 15 rfl rfl)
theorem dX6_post_62 : decode cX6_post 62 = .ok (.getfield 247, 3) := dk_180 0 247 (dk_at dksX6_post_2 16 rfl rfl)
theorem dX6_post_65 : decode cX6_post 65 = .ok (.iconst 1, 1) := dk_4 (dk_at dksX6_post_2 19 rfl rfl)
theorem dX6_post_66 : decode cX6_post 66 = .ok (.isub, 1) := dk_100 (dk_at dksX6_post_2 20 rfl rfl)
theorem dX6_post_67 : decode cX6_post 67 = .ok (.ireturn, 1) := dk_172 (dk_at dksX6_post_2 21 rfl rfl)
theorem gespM_0_25_X6 {p : Program} {l : Launch} {e : Env} {R : Room} {s : State} {m : MethodId} {args : Array Value} {below : List Frame} {meth : Method} {c : Code} {cc : ByteArray} {nL : Nat} {ret : Option FieldType} {D : va_G} {E : List wCell} {q : Nat → Nat} {ca : wCA} {A : Nat → Prop} {Q : State → Prop} {kc ks : Nat} {μ : wMem} {lv : List (Nat × Value)} {st : List Value} (pc : Nat) (C : wC p R s m args meth c cc "OnePassportModel" nL ret D vwCl (spM ++ E) q ca A) (hd : decode cc pc = .ok (.getfield 244, 3)) (k : wJ p l e R s m args below meth c nL D vwCl (spM ++ E) q ca A Q kc ks μ (pc + 3) lv (.int (μ.1 0 25) :: st)) : wJ p l e R s m args below meth c nL D vwCl (spM ++ E) q ca A Q kc ks μ pc lv (.ref (q 0) :: st) := wr_getI pc 25 C hd spM_0 rfl in_X6 (by decide) rfl q1424 k
theorem gespM_0_26_X6 {p : Program} {l : Launch} {e : Env} {R : Room} {s : State} {m : MethodId} {args : Array Value} {below : List Frame} {meth : Method} {c : Code} {cc : ByteArray} {nL : Nat} {ret : Option FieldType} {D : va_G} {E : List wCell} {q : Nat → Nat} {ca : wCA} {A : Nat → Prop} {Q : State → Prop} {kc ks : Nat} {μ : wMem} {lv : List (Nat × Value)} {st : List Value} (pc : Nat) (C : wC p R s m args meth c cc "OnePassportModel" nL ret D vwCl (spM ++ E) q ca A) (hd : decode cc pc = .ok (.getfield 247, 3)) (k : wJ p l e R s m args below meth c nL D vwCl (spM ++ E) q ca A Q kc ks μ (pc + 3) lv (.int (μ.1 0 26) :: st)) : wJ p l e R s m args below meth c nL D vwCl (spM ++ E) q ca A Q kc ks μ pc lv (.ref (q 0) :: st) := wr_getI pc 26 C hd spM_0 rfl in_X6 (by decide) rfl q1425 k
theorem okX6_post : wOkV yX6_post cX6_post 3 (some .int) 2 := ⟨q1727, q1728, q145, q1729, by decide, by decide, by decide +kernel⟩
def fX6_post (N : Nat)  (a1 : Int32) (a2 : Int32) (μ : wMem) : Option (Int32 × wMem) :=
  wLet (wSI μ 0 0 (0 : Int32)) fun μ1 => wBind (fX6_isPost N  a1 μ1) fun v4 μ3 => wLet (fun  (μ5 : wMem) => some ((-2), μ5)) fun Jpost25 => if v4 = 0 then Jpost25  μ3 else wBind (fX6_in N  (Int32.toInt64 a2) 0 3 μ3) fun v9 μ8 => if v9 = 0 then Jpost25  μ8 else wBindV (fX6_lays N   μ8) fun μ12 => if (3 : Int32) ≤ a2 then wLet (fun (v15 : Int32) (μ14 : wMem) => some (v15 - (1 : Int32), μ14)) fun Jpost65 => if a1 = 0 then Jpost65 (μ12.1 0 25) μ12 else Jpost65 (μ12.1 0 26) μ12 else wG (ok_in (((3 : Int32) * a1) + a2) 30) (some (μ12.1 10 (Int32.toNatClampNeg (((3 : Int32) * a1) + a2)), μ12))
set_option maxHeartbeats 4000000 in
set_option maxRecDepth 100000 in
theorem tX6_post (l : Launch) {D : va_G} {E : List wCell} {q : Nat → Nat} {ca : wCA} (N : Nat)   (a1 : Int32) (a2 : Int32) (μ : wMem) (r0 : (Int32 × wMem)) (hf : fX6_post N  a1 a2 μ = some r0) : wMi l yX6_post cX6_post 3 (some .int) ({ frames := 5, cells := 0, slots := 0, locals := 112 } : Room) D vwCl (spM ++ E) q ca [.ref (q 0), .int a1, .int a2] μ r0 := by
  refine wMi_intro (by decide) (Nat.le_of_ble_eq_true rfl) ?_
  intro p e s m args below meth c A C
  unfold fX6_post at hf
  refine wr_sub [(0, .ref (q 0)), (1, .int a1), (2, .int a2)] [0, 1, 2] rfl ?_
  refine wr_aload_n 0 C dX6_post_0 0 rfl rfl ?_
  refine wr_iconst 1 C dX6_post_1 (v := 0) rfl ?_
  obtain ⟨μ1, eμ1, hf⟩ := o_let hf
  refine puspM_0_0_X6 2 C dX6_post_2 eμ1 ?_
  refine wr_aload_n 5 C dX6_post_5 0 rfl rfl ?_
  refine wr_iload_n 6 C dX6_post_6 1 rfl rfl ?_
  obtain ⟨v4, μ3, h2, hf⟩ := o_bind hf
  refine wr_Vi (kc1 := 0) (ks1 := 0) 7 [] C dX6_post_7 (tX6_isPost l N   a1 μ1 (v4, μ3) h2) okX6_isPost q1730 (b := 0) spM_0 rfl ⟨rfl, rfl, Nat.le_of_ble_eq_true rfl, Nat.le_of_ble_eq_true rfl, Nat.zero_le _, Nat.zero_le _⟩ (Nat.le_of_ble_eq_true rfl) rfl ?_
  obtain ⟨Jpost25, eJpost25, hf⟩ := o_let hf
  have hJpost25 : ∀  (μ5 : wMem), Jpost25  μ5 = some r0 → wJ p l e ({ frames := 5, cells := 0, slots := 0, locals := 112 } : Room) s m args below meth c 3 D vwCl (spM ++ E) q ca A (wQi ({ frames := 5, cells := 0, slots := 0, locals := 112 } : Room) D vwCl (spM ++ E) q ca below args s A r0) 0 0 μ5 25 [] [] := by
    intro  μ5 hf
    rw [eJpost25] at hf
    refine wr_bipush 25 C dX6_post_25 (v := (-2)) rfl ?_
    exact wr_iret 27 C dX6_post_27 ⟨Nat.zero_le _, Nat.zero_le _⟩ (Option.some.inj hf)
  refine wr_if_eq 10 25 C dX6_post_10 (by decide) (fun c6 => ?_) (fun c6 => ?_)
  · replace hf := o_pos c6 hf
    refine wr_sub [] [] rfl ?_
    exact hJpost25  μ3 hf
  · replace hf := o_neg c6 hf
    refine wr_iload_n 13 C dX6_post_13 2 rfl rfl ?_
    refine wr_i2l 14 C dX6_post_14 ?_
    refine wr_lconst 15 C dX6_post_15 (v := 0) rfl ?_
    refine wr_ldc2 16 C dX6_post_16 q1551 ?_
    obtain ⟨v9, μ8, h7, hf⟩ := o_bind hf
    refine wr_Si (kc1 := 0) (ks1 := 0) 19 [] C dX6_post_19 (tX6_in l N   (Int32.toInt64 a2) 0 3 μ3 (v9, μ8) h7) okX6_in q1552 ⟨rfl, rfl, Nat.le_of_ble_eq_true rfl, Nat.le_of_ble_eq_true rfl, Nat.zero_le _, Nat.zero_le _⟩ (Nat.le_of_ble_eq_true rfl) rfl ?_
    refine wr_if_ne 22 28 C dX6_post_22 (by decide) (fun c10 => ?_) (fun c10 => ?_)
    · replace hf := o_neg c10 hf
      refine wr_aload_n 28 C dX6_post_28 0 rfl rfl ?_
      obtain ⟨μ12, h11, hf⟩ := o_bindV hf
      refine wr_Vv (kc1 := 0) (ks1 := 0) 29 [] C dX6_post_29 (tX6_lays l N    μ8 μ12 h11) okX6_lays q1690 (b := 0) spM_0 rfl ⟨rfl, rfl, Nat.le_of_ble_eq_true rfl, Nat.le_of_ble_eq_true rfl, Nat.zero_le _, Nat.zero_le _⟩ (Nat.le_of_ble_eq_true rfl) rfl ?_
      refine wr_iload_n 32 C dX6_post_32 2 rfl rfl ?_
      refine wr_iconst 33 C dX6_post_33 (v := 3) rfl ?_
      refine wr_icmp_ge 34 50 C dX6_post_34 (by decide) (fun c13 => ?_) (fun c13 => ?_)
      · replace hf := o_pos c13 hf
        refine wr_iload_n 50 C dX6_post_50 1 rfl rfl ?_
        obtain ⟨Jpost65, eJpost65, hf⟩ := o_let hf
        have hJpost65 : ∀ (v15 : Int32) (μ14 : wMem), Jpost65 v15 μ14 = some r0 → wJ p l e ({ frames := 5, cells := 0, slots := 0, locals := 112 } : Room) s m args below meth c 3 D vwCl (spM ++ E) q ca A (wQi ({ frames := 5, cells := 0, slots := 0, locals := 112 } : Room) D vwCl (spM ++ E) q ca below args s A r0) 0 0 μ14 65 [] [.int v15] := by
          intro v15 μ14 hf
          rw [eJpost65] at hf
          refine wr_iconst 65 C dX6_post_65 (v := 1) rfl ?_
          refine wr_isub 66 C dX6_post_66 ?_
          exact wr_iret 67 C dX6_post_67 ⟨Nat.zero_le _, Nat.zero_le _⟩ (Option.some.inj hf)
        refine wr_if_ne 51 61 C dX6_post_51 (by decide) (fun c16 => ?_) (fun c16 => ?_)
        · replace hf := o_neg c16 hf
          refine wr_aload_n 61 C dX6_post_61 0 rfl rfl ?_
          refine gespM_0_26_X6 62 C dX6_post_62 ?_
          refine wr_sub [] [] rfl ?_
          exact hJpost65 (μ12.1 0 26) μ12 hf
        · replace hf := o_pos c16 hf
          refine wr_aload_n 54 C dX6_post_54 0 rfl rfl ?_
          refine gespM_0_25_X6 55 C dX6_post_55 ?_
          refine wr_goto 58 C dX6_post_58 (tgt := 65) (by decide) ?_
          refine wr_sub [] [] rfl ?_
          exact hJpost65 (μ12.1 0 25) μ12 hf
      · replace hf := o_neg c13 hf
        refine wr_aload_n 37 C dX6_post_37 0 rfl rfl ?_
        refine gespM_0_20_X6 38 C dX6_post_38 ?_
        refine wr_iconst 41 C dX6_post_41 (v := 3) rfl ?_
        refine wr_iload_n 42 C dX6_post_42 1 rfl rfl ?_
        refine wr_imul 43 C dX6_post_43 ?_
        refine wr_iload_n 44 C dX6_post_44 2 rfl rfl ?_
        refine wr_iadd 45 C dX6_post_45 ?_
        obtain ⟨g17, hf⟩ := o_g hf
        refine wr_iald 46 C dX6_post_46 spM_10 g17 ?_
        refine wr_goto 47 C dX6_post_47 (tgt := 67) (by decide) ?_
        exact wr_iret 67 C dX6_post_67 ⟨Nat.zero_le _, Nat.zero_le _⟩ (Option.some.inj hf)
    · replace hf := o_pos c10 hf
      refine wr_sub [] [] rfl ?_
      exact hJpost25  μ8 hf
abbrev cX6_risk : ByteArray := prog_11_method_58_code
def yX6_risk : MethodName := ⟨RX6, "risk", "(II)I"⟩
def dkwX6_risk_1 : List UInt8 := [182, 1, 44, 167, 0, 5, 16, 254, 172]
abbrev dktX6_risk_1 : List UInt8 := dkwX6_risk_1 ++ []
def dkwX6_risk_0 : List UInt8 := [42, 3, 181, 0, 88, 42, 27, 182, 1, 56, 153, 0, 20, 42, 28, 182, 1, 64, 153, 0, 12, 42, 27, 28]
abbrev dktX6_risk_0 : List UInt8 := dkwX6_risk_0 ++ dktX6_risk_1
theorem dksX6_risk_0 : cX6_risk.data.toList.drop 0 = dktX6_risk_0 := by decide +kernel
theorem dksX6_risk_1 : cX6_risk.data.toList.drop 24 = dktX6_risk_1 := dk_seg dksX6_risk_0 24 rfl rfl
theorem dX6_risk_0 : decode cX6_risk 0 = .ok (.aload_n 0, 1) := dk_42 (dk_at dksX6_risk_0 0 rfl rfl)
theorem dX6_risk_1 : decode cX6_risk 1 = .ok (.iconst 0, 1) := dk_3 (dk_at dksX6_risk_0 1 rfl rfl)
theorem dX6_risk_2 : decode cX6_risk 2 = .ok (.putfield 88, 3) := dk_181 0 88 (dk_at dksX6_risk_0 2 rfl rfl)
theorem dX6_risk_5 : decode cX6_risk 5 = .ok (.aload_n 0, 1) := dk_42 (dk_at dksX6_risk_0 5 rfl rfl)
theorem dX6_risk_6 : decode cX6_risk 6 = .ok (.iload_n 1, 1) := dk_27 (dk_at dksX6_risk_0 6 rfl rfl)
theorem dX6_risk_7 : decode cX6_risk 7 = .ok (.invokevirtual 312, 3) := dk_182 1 56 (dk_at dksX6_risk_0 7 rfl rfl)
theorem dX6_risk_10 : decode cX6_risk 10 = .ok (.ifCond .eq 20, 3) := dk_153 0 20 (dk_at dksX6_risk_0 10 rfl rfl)
theorem dX6_risk_13 : decode cX6_risk 13 = .ok (.aload_n 0, 1) := dk_42 (dk_at dksX6_risk_0 13 rfl rfl)
theorem dX6_risk_14 : decode cX6_risk 14 = .ok (.iload_n 2, 1) := dk_28 (dk_at dksX6_risk_0 14 rfl rfl)
theorem dX6_risk_15 : decode cX6_risk 15 = .ok (.invokevirtual 320, 3) := dk_182 1 64 (dk_at dksX6_risk_0 15 rfl rfl)
theorem dX6_risk_18 : decode cX6_risk 18 = .ok (.ifCond .eq 12, 3) := dk_153 0 12 (dk_at dksX6_risk_0 18 rfl rfl)
theorem dX6_risk_21 : decode cX6_risk 21 = .ok (.aload_n 0, 1) := dk_42 (dk_at dksX6_risk_0 21 rfl rfl)
theorem dX6_risk_22 : decode cX6_risk 22 = .ok (.iload_n 1, 1) := dk_27 (dk_at dksX6_risk_0 22 rfl rfl)
theorem dX6_risk_23 : decode cX6_risk 23 = .ok (.iload_n 2, 1) := dk_28 (dk_at dksX6_risk_0 23 rfl rfl)
theorem dX6_risk_24 : decode cX6_risk 24 = .ok (.invokevirtual 300, 3) := dk_182 1 44 (dk_at dksX6_risk_1 0 rfl rfl)
theorem dX6_risk_27 : decode cX6_risk 27 = .ok (.goto 5, 3) := dk_167 0 5 (dk_at dksX6_risk_1 3 rfl rfl)
theorem dX6_risk_30 : decode cX6_risk 30 = .ok (.bipush (-2), 2) := dk_16 254 (dk_at dksX6_risk_1 6 rfl rfl)
theorem dX6_risk_32 : decode cX6_risk 32 = .ok (.ireturn, 1) := dk_172 (dk_at dksX6_risk_1 8 rfl rfl)

theorem okX6_risk : wOkV yX6_risk cX6_risk 3 (some .int) 2 := ⟨q1735, q1736, q145, q1737, by decide, by decide, by decide +kernel⟩
def fX6_risk (N : Nat)  (a1 : Int32) (a2 : Int32) (μ : wMem) : Option (Int32 × wMem) :=
  wLet (wSI μ 0 0 (0 : Int32)) fun μ1 => wBind (fX6_isPerson N  a1 μ1) fun v4 μ3 => wLet (fun  (μ5 : wMem) => some ((-2), μ5)) fun Jrisk30 => if v4 = 0 then Jrisk30  μ3 else wBind (fX6_isPost N  a2 μ3) fun v9 μ8 => if v9 = 0 then Jrisk30  μ8 else wBind (fX6_riskOf N  a1 a2 μ8) fun v13 μ12 => some (v13, μ12)
set_option maxHeartbeats 4000000 in
set_option maxRecDepth 100000 in
theorem tX6_risk (l : Launch) {D : va_G} {E : List wCell} {q : Nat → Nat} {ca : wCA} (N : Nat)   (a1 : Int32) (a2 : Int32) (μ : wMem) (r0 : (Int32 × wMem)) (hf : fX6_risk N  a1 a2 μ = some r0) : wMi l yX6_risk cX6_risk 3 (some .int) ({ frames := 2, cells := 0, slots := 0, locals := 46 } : Room) D vwCl (spM ++ E) q ca [.ref (q 0), .int a1, .int a2] μ r0 := by
  refine wMi_intro (by decide) (Nat.le_of_ble_eq_true rfl) ?_
  intro p e s m args below meth c A C
  unfold fX6_risk at hf
  refine wr_sub [(0, .ref (q 0)), (1, .int a1), (2, .int a2)] [0, 1, 2] rfl ?_
  refine wr_aload_n 0 C dX6_risk_0 0 rfl rfl ?_
  refine wr_iconst 1 C dX6_risk_1 (v := 0) rfl ?_
  obtain ⟨μ1, eμ1, hf⟩ := o_let hf
  refine puspM_0_0_X6 2 C dX6_risk_2 eμ1 ?_
  refine wr_aload_n 5 C dX6_risk_5 0 rfl rfl ?_
  refine wr_iload_n 6 C dX6_risk_6 1 rfl rfl ?_
  obtain ⟨v4, μ3, h2, hf⟩ := o_bind hf
  refine wr_Vi (kc1 := 0) (ks1 := 0) 7 [] C dX6_risk_7 (tX6_isPerson l N   a1 μ1 (v4, μ3) h2) okX6_isPerson q1685 (b := 0) spM_0 rfl ⟨rfl, rfl, Nat.le_of_ble_eq_true rfl, Nat.le_of_ble_eq_true rfl, Nat.zero_le _, Nat.zero_le _⟩ (Nat.le_of_ble_eq_true rfl) rfl ?_
  obtain ⟨Jrisk30, eJrisk30, hf⟩ := o_let hf
  have hJrisk30 : ∀  (μ5 : wMem), Jrisk30  μ5 = some r0 → wJ p l e ({ frames := 2, cells := 0, slots := 0, locals := 46 } : Room) s m args below meth c 3 D vwCl (spM ++ E) q ca A (wQi ({ frames := 2, cells := 0, slots := 0, locals := 46 } : Room) D vwCl (spM ++ E) q ca below args s A r0) 0 0 μ5 30 [] [] := by
    intro  μ5 hf
    rw [eJrisk30] at hf
    refine wr_bipush 30 C dX6_risk_30 (v := (-2)) rfl ?_
    exact wr_iret 32 C dX6_risk_32 ⟨Nat.zero_le _, Nat.zero_le _⟩ (Option.some.inj hf)
  refine wr_if_eq 10 30 C dX6_risk_10 (by decide) (fun c6 => ?_) (fun c6 => ?_)
  · replace hf := o_pos c6 hf
    refine wr_sub [] [] rfl ?_
    exact hJrisk30  μ3 hf
  · replace hf := o_neg c6 hf
    refine wr_aload_n 13 C dX6_risk_13 0 rfl rfl ?_
    refine wr_iload_n 14 C dX6_risk_14 2 rfl rfl ?_
    obtain ⟨v9, μ8, h7, hf⟩ := o_bind hf
    refine wr_Vi (kc1 := 0) (ks1 := 0) 15 [] C dX6_risk_15 (tX6_isPost l N   a2 μ3 (v9, μ8) h7) okX6_isPost q1730 (b := 0) spM_0 rfl ⟨rfl, rfl, Nat.le_of_ble_eq_true rfl, Nat.le_of_ble_eq_true rfl, Nat.zero_le _, Nat.zero_le _⟩ (Nat.le_of_ble_eq_true rfl) rfl ?_
    refine wr_if_eq 18 30 C dX6_risk_18 (by decide) (fun c10 => ?_) (fun c10 => ?_)
    · replace hf := o_pos c10 hf
      refine wr_sub [] [] rfl ?_
      exact hJrisk30  μ8 hf
    · replace hf := o_neg c10 hf
      refine wr_aload_n 21 C dX6_risk_21 0 rfl rfl ?_
      refine wr_iload_n 22 C dX6_risk_22 1 rfl rfl ?_
      refine wr_iload_n 23 C dX6_risk_23 2 rfl rfl ?_
      obtain ⟨v13, μ12, h11, hf⟩ := o_bind hf
      refine wr_Vi (kc1 := 0) (ks1 := 0) 24 [] C dX6_risk_24 (tX6_riskOf l N   a1 a2 μ8 (v13, μ12) h11) okX6_riskOf q1706 (b := 0) spM_0 rfl ⟨rfl, rfl, Nat.le_of_ble_eq_true rfl, Nat.le_of_ble_eq_true rfl, Nat.zero_le _, Nat.zero_le _⟩ (Nat.le_of_ble_eq_true rfl) rfl ?_
      refine wr_goto 27 C dX6_risk_27 (tgt := 32) (by decide) ?_
      exact wr_iret 32 C dX6_risk_32 ⟨Nat.zero_le _, Nat.zero_le _⟩ (Option.some.inj hf)
