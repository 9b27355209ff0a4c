set_option maxRecDepth 100000
def wHs (a k : Int32) : Int32 := if ((a >>> (k &&& 31)) &&& (1 : Int32)) = (1 : Int32) then 1 else 0
theorem fX0_has_eq (N : Nat) (a b : Int32) (μ : wMem) : fX0_has N a b μ = some (wHs a b, μ) := by
  unfold fX0_has wHs
  split <;> rfl
/-- the second word: stays -/
def wPwd (len : List Nat) (byt : List (List Int32)) (N r f : Nat) (k : Int32) (cont : Nat → wMem → wRes Unit) (t : Nat) (μ : wMem) : wRes Unit :=
  if wHs (μ.1 f 5) k = 0 then (wTakes len byt N r t 7 μ).bind fun z => if z.1 = 0 then some (.inr (1, z.2.1, z.2.2)) else cont z.2.1 (wSI z.2.2 f 5 (z.2.2.1 f 5 ||| (1 <<< (k &&& 31)))) else some (.inr (1, t, μ))
/-- the words behind a person's numbers -/
def wPl (len : List Nat) (byt : List (List Int32)) (N r f : Nat) (k : Int32) : Nat → Nat → wMem → wRes Unit
  | 0, _, _ => none
  | M + 1, t, μ => if t = 3 then some (.inl ((), t, μ)) else if wHs (μ.1 f 4) k = 0 then (wTakes len byt N r t 6 μ).bind fun z => if z.1 = 0 then wPwd len byt N r f k (wPl len byt N r f k M) z.2.1 z.2.2 else wPl len byt N r f k M z.2.1 (wSI z.2.2 f 4 (z.2.2.1 f 4 ||| (1 <<< (k &&& 31)))) else wPwd len byt N r f k (wPl len byt N r f k M) t μ
def wNewPerson (len : List Nat) (byt : List (List Int32)) (N r f x t : Nat) (μ : wMem) : wRes Unit :=
  if ok_in (μ.1 f 2) 6 = true then
    wRbd (wTold len byt N r t 4 0 100 μ) fun v1 t1 μ1 =>
    wRbd (wTold len byt N r t1 5 0 9 (wSI μ1 (x + 0) (μ.1 f 2).toNatClampNeg v1)) fun v2 t2 μ2 =>
    wRbd (wPl len byt N r f (μ.1 f 2) N t2 (wSI μ2 (x + 1) (μ.1 f 2).toNatClampNeg v2)) fun _ t3 μ3 =>
    some (.inl ((), t3, wSI μ3 f 2 (μ3.1 f 2 + 1)))
  else none
abbrev cX7_newPerson : ByteArray := prog_6_method_9_code
def yX7_newPerson : MethodName := ⟨RX7, "newPerson", "()V"⟩
def dkwX7_newPerson_6 : List UInt8 := [182, 0, 103, 191, 42, 180, 0, 25, 89, 180, 0, 111, 4, 96, 181, 0, 111, 177]
abbrev dktX7_newPerson_6 : List UInt8 := dkwX7_newPerson_6 ++ []
def dkwX7_newPerson_5 : List UInt8 := [153, 0, 21, 42, 180, 0, 25, 89, 180, 0, 135, 4, 27, 120, 128, 181, 0, 135, 167, 255, 167, 42, 4]
abbrev dktX7_newPerson_5 : List UInt8 := dkwX7_newPerson_5 ++ dktX7_newPerson_6
def dkwX7_newPerson_4 : List UInt8 := [167, 255, 208, 42, 180, 0, 25, 180, 0, 135, 27, 184, 0, 130, 154, 0, 30, 42, 18, 138, 182, 0, 100]
abbrev dktX7_newPerson_4 : List UInt8 := dkwX7_newPerson_4 ++ dktX7_newPerson_5
def dkwX7_newPerson_3 : List UInt8 := [18, 133, 182, 0, 100, 153, 0, 21, 42, 180, 0, 25, 89, 180, 0, 127, 4, 27, 120, 128, 181, 0, 127]
abbrev dktX7_newPerson_3 : List UInt8 := dkwX7_newPerson_3 ++ dktX7_newPerson_4
def dkwX7_newPerson_2 : List UInt8 := [180, 0, 35, 178, 0, 75, 165, 0, 91, 42, 180, 0, 25, 180, 0, 127, 27, 184, 0, 130, 154, 0, 30, 42]
abbrev dktX7_newPerson_2 : List UInt8 := dkwX7_newPerson_2 ++ dktX7_newPerson_3
def dkwX7_newPerson_1 : List UInt8 := [182, 0, 119, 79, 42, 180, 0, 25, 180, 0, 123, 27, 42, 18, 126, 3, 16, 9, 182, 0, 119, 79, 42]
abbrev dktX7_newPerson_1 : List UInt8 := dkwX7_newPerson_1 ++ dktX7_newPerson_2
def dkwX7_newPerson_0 : List UInt8 := [42, 180, 0, 25, 180, 0, 111, 60, 42, 180, 0, 25, 180, 0, 114, 27, 42, 18, 118, 3, 16, 100]
abbrev dktX7_newPerson_0 : List UInt8 := dkwX7_newPerson_0 ++ dktX7_newPerson_1
theorem dksX7_newPerson_0 : cX7_newPerson.data.toList.drop 0 = dktX7_newPerson_0 := by decide +kernel
theorem dksX7_newPerson_1 : cX7_newPerson.data.toList.drop 22 = dktX7_newPerson_1 := dk_seg dksX7_newPerson_0 22 rfl rfl
theorem dksX7_newPerson_2 : cX7_newPerson.data.toList.drop 45 = dktX7_newPerson_2 := dk_seg dksX7_newPerson_1 23 rfl rfl
theorem dksX7_newPerson_3 : cX7_newPerson.data.toList.drop 69 = dktX7_newPerson_3 := dk_seg dksX7_newPerson_2 24 rfl rfl
theorem dksX7_newPerson_4 : cX7_newPerson.data.toList.drop 92 = dktX7_newPerson_4 := dk_seg dksX7_newPerson_3 23 rfl rfl
theorem dksX7_newPerson_5 : cX7_newPerson.data.toList.drop 115 = dktX7_newPerson_5 := dk_seg dksX7_newPerson_4 23 rfl rfl
theorem dksX7_newPerson_6 : cX7_newPerson.data.toList.drop 138 = dktX7_newPerson_6 := dk_seg dksX7_newPerson_5 23 rfl rfl
theorem dX7_newPerson_0 : decode cX7_newPerson 0 = .ok (.aload_n 0, 1) := dk_42 (dk_at dksX7_newPerson_0 0 rfl rfl)
theorem dX7_newPerson_1 : decode cX7_newPerson 1 = .ok (.getfield 25, 3) := dk_180 0 25 (dk_at dksX7_newPerson_0 1 rfl rfl)
theorem dX7_newPerson_4 : decode cX7_newPerson 4 = .ok (.getfield 111, 3) := dk_180 0 111 (dk_at dksX7_newPerson_0 4 rfl rfl)
theorem dX7_newPerson_7 : decode cX7_newPerson 7 = .ok (.istore_n 1, 1) := dk_60 (dk_at dksX7_newPerson_0 7 rfl rfl)
theorem dX7_newPerson_8 : decode cX7_newPerson 8 = .ok (.aload_n 0, 1) := dk_42 (dk_at dksX7_newPerson_0 8 rfl rfl)
theorem dX7_newPerson_9 : decode cX7_newPerson 9 = .ok (.getfield 25, 3) := dk_180 0 25 (dk_at dksX7_newPerson_0 9 rfl rfl)
theorem dX7_newPerson_12 : decode cX7_newPerson 12 = .ok (.getfield 114, 3) := dk_180 0 114 (dk_at dksX7_newPerson_0 12 rfl rfl)
theorem dX7_newPerson_15 : decode cX7_newPerson 15 = .ok (.iload_n 1, 1) := dk_27 (dk_at dksX7_newPerson_0 15 rfl rfl)
theorem dX7_newPerson_16 : decode cX7_newPerson 16 = .ok (.aload_n 0, 1) := dk_42 (dk_at dksX7_newPerson_0 16 rfl rfl)
theorem dX7_newPerson_17 : decode cX7_newPerson 17 = .ok (.ldc 118, 2) := dk_18 118 (dk_at dksX7_newPerson_0 17 rfl rfl)
theorem dX7_newPerson_19 : decode cX7_newPerson 19 = .ok (.iconst 0, 1) := dk_3 (dk_at dksX7_newPerson_0 19 rfl rfl)
theorem dX7_newPerson_20 : decode cX7_newPerson 20 = .ok (.bipush 100, 2) := dk_16 100 (dk_at dksX7_newPerson_0 20 rfl rfl)
theorem dX7_newPerson_22 : decode cX7_newPerson 22 = .ok (.invokevirtual 119, 3) := dk_182 0 119 (dk_at dksX7_newPerson_1 0 rfl rfl)
theorem dX7_newPerson_25 : decode cX7_newPerson 25 = .ok (.iastore, 1) := dk_79 (dk_at dksX7_newPerson_1 3 rfl rfl)
theorem dX7_newPerson_26 : decode cX7_newPerson 26 = .ok (.aload_n 0, 1) := dk_42 (dk_at dksX7_newPerson_1 4 rfl rfl)
theorem dX7_newPerson_27 : decode cX7_newPerson 27 = .ok (.getfield 25, 3) := dk_180 0 25 (dk_at dksX7_newPerson_1 5 rfl rfl)
theorem dX7_newPerson_30 : decode cX7_newPerson 30 = .ok (.getfield 123, 3) := dk_180 0 123 (dk_at dksX7_newPerson_1 8 rfl rfl)
theorem dX7_newPerson_33 : decode cX7_newPerson 33 = .ok (.iload_n 1, 1) := dk_27 (dk_at dksX7_newPerson_1 11 rfl rfl)
theorem dX7_newPerson_34 : decode cX7_newPerson 34 = .ok (.aload_n 0, 1) := dk_42 (dk_at dksX7_newPerson_1 12 rfl rfl)
theorem dX7_newPerson_35 : decode cX7_newPerson 35 = .ok (.ldc 126, 2) := dk_18 126 (dk_at dksX7_newPerson_1 13 rfl rfl)
theorem dX7_newPerson_37 : decode cX7_newPerson 37 = .ok (.iconst 0, 1) := dk_3 (dk_at dksX7_newPerson_1 15 rfl rfl)
theorem dX7_newPerson_38 : decode cX7_newPerson 38 = .ok (.bipush 9, 2) := dk_16 9 (dk_at dksX7_newPerson_1 16 rfl rfl)
theorem dX7_newPerson_40 : decode cX7_newPerson 40 = .ok (.invokevirtual 119, 3) := dk_182 0 119 (dk_at dksX7_newPerson_1 18 rfl rfl)
theorem dX7_newPerson_43 : decode cX7_newPerson 43 = .ok (.iastore, 1) := dk_79 (dk_at dksX7_newPerson_1 21 rfl rfl)
theorem dX7_newPerson_44 : decode cX7_newPerson 44 = .ok (.aload_n 0, 1) := dk_42 (dk_at dksX7_newPerson_1 22 rfl rfl)
theorem dX7_newPerson_45 : decode cX7_newPerson 45 = .ok (.getfield 35, 3) := dk_180 0 35 (dk_at dksX7_newPerson_2 0 rfl rfl)
theorem dX7_newPerson_48 : decode cX7_newPerson 48 = .ok (.getstatic 75, 3) := dk_178 0 75 (dk_at dksX7_newPerson_2 3 rfl rfl)
theorem dX7_newPerson_51 : decode cX7_newPerson 51 = .ok (.if_acmp .eq 91, 3) := dk_165 0 91 (dk_at dksX7_newPerson_2 6 rfl rfl)
theorem dX7_newPerson_54 : decode cX7_newPerson 54 = .ok (.aload_n 0, 1) := dk_42 (dk_at dksX7_newPerson_2 9 rfl rfl)
theorem dX7_newPerson_55 : decode cX7_newPerson 55 = .ok (.getfield 25, 3) := dk_180 0 25 (dk_at dksX7_newPerson_2 10 rfl rfl)
theorem dX7_newPerson_58 : decode cX7_newPerson 58 = .ok (.getfield 127, 3) := dk_180 0 127 (dk_at dksX7_newPerson_2 13 rfl rfl)
theorem dX7_newPerson_61 : decode cX7_newPerson 61 = .ok (.iload_n 1, 1) := dk_27 (dk_at dksX7_newPerson_2 16 rfl rfl)
theorem dX7_newPerson_62 : decode cX7_newPerson 62 = .ok (.invokestatic 130, 3) := dk_184 0 130 (dk_at dksX7_newPerson_2 17 rfl rfl)
theorem dX7_newPerson_65 : decode cX7_newPerson 65 = .ok (.ifCond .ne 30, 3) := dk_154 0 30 (dk_at dksX7_newPerson_2 20 rfl rfl)
theorem dX7_newPerson_68 : decode cX7_newPerson 68 = .ok (.aload_n 0, 1) := dk_42 (dk_at dksX7_newPerson_2 23 rfl rfl)
theorem dX7_newPerson_69 : decode cX7_newPerson 69 = .ok (.ldc 133, 2) := dk_18 133 (dk_at dksX7_newPerson_3 0 rfl rfl)
theorem dX7_newPerson_71 : decode cX7_newPerson 71 = .ok (.invokevirtual 100, 3) := dk_182 0 100 (dk_at dksX7_newPerson_3 2 rfl rfl)
theorem dX7_newPerson_74 : decode cX7_newPerson 74 = .ok (.ifCond .eq 21, 3) := dk_153 0 21 (dk_at dksX7_newPerson_3 5 rfl rfl)
theorem dX7_newPerson_77 : decode cX7_newPerson 77 = .ok (.aload_n 0, 1) := dk_42 (dk_at dksX7_newPerson_3 8 rfl rfl)
theorem dX7_newPerson_78 : decode cX7_newPerson 78 = .ok (.getfield 25, 3) := dk_180 0 25 (dk_at dksX7_newPerson_3 9 rfl rfl)
theorem dX7_newPerson_81 : decode cX7_newPerson 81 = .ok (.dup, 1) := dk_89 (dk_at dksX7_newPerson_3 12 rfl rfl)
theorem dX7_newPerson_82 : decode cX7_newPerson 82 = .ok (.getfield 127, 3) := dk_180 0 127 (dk_at dksX7_newPerson_3 13 rfl rfl)
theorem dX7_newPerson_85 : decode cX7_newPerson 85 = .ok (.iconst 1, 1) := dk_4 (dk_at dksX7_newPerson_3 16 rfl rfl)
theorem dX7_newPerson_86 : decode cX7_newPerson 86 = .ok (.iload_n 1, 1) := dk_27 (dk_at dksX7_newPerson_3 17 rfl rfl)
theorem dX7_newPerson_87 : decode cX7_newPerson 87 = .ok (.ishl, 1) := dk_120 (dk_at dksX7_newPerson_3 18 rfl rfl)
theorem dX7_newPerson_88 : decode cX7_newPerson 88 = .ok (.ior, 1) := dk_128 (dk_at dksX7_newPerson_3 19 rfl rfl)
theorem dX7_newPerson_89 : decode cX7_newPerson 89 = .ok (.putfield 127, 3) := dk_181 0 127 (dk_at dksX7_newPerson_3 20 rfl rfl)
theorem dX7_newPerson_92 : decode cX7_newPerson 92 = .ok (.goto (-48), 3) := dk_167 255 208 (dk_at dksX7_newPerson_4 0 rfl rfl)
theorem dX7_newPerson_95 : decode cX7_newPerson 95 = .ok (.aload_n 0, 1) := dk_42 (dk_at dksX7_newPerson_4 3 rfl rfl)
theorem dX7_newPerson_96 : decode cX7_newPerson 96 = .ok (.getfield 25, 3) := dk_180 0 25 (dk_at dksX7_newPerson_4 4 rfl rfl)
theorem dX7_newPerson_99 : decode cX7_newPerson 99 = .ok (.getfield 135, 3) := dk_180 0 135 (dk_at dksX7_newPerson_4 7 rfl rfl)
theorem dX7_newPerson_102 : decode cX7_newPerson 102 = .ok (.iload_n 1, 1) := dk_27 (dk_at dksX7_newPerson_4 10 rfl rfl)
theorem dX7_newPerson_103 : decode cX7_newPerson 103 = .ok (.invokestatic 130, 3) := dk_184 0 130 (dk_at dksX7_newPerson_4 11 rfl rfl)
theorem dX7_newPerson_106 : decode cX7_newPerson 106 = .ok (.ifCond .ne 30, 3) := dk_154 0 30 (dk_at dksX7_newPerson_4 14 rfl rfl)
theorem dX7_newPerson_109 : decode cX7_newPerson 109 = .ok (.aload_n 0, 1) := dk_42 (dk_at dksX7_newPerson_4 17 rfl rfl)
theorem dX7_newPerson_110 : decode cX7_newPerson 110 = .ok (.ldc 138, 2) := dk_18 138 (dk_at dksX7_newPerson_4 18 rfl rfl)
theorem dX7_newPerson_112 : decode cX7_newPerson 112 = .ok (.invokevirtual 100, 3) := dk_182 0 100 (dk_at dksX7_newPerson_4 20 rfl rfl)
theorem dX7_newPerson_115 : decode cX7_newPerson 115 = .ok (.ifCond .eq 21, 3) := dk_153 0 21 (dk_at dksX7_newPerson_5 0 rfl rfl)
theorem dX7_newPerson_118 : decode cX7_newPerson 118 = .ok (.aload_n 0, 1) := dk_42 (dk_at dksX7_newPerson_5 3 rfl rfl)
theorem dX7_newPerson_119 : decode cX7_newPerson 119 = .ok (.getfield 25, 3) := dk_180 0 25 (dk_at dksX7_newPerson_5 4 rfl rfl)
theorem dX7_newPerson_122 : decode cX7_newPerson 122 = .ok (.dup, 1) := dk_89 (dk_at dksX7_newPerson_5 7 rfl rfl)
theorem dX7_newPerson_123 : decode cX7_newPerson 123 = .ok (.getfield 135, 3) := dk_180 0 135 (dk_at dksX7_newPerson_5 8 rfl rfl)
theorem dX7_newPerson_126 : decode cX7_newPerson 126 = .ok (.iconst 1, 1) := dk_4 (dk_at dksX7_newPerson_5 11 rfl rfl)
theorem dX7_newPerson_127 : decode cX7_newPerson 127 = .ok (.iload_n 1, 1) := dk_27 (dk_at dksX7_newPerson_5 12 rfl rfl)
theorem dX7_newPerson_128 : decode cX7_newPerson 128 = .ok (.ishl, 1) := dk_120 (dk_at dksX7_newPerson_5 13 rfl rfl)
theorem dX7_newPerson_129 : decode cX7_newPerson 129 = .ok (.ior, 1) := dk_128 (dk_at dksX7_newPerson_5 14 rfl rfl)
theorem dX7_newPerson_130 : decode cX7_newPerson 130 = .ok (.putfield 135, 3) := dk_181 0 135 (dk_at dksX7_newPerson_5 15 rfl rfl)
theorem dX7_newPerson_133 : decode cX7_newPerson 133 = .ok (.goto (-89), 3) := dk_167 255 167 (dk_at dksX7_newPerson_5 18 rfl rfl)
theorem dX7_newPerson_136 : decode cX7_newPerson 136 = .ok (.aload_n 0, 1) := dk_42 (dk_at dksX7_newPerson_5 21 rfl rfl)
theorem dX7_newPerson_137 : decode cX7_newPerson 137 = .ok (.iconst 1, 1) := dk_4 (dk_at dksX7_newPerson_5 22 rfl rfl)
theorem dX7_newPerson_138 : decode cX7_newPerson 138 = .ok (.invokevirtual 103, 3) := dk_182 0 103 (dk_at dksX7_newPerson_6 0 rfl rfl)
theorem dX7_newPerson_141 : decode cX7_newPerson 141 = .ok (.athrow, 1) := dk_191 (dk_at dksX7_newPerson_6 3 rfl rfl)
theorem dX7_newPerson_142 : decode cX7_newPerson 142 = .ok (.aload_n 0, 1) := dk_42 (dk_at dksX7_newPerson_6 4 rfl rfl)
theorem dX7_newPerson_143 : decode cX7_newPerson 143 = .ok (.getfield 25, 3) := dk_180 0 25 (dk_at dksX7_newPerson_6 5 rfl rfl)
theorem dX7_newPerson_146 : decode cX7_newPerson 146 = .ok (.dup, 1) := dk_89 (dk_at dksX7_newPerson_6 8 rfl rfl)
theorem dX7_newPerson_147 : decode cX7_newPerson 147 = .ok (.getfield 111, 3) := dk_180 0 111 (dk_at dksX7_newPerson_6 9 rfl rfl)
theorem dX7_newPerson_150 : decode cX7_newPerson 150 = .ok (.iconst 1, 1) := dk_4 (dk_at dksX7_newPerson_6 12 rfl rfl)
theorem dX7_newPerson_151 : decode cX7_newPerson 151 = .ok (.iadd, 1) := dk_96 (dk_at dksX7_newPerson_6 13 rfl rfl)
theorem dX7_newPerson_152 : decode cX7_newPerson 152 = .ok (.putfield 111, 3) := dk_181 0 111 (dk_at dksX7_newPerson_6 14 rfl rfl)
theorem dX7_newPerson_155 : decode cX7_newPerson 155 = .ok (.return_, 1) := dk_177 (dk_at dksX7_newPerson_6 17 rfl rfl)
theorem okX7_newPerson : wOkV yX7_newPerson cX7_newPerson 2 none 0 := ⟨q677, qs12, q146, q678, by decide, by decide, by decide +kernel⟩
theorem tX7_ps {p : Program} {l : Launch} {e : Env} {s : State} {m : MethodId} {args : Array Value} {below : List Frame} {meth : Method} {c : Code} {D : va_G} {E : List wCell} {q : Nat → Nat} {ca : wCA} {A : Nat → Prop} {Q : State → Prop} {KC KS : Nat} {k : Int32} {n : Nat} {len : List Nat} {byt : List (List Int32)} {adK adV : Nat → Nat} {fo : Option Nat} {r f x : Nat} {ad : Nat → Nat} (h1 : spX.length ≤ r) (h2 : r < (spX ++ E).length) (h12 : 12 ≤ n) (hA : wAd ad) (hF : wRF E r f x) (hZ : (wZL ad n len byt adK adV fo) A s s.heap) {N : Nat} (cont : Nat → wMem → wRes Unit) (kc : (∀ (t : Nat) (μ : wMem) (res : Sum (Unit × Nat × wMem) (Int32 × Nat × wMem)), t < 5 → cont t μ = some res → wC p { frames := 8, cells := KC, slots := KS, locals := 174 } s m args meth c cX7_newPerson yX7_newPerson.cls 2 none D vwCl (wW E r f (ad t)) q ca A → (∀ (u : Unit) (t1 : Nat) (μ1 : wMem), wC p { frames := 8, cells := KC, slots := KS, locals := 174 } s m args meth c cX7_newPerson yX7_newPerson.cls 2 none D vwCl (wW E r f (ad t1)) q ca A → res = .inl (u, t1, μ1) → wJ p l e { frames := 8, cells := KC, slots := KS, locals := 174 } s m args below meth c 2 D vwCl (wW E r f (ad t1)) q ca A Q 0 0 μ1 142 [(1, .int k), (0, .ref (q r))] []) → (∀ (kk : Int32) (t1 : Nat) (μ1 : wMem), wC p { frames := 8, cells := KC, slots := KS, locals := 174 } s m args meth c cX7_newPerson yX7_newPerson.cls 2 none D vwCl (wW E r f (ad t1)) q ca A → res = .inr (kk, t1, μ1) → kk = 1 → wJ p l e { frames := 8, cells := KC, slots := KS, locals := 174 } s m args below meth c 2 D vwCl (wW E r f (ad t1)) q ca A Q 0 0 μ1 136 [(1, .int k), (0, .ref (q r))] []) → wJ p l e { frames := 8, cells := KC, slots := KS, locals := 174 } s m args below meth c 2 D vwCl (wW E r f (ad t)) q ca A Q 0 0 μ 44 [(1, .int k), (0, .ref (q r))] [])) : ∀ (t : Nat) (μ : wMem) (res : Sum (Unit × Nat × wMem) (Int32 × Nat × wMem)), t < 5 → wPwd len byt N r f k cont t μ = some res → wC p { frames := 8, cells := KC, slots := KS, locals := 174 } s m args meth c cX7_newPerson yX7_newPerson.cls 2 none D vwCl (wW E r f (ad t)) q ca A → (∀ (u : Unit) (t1 : Nat) (μ1 : wMem), wC p { frames := 8, cells := KC, slots := KS, locals := 174 } s m args meth c cX7_newPerson yX7_newPerson.cls 2 none D vwCl (wW E r f (ad t1)) q ca A → res = .inl (u, t1, μ1) → wJ p l e { frames := 8, cells := KC, slots := KS, locals := 174 } s m args below meth c 2 D vwCl (wW E r f (ad t1)) q ca A Q 0 0 μ1 142 [(1, .int k), (0, .ref (q r))] []) → (∀ (kk : Int32) (t1 : Nat) (μ1 : wMem), wC p { frames := 8, cells := KC, slots := KS, locals := 174 } s m args meth c cX7_newPerson yX7_newPerson.cls 2 none D vwCl (wW E r f (ad t1)) q ca A → res = .inr (kk, t1, μ1) → kk = 1 → wJ p l e { frames := 8, cells := KC, slots := KS, locals := 174 } s m args below meth c 2 D vwCl (wW E r f (ad t1)) q ca A Q 0 0 μ1 136 [(1, .int k), (0, .ref (q r))] []) → wJ p l e { frames := 8, cells := KC, slots := KS, locals := 174 } s m args below meth c 2 D vwCl (wW E r f (ad t)) q ca A Q 0 0 μ 95 [(1, .int k), (0, .ref (q r))] [] := by
  intro t μ res ht hf C ke kx
  unfold wPwd at hf
  refine wr_aload_n 95 C dX7_newPerson_95 1 rfl rfl ?_
  refine wr_getR 96 1 C dX7_newPerson_96 (wW_get h1 h2) rfl in_X7 (by decide) rfl q486 ?_
  refine wr_getNI 99 5 C dX7_newPerson_99 (hF _).1 rfl in_X1 (by decide) rfl q199 ?_
  refine wr_iload_n 102 C dX7_newPerson_102 0 rfl rfl ?_
  refine wr_SNi (kc1 := 0) (ks1 := 0) (As := [.int (μ.1 f 5), .int k]) 103 [] C dX7_newPerson_103 (tX0_has l 0 _ _ μ _ (fX0_has_eq 0 _ _ μ)) okX0_has q681 ⟨rfl, rfl, Nat.le_of_ble_eq_true rfl, Nat.le_of_ble_eq_true rfl, Nat.zero_le _, Nat.zero_le _⟩ (Nat.le_of_ble_eq_true rfl) rfl ?_
  refine wr_if_ne 106 136 C dX7_newPerson_106 (by decide) (fun h0 => ?_) (fun h0 => ?_)
  · rw [if_neg h0] at hf
    exact kx _ _ _ C (Option.some.inj hf).symm rfl
  · rw [if_pos h0] at hf
    obtain ⟨⟨v, t1, μ1⟩, hz, hf⟩ := Option.bind_eq_some_iff.mp hf
    refine wr_aload_n 109 C dX7_newPerson_109 1 rfl rfl ?_
    refine wr_ldcS 110 C dX7_newPerson_110 (hZ.2 7 (by decide)) ?_
    refine wr_VPi (kc1 := 0) (ks1 := 0) (As := [.ref (adK 7)]) (b := r) 112 [] C dX7_newPerson_112 (tX7_takes l h1 h2 (Nat.lt_of_lt_of_le (by decide) h12) hA ht N μ μ1 _ _ hz) okX7_takes q520 (wW_get h1 h2) rfl wZr_ok hZ.1.1 (by rw [wW_len, wW_len]) ⟨rfl, rfl, Nat.le_of_ble_eq_true rfl, Nat.le_of_ble_eq_true rfl, Nat.zero_le _, Nat.zero_le _⟩ (Nat.le_of_ble_eq_true rfl) rfl ?_
    intro Ca
    refine wr_if_eq 115 136 Ca dX7_newPerson_115 (by decide) (fun hv => ?_) (fun hv => ?_)
    · rw [if_pos hv] at hf
      exact kx _ _ _ Ca (Option.some.inj hf).symm rfl
    · rw [if_neg hv] at hf
      refine wr_aload_n 118 Ca dX7_newPerson_118 1 rfl rfl ?_
      refine wr_getR 119 1 Ca dX7_newPerson_119 (wW_get h1 h2) rfl in_X7 (by decide) rfl q486 ?_
      refine wr_dup 122 Ca dX7_newPerson_122 rfl ?_
      refine wr_getNI 123 5 Ca dX7_newPerson_123 (hF _).1 rfl in_X1 (by decide) rfl q199 ?_
      refine wr_iconst 126 Ca dX7_newPerson_126 (v := 1) rfl ?_
      refine wr_iload_n 127 Ca dX7_newPerson_127 0 rfl rfl ?_
      refine wr_ishl 128 Ca dX7_newPerson_128 ?_
      refine wr_ior 129 Ca dX7_newPerson_129 ?_
      refine wr_putNI 130 5 Ca dX7_newPerson_130 (hF _).1 rfl in_X1 tyX1 tyX1_ok nmX1 (by decide) rfl q199 rfl rfl rfl ?_
      refine wr_goto 133 Ca dX7_newPerson_133 (tgt := 44) (by decide) ?_
      exact kc _ _ _ (wTakes_lt ht hz) hf Ca ke kx
set_option maxHeartbeats 2000000 in
theorem tX7_pl {p : Program} {l : Launch} {e : Env} {s : State} {m : MethodId} {args : Array Value} {below : List Frame} {meth : Method} {c : Code} {D : va_G} {E : List wCell} {q : Nat → Nat} {ca : wCA} {A : Nat → Prop} {Q : State → Prop} {KC KS : Nat} {k : Int32} {n : Nat} {len : List Nat} {byt : List (List Int32)} {adK adV : Nat → Nat} {fo : Option Nat} {r f x : Nat} {ad : Nat → Nat} (h1 : spX.length ≤ r) (h2 : r < (spX ++ E).length) (h12 : 12 ≤ n) (hA : wAd ad) (hF : wRF E r f x) (hZ : (wZL ad n len byt adK adV fo) A s s.heap) {N : Nat} : ∀ (M t : Nat) (μ : wMem) (res : Sum (Unit × Nat × wMem) (Int32 × Nat × wMem)), t < 5 → wPl len byt N r f k M t μ = some res → wC p { frames := 8, cells := KC, slots := KS, locals := 174 } s m args meth c cX7_newPerson yX7_newPerson.cls 2 none D vwCl (wW E r f (ad t)) q ca A → (∀ (u : Unit) (t1 : Nat) (μ1 : wMem), wC p { frames := 8, cells := KC, slots := KS, locals := 174 } s m args meth c cX7_newPerson yX7_newPerson.cls 2 none D vwCl (wW E r f (ad t1)) q ca A → res = .inl (u, t1, μ1) → wJ p l e { frames := 8, cells := KC, slots := KS, locals := 174 } s m args below meth c 2 D vwCl (wW E r f (ad t1)) q ca A Q 0 0 μ1 142 [(1, .int k), (0, .ref (q r))] []) → (∀ (kk : Int32) (t1 : Nat) (μ1 : wMem), wC p { frames := 8, cells := KC, slots := KS, locals := 174 } s m args meth c cX7_newPerson yX7_newPerson.cls 2 none D vwCl (wW E r f (ad t1)) q ca A → res = .inr (kk, t1, μ1) → kk = 1 → wJ p l e { frames := 8, cells := KC, slots := KS, locals := 174 } s m args below meth c 2 D vwCl (wW E r f (ad t1)) q ca A Q 0 0 μ1 136 [(1, .int k), (0, .ref (q r))] []) → wJ p l e { frames := 8, cells := KC, slots := KS, locals := 174 } s m args below meth c 2 D vwCl (wW E r f (ad t)) q ca A Q 0 0 μ 44 [(1, .int k), (0, .ref (q r))] [] := by
  intro M
  induction M with
  | zero =>
    intro t μ res ht hf
    simp [wPl] at hf
  | succ M ih =>
    intro t μ res ht hf C ke kx
    unfold wPl at hf
    refine wr_aload_n 44 C dX7_newPerson_44 1 rfl rfl ?_
    refine wr_getA (a := ad t) 45 5 C dX7_newPerson_45 (wW_get h1 h2) rfl in_X7 (by decide) rfl q490 ?_
    refine wr_getsA 48 C dX7_newPerson_48 (hZ.1.1.1 3 (by decide)) q481 ?_
    refine wr_acmp_eq 51 142 C dX7_newPerson_51 (by decide) (fun he => ?_) (fun he => ?_)
    · rw [if_pos (hA t 3 ht (by decide) he)] at hf
      exact ke _ _ _ C (Option.some.inj hf).symm
    · rw [if_neg (fun (h3 : t = 3) => he (by rw [h3]))] at hf
      refine wr_aload_n 54 C dX7_newPerson_54 1 rfl rfl ?_
      refine wr_getR 55 1 C dX7_newPerson_55 (wW_get h1 h2) rfl in_X7 (by decide) rfl q486 ?_
      refine wr_getNI 58 4 C dX7_newPerson_58 (hF _).1 rfl in_X1 (by decide) rfl q196 ?_
      refine wr_iload_n 61 C dX7_newPerson_61 0 rfl rfl ?_
      refine wr_SNi (kc1 := 0) (ks1 := 0) (As := [.int (μ.1 f 4), .int k]) 62 [] C dX7_newPerson_62 (tX0_has l 0 _ _ μ _ (fX0_has_eq 0 _ _ μ)) okX0_has q681 ⟨rfl, rfl, Nat.le_of_ble_eq_true rfl, Nat.le_of_ble_eq_true rfl, Nat.zero_le _, Nat.zero_le _⟩ (Nat.le_of_ble_eq_true rfl) rfl ?_
      refine wr_if_ne 65 95 C dX7_newPerson_65 (by decide) (fun h0 => ?_) (fun h0 => ?_)
      · rw [if_neg h0] at hf
        exact tX7_ps h1 h2 h12 hA hF hZ _ ih t μ res ht hf C ke kx
      · rw [if_pos h0] at hf
        obtain ⟨⟨v, t1, μ1⟩, hz, hf⟩ := Option.bind_eq_some_iff.mp hf
        refine wr_aload_n 68 C dX7_newPerson_68 1 rfl rfl ?_
        refine wr_ldcS 69 C dX7_newPerson_69 (hZ.2 6 (by decide)) ?_
        refine wr_VPi (kc1 := 0) (ks1 := 0) (As := [.ref (adK 6)]) (b := r) 71 [] C dX7_newPerson_71 (tX7_takes l h1 h2 (Nat.lt_of_lt_of_le (by decide) h12) hA ht N μ μ1 _ _ hz) okX7_takes q520 (wW_get h1 h2) rfl wZr_ok hZ.1.1 (by rw [wW_len, wW_len]) ⟨rfl, rfl, Nat.le_of_ble_eq_true rfl, Nat.le_of_ble_eq_true rfl, Nat.zero_le _, Nat.zero_le _⟩ (Nat.le_of_ble_eq_true rfl) rfl ?_
        intro Ca
        refine wr_if_eq 74 95 Ca dX7_newPerson_74 (by decide) (fun hv => ?_) (fun hv => ?_)
        · rw [if_pos hv] at hf
          exact tX7_ps h1 h2 h12 hA hF hZ _ ih t1 μ1 res (wTakes_lt ht hz) hf Ca ke kx
        · rw [if_neg hv] at hf
          refine wr_aload_n 77 Ca dX7_newPerson_77 1 rfl rfl ?_
          refine wr_getR 78 1 Ca dX7_newPerson_78 (wW_get h1 h2) rfl in_X7 (by decide) rfl q486 ?_
          refine wr_dup 81 Ca dX7_newPerson_81 rfl ?_
          refine wr_getNI 82 4 Ca dX7_newPerson_82 (hF _).1 rfl in_X1 (by decide) rfl q196 ?_
          refine wr_iconst 85 Ca dX7_newPerson_85 (v := 1) rfl ?_
          refine wr_iload_n 86 Ca dX7_newPerson_86 0 rfl rfl ?_
          refine wr_ishl 87 Ca dX7_newPerson_87 ?_
          refine wr_ior 88 Ca dX7_newPerson_88 ?_
          refine wr_putNI 89 4 Ca dX7_newPerson_89 (hF _).1 rfl in_X1 tyX1 tyX1_ok nmX1 (by decide) rfl q196 rfl rfl rfl ?_
          refine wr_goto 92 Ca dX7_newPerson_92 (tgt := 44) (by decide) ?_
          exact ih _ _ _ (wTakes_lt ht hz) hf Ca ke kx
set_option maxHeartbeats 2000000 in
theorem tX7_newPerson (l : Launch) {D : va_G} {E : List wCell} {q : Nat → Nat} {ca : wCA} {n : Nat} {len : List Nat} {byt : List (List Int32)} {adK adV : Nat → Nat} {fo : Option Nat} {r f x : Nat} {ad : Nat → Nat} (h1 : spX.length ≤ r) (h2 : r < (spX ++ E).length) (h12 : 12 ≤ n) (hA : wAd ad) {t : Nat} (ht : t < 5) (hF : wRF E r f x) (N : Nat) (μ μ9 : wMem) (u : Unit) (t9 : Nat) (hf : wNewPerson len byt N r f x t μ = some (.inl (u, t9, μ9))) : wMPv (wZL ad n len byt adK adV fo) l yX7_newPerson cX7_newPerson 2 none ({ frames := 8, cells := 0, slots := 0, locals := 174 } : Room) D vwCl (wW E r f (ad t)) (wW E r f (ad t9)) q ca [.ref (q r)] μ μ9 := by
  unfold wNewPerson at hf
  by_cases hin : ok_in (μ.1 f 2) 6 = true
  · rw [if_pos hin] at hf
    obtain ⟨v1, t1, μ1, hn1, hf⟩ := wRbd_l hf
    obtain ⟨v2, t2, μ2, hn2, hf⟩ := wRbd_l hf
    obtain ⟨u3, t3, μ3, hn3, hf⟩ := wRbd_l hf
    cases hf
    refine wMPv_intro (by decide) (Nat.le_of_ble_eq_true rfl) ?_
    intro p e s m args below meth c A C hZ
    refine wr_sub [(0, .ref (q r))] [0] rfl ?_
    refine wr_aload_n 0 C dX7_newPerson_0 0 rfl rfl ?_
    refine wr_getR 1 1 C dX7_newPerson_1 (wW_get h1 h2) rfl in_X7 (by decide) rfl q486 ?_
    refine wr_getNI 4 2 C dX7_newPerson_4 (hF _).1 rfl in_X1 (by decide) rfl q190 ?_
    refine wr_istore_n 7 [(1, .int (μ.1 f 2)), (0, .ref (q r))] C dX7_newPerson_7 rfl rfl (by decide) rfl ?_
    refine wr_aload_n 8 C dX7_newPerson_8 1 rfl rfl ?_
    refine wr_getR 9 1 C dX7_newPerson_9 (wW_get h1 h2) rfl in_X7 (by decide) rfl q486 ?_
    refine wr_getNR 12 8 C dX7_newPerson_12 (hF _).1 rfl in_X1 (by decide) rfl q207 ?_
    refine wr_iload_n 15 C dX7_newPerson_15 0 rfl rfl ?_
    refine wr_aload_n 16 C dX7_newPerson_16 1 rfl rfl ?_
    refine wr_ldcS 17 C dX7_newPerson_17 (hZ.2 4 (by decide)) ?_
    refine wr_iconst 19 C dX7_newPerson_19 (v := 0) rfl ?_
    refine wr_bipush 20 C dX7_newPerson_20 (v := 100) rfl ?_
    refine wr_VPi (kc1 := 0) (ks1 := 0) (As := [.ref (adK 4), .int 0, .int 100]) (b := r) 22 [.int (μ.1 f 2), .ref (q (x + 0))] C dX7_newPerson_22 (tX7_told l h1 h2 (Nat.lt_of_lt_of_le (by decide) h12) hA ht N μ μ1 v1 t1 hn1) okX7_told q665 (wW_get h1 h2) rfl wZR_ok hZ.1 (by rw [wW_len, wW_len]) ⟨rfl, rfl, Nat.le_of_ble_eq_true rfl, Nat.le_of_ble_eq_true rfl, Nat.zero_le _, Nat.zero_le _⟩ (Nat.le_of_ble_eq_true rfl) rfl ?_
    intro Ca
    refine wr_iast 25 Ca dX7_newPerson_25 (hF _).2.1 hin rfl ?_
    refine wr_aload_n 26 Ca dX7_newPerson_26 1 rfl rfl ?_
    refine wr_getR 27 1 Ca dX7_newPerson_27 (wW_get h1 h2) rfl in_X7 (by decide) rfl q486 ?_
    refine wr_getNR 30 9 Ca dX7_newPerson_30 (hF _).1 rfl in_X1 (by decide) rfl q210 ?_
    refine wr_iload_n 33 Ca dX7_newPerson_33 0 rfl rfl ?_
    refine wr_aload_n 34 Ca dX7_newPerson_34 1 rfl rfl ?_
    refine wr_ldcS 35 Ca dX7_newPerson_35 (hZ.2 5 (by decide)) ?_
    refine wr_iconst 37 Ca dX7_newPerson_37 (v := 0) rfl ?_
    refine wr_bipush 38 Ca dX7_newPerson_38 (v := 9) rfl ?_
    refine wr_VPi (kc1 := 0) (ks1 := 0) (As := [.ref (adK 5), .int 0, .int 9]) (b := r) 40 [.int (μ.1 f 2), .ref (q (x + 1))] Ca dX7_newPerson_40 (tX7_told l h1 h2 (Nat.lt_of_lt_of_le (by decide) h12) hA (wTold_lt hn1) N (wSI μ1 (x + 0) (μ.1 f 2).toNatClampNeg v1) μ2 v2 t2 hn2) okX7_told q665 (wW_get h1 h2) rfl wZR_ok hZ.1 (by rw [wW_len, wW_len]) ⟨rfl, rfl, Nat.le_of_ble_eq_true rfl, Nat.le_of_ble_eq_true rfl, Nat.zero_le _, Nat.zero_le _⟩ (Nat.le_of_ble_eq_true rfl) rfl ?_
    intro Caa
    refine wr_iast 43 Caa dX7_newPerson_43 (hF _).2.2.1 hin rfl ?_
    refine tX7_pl h1 h2 h12 hA hF hZ N t2 (wSI μ2 (x + 1) (μ.1 f 2).toNatClampNeg v2) _ (wTold_lt hn2) hn3 Caa (fun u8 t8 μ8 C8 he => ?_) (fun kk t8 μ8 C8 he => ?_)
    · cases he
      refine wr_aload_n 142 C8 dX7_newPerson_142 1 rfl rfl ?_
      refine wr_getR 143 1 C8 dX7_newPerson_143 (wW_get h1 h2) rfl in_X7 (by decide) rfl q486 ?_
      refine wr_dup 146 C8 dX7_newPerson_146 rfl ?_
      refine wr_getNI 147 2 C8 dX7_newPerson_147 (hF _).1 rfl in_X1 (by decide) rfl q190 ?_
      refine wr_iconst 150 C8 dX7_newPerson_150 (v := 1) rfl ?_
      refine wr_iadd 151 C8 dX7_newPerson_151 ?_
      refine wr_putNI 152 2 C8 dX7_newPerson_152 (hF _).1 rfl in_X1 tyX1 tyX1_ok nmX1 (by decide) rfl q190 rfl rfl rfl ?_
      exact wr_retPv 155 C8 dX7_newPerson_155 ⟨Nat.le_refl _, Nat.le_refl _⟩ rfl
    · cases he
  · rw [if_neg hin] at hf
    cases hf
set_option maxHeartbeats 2000000 in
theorem tX7_newPersonT (l : Launch) {D : va_G} {E : List wCell} {q : Nat → Nat} {ca : wCA} {n : Nat} {len : List Nat} {byt : List (List Int32)} {adK adV : Nat → Nat} {fo : Option Nat} {r f x : Nat} {ad : Nat → Nat} (h1 : spX.length ≤ r) (h2 : r < (spX ++ E).length) (h12 : 12 ≤ n) (hA : wAd ad) {t : Nat} (ht : t < 5) (hF : wRF E r f x) (hno : ∀ a, wNoRef (wW E r f a) (wW E r f a).length = true) (N : Nat) (μ μ9 : wMem) (k : Int32) (t9 : Nat) (hf : wNewPerson len byt N r f x t μ = some (.inr (k, t9, μ9))) : wMT (wZL ad n len byt adK adV fo) l yX7_newPerson cX7_newPerson 2 none ({ frames := 8, cells := 1, slots := 8, locals := 174 } : Room) D vwCl (wW E r f (ad t)) ((wW E r f (ad t9)) ++ [wFlt]) q ca [.ref (q r)] μ (wFm μ9 (wW E r f (ad t9)).length k ((wZ μ9 (wW E r f (ad t9)).length).1 r 3)) (wW E r f (ad t9)).length := by
  unfold wNewPerson at hf
  by_cases hin : ok_in (μ.1 f 2) 6 = true
  · rw [if_pos hin] at hf
    refine wMT_intro (by decide) (Nat.le_of_ble_eq_true rfl) ?_
    intro p e s m args below meth c A C hZ hx
    refine wr_sub [(0, .ref (q r))] [0] rfl ?_
    refine wr_aload_n 0 C dX7_newPerson_0 0 rfl rfl ?_
    refine wr_getR 1 1 C dX7_newPerson_1 (wW_get h1 h2) rfl in_X7 (by decide) rfl q486 ?_
    refine wr_getNI 4 2 C dX7_newPerson_4 (hF _).1 rfl in_X1 (by decide) rfl q190 ?_
    refine wr_istore_n 7 [(1, .int (μ.1 f 2)), (0, .ref (q r))] C dX7_newPerson_7 rfl rfl (by decide) rfl ?_
    rcases wRbd_r hf with hn1 | ⟨v1, t1, μ1, hn1, hf⟩
    · refine wr_aload_n 8 C dX7_newPerson_8 1 rfl rfl ?_
      refine wr_getR 9 1 C dX7_newPerson_9 (wW_get h1 h2) rfl in_X7 (by decide) rfl q486 ?_
      refine wr_getNR 12 8 C dX7_newPerson_12 (hF _).1 rfl in_X1 (by decide) rfl q207 ?_
      refine wr_iload_n 15 C dX7_newPerson_15 0 rfl rfl ?_
      refine wr_aload_n 16 C dX7_newPerson_16 1 rfl rfl ?_
      refine wr_ldcS 17 C dX7_newPerson_17 (hZ.2 4 (by decide)) ?_
      refine wr_iconst 19 C dX7_newPerson_19 (v := 0) rfl ?_
      refine wr_bipush 20 C dX7_newPerson_20 (v := 100) rfl ?_
      exact wr_VTo (kc1 := 1) (ks1 := 8) (As := [.ref (adK 4), .int 0, .int 100]) (b := r) 22 [.int (μ.1 f 2), .ref (q (x + 0))] C dX7_newPerson_22 (tX7_toldT l h1 h2 (Nat.lt_of_lt_of_le (by decide) h12) hA ht hno N μ μ9 k t9 hn1) okX7_told q665 (wW_get h1 h2) rfl wZR_ok hZ.1 (Nat.le_of_eq (by simp only [wW_len])) (fun _ _ => rfl) hx ⟨rfl, rfl, Nat.le_of_ble_eq_true rfl, Nat.le_of_ble_eq_true rfl, Nat.le_of_ble_eq_true rfl, Nat.le_of_ble_eq_true rfl⟩ ⟨Nat.le_refl _, Nat.le_refl _⟩ (Nat.le_of_ble_eq_true rfl) rfl
    · rcases wRbd_r hf with hn2 | ⟨v2, t2, μ2, hn2, hf⟩
      · refine wr_aload_n 8 C dX7_newPerson_8 1 rfl rfl ?_
        refine wr_getR 9 1 C dX7_newPerson_9 (wW_get h1 h2) rfl in_X7 (by decide) rfl q486 ?_
        refine wr_getNR 12 8 C dX7_newPerson_12 (hF _).1 rfl in_X1 (by decide) rfl q207 ?_
        refine wr_iload_n 15 C dX7_newPerson_15 0 rfl rfl ?_
        refine wr_aload_n 16 C dX7_newPerson_16 1 rfl rfl ?_
        refine wr_ldcS 17 C dX7_newPerson_17 (hZ.2 4 (by decide)) ?_
        refine wr_iconst 19 C dX7_newPerson_19 (v := 0) rfl ?_
        refine wr_bipush 20 C dX7_newPerson_20 (v := 100) rfl ?_
        refine wr_VPi (kc1 := 0) (ks1 := 0) (As := [.ref (adK 4), .int 0, .int 100]) (b := r) 22 [.int (μ.1 f 2), .ref (q (x + 0))] C dX7_newPerson_22 (tX7_told l h1 h2 (Nat.lt_of_lt_of_le (by decide) h12) hA ht N μ μ1 v1 t1 hn1) okX7_told q665 (wW_get h1 h2) rfl wZR_ok hZ.1 (by rw [wW_len, wW_len]) ⟨rfl, rfl, Nat.le_of_ble_eq_true rfl, Nat.le_of_ble_eq_true rfl, Nat.zero_le _, Nat.zero_le _⟩ (Nat.le_of_ble_eq_true rfl) rfl ?_
        intro Ca
        refine wr_iast 25 Ca dX7_newPerson_25 (hF _).2.1 hin rfl ?_
        refine wr_aload_n 26 Ca dX7_newPerson_26 1 rfl rfl ?_
        refine wr_getR 27 1 Ca dX7_newPerson_27 (wW_get h1 h2) rfl in_X7 (by decide) rfl q486 ?_
        refine wr_getNR 30 9 Ca dX7_newPerson_30 (hF _).1 rfl in_X1 (by decide) rfl q210 ?_
        refine wr_iload_n 33 Ca dX7_newPerson_33 0 rfl rfl ?_
        refine wr_aload_n 34 Ca dX7_newPerson_34 1 rfl rfl ?_
        refine wr_ldcS 35 Ca dX7_newPerson_35 (hZ.2 5 (by decide)) ?_
        refine wr_iconst 37 Ca dX7_newPerson_37 (v := 0) rfl ?_
        refine wr_bipush 38 Ca dX7_newPerson_38 (v := 9) rfl ?_
        exact wr_VTo (kc1 := 1) (ks1 := 8) (As := [.ref (adK 5), .int 0, .int 9]) (b := r) 40 [.int (μ.1 f 2), .ref (q (x + 1))] Ca dX7_newPerson_40 (tX7_toldT l h1 h2 (Nat.lt_of_lt_of_le (by decide) h12) hA (wTold_lt hn1) hno N (wSI μ1 (x + 0) (μ.1 f 2).toNatClampNeg v1) μ9 k t9 hn2) okX7_told q665 (wW_get h1 h2) rfl wZR_ok hZ.1 (Nat.le_of_eq (by simp only [wW_len])) (fun _ _ => rfl) hx ⟨rfl, rfl, Nat.le_of_ble_eq_true rfl, Nat.le_of_ble_eq_true rfl, Nat.le_of_ble_eq_true rfl, Nat.le_of_ble_eq_true rfl⟩ ⟨Nat.le_refl _, Nat.le_refl _⟩ (Nat.le_of_ble_eq_true rfl) rfl
      · rcases wRbd_r hf with hn3 | ⟨u3, t3, μ3, hn3, hf⟩
        · refine wr_aload_n 8 C dX7_newPerson_8 1 rfl rfl ?_
          refine wr_getR 9 1 C dX7_newPerson_9 (wW_get h1 h2) rfl in_X7 (by decide) rfl q486 ?_
          refine wr_getNR 12 8 C dX7_newPerson_12 (hF _).1 rfl in_X1 (by decide) rfl q207 ?_
          refine wr_iload_n 15 C dX7_newPerson_15 0 rfl rfl ?_
          refine wr_aload_n 16 C dX7_newPerson_16 1 rfl rfl ?_
          refine wr_ldcS 17 C dX7_newPerson_17 (hZ.2 4 (by decide)) ?_
          refine wr_iconst 19 C dX7_newPerson_19 (v := 0) rfl ?_
          refine wr_bipush 20 C dX7_newPerson_20 (v := 100) rfl ?_
          refine wr_VPi (kc1 := 0) (ks1 := 0) (As := [.ref (adK 4), .int 0, .int 100]) (b := r) 22 [.int (μ.1 f 2), .ref (q (x + 0))] C dX7_newPerson_22 (tX7_told l h1 h2 (Nat.lt_of_lt_of_le (by decide) h12) hA ht N μ μ1 v1 t1 hn1) okX7_told q665 (wW_get h1 h2) rfl wZR_ok hZ.1 (by rw [wW_len, wW_len]) ⟨rfl, rfl, Nat.le_of_ble_eq_true rfl, Nat.le_of_ble_eq_true rfl, Nat.zero_le _, Nat.zero_le _⟩ (Nat.le_of_ble_eq_true rfl) rfl ?_
          intro Ca
          refine wr_iast 25 Ca dX7_newPerson_25 (hF _).2.1 hin rfl ?_
          refine wr_aload_n 26 Ca dX7_newPerson_26 1 rfl rfl ?_
          refine wr_getR 27 1 Ca dX7_newPerson_27 (wW_get h1 h2) rfl in_X7 (by decide) rfl q486 ?_
          refine wr_getNR 30 9 Ca dX7_newPerson_30 (hF _).1 rfl in_X1 (by decide) rfl q210 ?_
          refine wr_iload_n 33 Ca dX7_newPerson_33 0 rfl rfl ?_
          refine wr_aload_n 34 Ca dX7_newPerson_34 1 rfl rfl ?_
          refine wr_ldcS 35 Ca dX7_newPerson_35 (hZ.2 5 (by decide)) ?_
          refine wr_iconst 37 Ca dX7_newPerson_37 (v := 0) rfl ?_
          refine wr_bipush 38 Ca dX7_newPerson_38 (v := 9) rfl ?_
          refine wr_VPi (kc1 := 0) (ks1 := 0) (As := [.ref (adK 5), .int 0, .int 9]) (b := r) 40 [.int (μ.1 f 2), .ref (q (x + 1))] Ca dX7_newPerson_40 (tX7_told l h1 h2 (Nat.lt_of_lt_of_le (by decide) h12) hA (wTold_lt hn1) N (wSI μ1 (x + 0) (μ.1 f 2).toNatClampNeg v1) μ2 v2 t2 hn2) okX7_told q665 (wW_get h1 h2) rfl wZR_ok hZ.1 (by rw [wW_len, wW_len]) ⟨rfl, rfl, Nat.le_of_ble_eq_true rfl, Nat.le_of_ble_eq_true rfl, Nat.zero_le _, Nat.zero_le _⟩ (Nat.le_of_ble_eq_true rfl) rfl ?_
          intro Caa
          refine wr_iast 43 Caa dX7_newPerson_43 (hF _).2.2.1 hin rfl ?_
          refine tX7_pl h1 h2 h12 hA hF hZ N t2 (wSI μ2 (x + 1) (μ.1 f 2).toNatClampNeg v2) _ (wTold_lt hn2) hn3 Caa (fun u8 t8 μ8 C8 he => ?_) (fun kk t8 μ8 C8 he hk1 => ?_)
          · cases he
          · cases he
            subst hk1
            refine wr_aload_n 136 C8 dX7_newPerson_136 1 rfl rfl ?_
            refine wr_iconst 137 C8 dX7_newPerson_137 (v := 1) rfl ?_
            refine wr_VKq (kc1 := 1) (ks1 := 8) (As := [.int 1]) (b := r) 138 [] C8 dX7_newPerson_138 (tX7_wrong l (wW_get h1 h2) (hno _) μ9) okX7_wrong q576 (wW_get h1 h2) rfl wZq_ok hZ.1.2 ⟨rfl, rfl, Nat.le_of_ble_eq_true rfl, Nat.le_of_ble_eq_true rfl, Nat.le_of_ble_eq_true rfl, Nat.le_of_ble_eq_true rfl⟩ (Nat.le_of_ble_eq_true rfl) rfl ?_
            intro q1 hq1 C9
            exact wr_athrowO (fs := [(3, 0), (3, 0), (3, 0), (3, 0), (3, 0), (0, 0), (0, 0), (0, 0)]) 141 C9 dX7_newPerson_141 List.getElem?_concat_length rfl rfl (fun j hj => hq1 j (by rw [wW_len] at hj ⊢; exact hj)) hx ⟨Nat.le_refl _, Nat.le_refl _⟩ rfl
        · cases hf
  · rw [if_neg hin] at hf
    cases hf
