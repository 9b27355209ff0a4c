set_option maxRecDepth 100000
abbrev cX0_count : ByteArray := prog_1_method_118_code
def yX0_count : MethodName := ⟨RX0, "count", "(I)I"⟩
def dkwX0_count_7 : List UInt8 := [172]
abbrev dktX0_count_7 : List UInt8 := dkwX0_count_7 ++ []
def dkwX0_count_6 : List UInt8 := [29, 50, 180, 1, 205, 199, 0, 7, 3, 167, 0, 4, 4, 96, 61, 132, 3, 1, 167, 255, 228, 28, 172, 2]
abbrev dktX0_count_6 : List UInt8 := dkwX0_count_6 ++ dktX0_count_7
def dkwX0_count_5 : List UInt8 := [180, 0, 12, 180, 0, 117, 172, 42, 180, 0, 96, 172, 3, 62, 29, 7, 162, 0, 29, 28, 42, 180, 0, 85]
abbrev dktX0_count_5 : List UInt8 := dkwX0_count_5 ++ dktX0_count_6
def dkwX0_count_4 : List UInt8 := [180, 0, 12, 180, 0, 211, 153, 0, 7, 4, 167, 0, 4, 3, 172, 42, 180, 0, 12, 180, 0, 231, 172, 42]
abbrev dktX0_count_4 : List UInt8 := dkwX0_count_4 ++ dktX0_count_5
def dkwX0_count_3 : List UInt8 := [42, 180, 0, 12, 180, 0, 168, 184, 1, 112, 172, 42, 180, 0, 12, 180, 0, 219, 184, 1, 112, 172, 42]
abbrev dktX0_count_3 : List UInt8 := dkwX0_count_3 ++ dktX0_count_4
def dkwX0_count_2 : List UInt8 := [42, 180, 0, 12, 180, 0, 128, 172, 42, 180, 0, 12, 180, 0, 131, 172, 42, 180, 0, 12, 180, 0, 240, 172]
abbrev dktX0_count_2 : List UInt8 := dkwX0_count_2 ++ dktX0_count_3
def dkwX0_count_1 : List UInt8 := [170, 0, 0, 0, 171, 0, 0, 0, 0, 0, 0, 0, 9, 0, 0, 0, 53, 0, 0, 0, 61, 0, 0, 0, 69, 0, 0, 0, 77, 0, 0, 0, 88, 0, 0, 0, 99, 0, 0, 0, 115, 0, 0, 0, 123, 0, 0, 0, 131, 0, 0, 0, 136]
abbrev dktX0_count_1 : List UInt8 := dkwX0_count_1 ++ dktX0_count_2
def dkwX0_count_0 : List UInt8 := [3, 61, 27]
abbrev dktX0_count_0 : List UInt8 := dkwX0_count_0 ++ dktX0_count_1
theorem dksX0_count_0 : cX0_count.data.toList.drop 0 = dktX0_count_0 := by decide +kernel
theorem dksX0_count_1 : cX0_count.data.toList.drop 3 = dktX0_count_1 := dk_seg dksX0_count_0 3 rfl rfl
theorem dksX0_count_2 : cX0_count.data.toList.drop 56 = dktX0_count_2 := dk_seg dksX0_count_1 53 rfl rfl
theorem dksX0_count_3 : cX0_count.data.toList.drop 80 = dktX0_count_3 := dk_seg dksX0_count_2 24 rfl rfl
theorem dksX0_count_4 : cX0_count.data.toList.drop 103 = dktX0_count_4 := dk_seg dksX0_count_3 23 rfl rfl
theorem dksX0_count_5 : cX0_count.data.toList.drop 127 = dktX0_count_5 := dk_seg dksX0_count_4 24 rfl rfl
theorem dksX0_count_6 : cX0_count.data.toList.drop 151 = dktX0_count_6 := dk_seg dksX0_count_5 24 rfl rfl
theorem dksX0_count_7 : cX0_count.data.toList.drop 175 = dktX0_count_7 := dk_seg dksX0_count_6 24 rfl rfl
theorem dX0_count_0 : decode cX0_count 0 = .ok (.iconst 0, 1) := dk_3 (dk_at dksX0_count_0 0 rfl rfl)
theorem dX0_count_1 : decode cX0_count 1 = .ok (.istore_n 2, 1) := dk_61 (dk_at dksX0_count_0 1 rfl rfl)
theorem dX0_count_2 : decode cX0_count 2 = .ok (.iload_n 1, 1) := dk_27 (dk_at dksX0_count_0 2 rfl rfl)
theorem dX0_count_3 : decode cX0_count 3 = .ok (.tableswitch 171 0 9 #[53, 61, 69, 77, 88, 99, 115, 123, 131, 136], 53) := by decide +kernel
theorem dX0_count_56 : decode cX0_count 56 = .ok (.aload_n 0, 1) := dk_42 (dk_at dksX0_count_2 0 rfl rfl)
theorem dX0_count_57 : decode cX0_count 57 = .ok (.getfield 12, 3) := dk_180 0 12 (dk_at dksX0_count_2 1 rfl rfl)
theorem dX0_count_60 : decode cX0_count 60 = .ok (.getfield 128, 3) := dk_180 0 128 (dk_at dksX0_count_2 4 rfl rfl)
theorem dX0_count_63 : decode cX0_count 63 = .ok (.ireturn, 1) := dk_172 (dk_at dksX0_count_2 7 rfl rfl)
theorem dX0_count_64 : decode cX0_count 64 = .ok (.aload_n 0, 1) := dk_42 (dk_at dksX0_count_2 8 rfl rfl)
theorem dX0_count_65 : decode cX0_count 65 = .ok (.getfield 12, 3) := dk_180 0 12 (dk_at dksX0_count_2 9 rfl rfl)
theorem dX0_count_68 : decode cX0_count 68 = .ok (.getfield 131, 3) := dk_180 0 131 (dk_at dksX0_count_2 12 rfl rfl)
theorem dX0_count_71 : decode cX0_count 71 = .ok (.ireturn, 1) := dk_172 (dk_at dksX0_count_2 15 rfl rfl)
theorem dX0_count_72 : decode cX0_count 72 = .ok (.aload_n 0, 1) := dk_42 (dk_at dksX0_count_2 16 rfl rfl)
theorem dX0_count_73 : decode cX0_count 73 = .ok (.getfield 12, 3) := dk_180 0 12 (dk_at dksX0_count_2 17 rfl rfl)
theorem dX0_count_76 : decode cX0_count 76 = .ok (.getfield 240, 3) := dk_180 0 240 (dk_at dksX0_count_2 20 rfl rfl)
theorem dX0_count_79 : decode cX0_count 79 = .ok (.ireturn, 1) := dk_172 (dk_at dksX0_count_2 23 rfl rfl)
theorem dX0_count_80 : decode cX0_count 80 = .ok (.aload_n 0, 1) := dk_42 (dk_at dksX0_count_3 0 rfl rfl)
theorem dX0_count_81 : decode cX0_count 81 = .ok (.getfield 12, 3) := dk_180 0 12 (dk_at dksX0_count_3 1 rfl rfl)
theorem dX0_count_84 : decode cX0_count 84 = .ok (.getfield 168, 3) := dk_180 0 168 (dk_at dksX0_count_3 4 rfl rfl)
theorem dX0_count_87 : decode cX0_count 87 = .ok (.invokestatic 368, 3) := dk_184 1 112 (dk_at dksX0_count_3 7 rfl rfl)
theorem dX0_count_90 : decode cX0_count 90 = .ok (.ireturn, 1) := dk_172 (dk_at dksX0_count_3 10 rfl rfl)
theorem dX0_count_91 : decode cX0_count 91 = .ok (.aload_n 0, 1) := dk_42 (dk_at dksX0_count_3 11 rfl rfl)
theorem dX0_count_92 : decode cX0_count 92 = .ok (.getfield 12, 3) := dk_180 0 12 (dk_at dksX0_count_3 12 rfl rfl)
theorem dX0_count_95 : decode cX0_count 95 = .ok (.getfield 219, 3) := dk_180 0 219 (dk_at dksX0_count_3 15 rfl rfl)
theorem dX0_count_98 : decode cX0_count 98 = .ok (.invokestatic 368, 3) := dk_184 1 112 (dk_at dksX0_count_3 18 rfl rfl)
theorem dX0_count_101 : decode cX0_count 101 = .ok (.ireturn, 1) := dk_172 (dk_at dksX0_count_3 21 rfl rfl)
theorem dX0_count_102 : decode cX0_count 102 = .ok (.aload_n 0, 1) := dk_42 (dk_at dksX0_count_3 22 rfl rfl)
theorem dX0_count_103 : decode cX0_count 103 = .ok (.getfield 12, 3) := dk_180 0 12 (dk_at dksX0_count_4 0 rfl rfl)
theorem dX0_count_106 : decode cX0_count 106 = .ok (.getfield 211, 3) := dk_180 0 211 (dk_at dksX0_count_4 3 rfl rfl)
theorem dX0_count_109 : decode cX0_count 109 = .ok (.ifCond .eq 7, 3) := dk_153 0 7 (dk_at dksX0_count_4 6 rfl rfl)
theorem dX0_count_112 : decode cX0_count 112 = .ok (.iconst 1, 1) := dk_4 (dk_at dksX0_count_4 9 rfl rfl)
theorem dX0_count_113 : decode cX0_count 113 = .ok (.goto 4, 3) := dk_167 0 4 (dk_at dksX0_count_4 10 rfl rfl)
theorem dX0_count_116 : decode cX0_count 116 = .ok (.iconst 0, 1) := dk_3 (dk_at dksX0_count_4 13 rfl rfl)
theorem dX0_count_117 : decode cX0_count 117 = .ok (.ireturn, 1) := dk_172 (dk_at dksX0_count_4 14 rfl rfl)
theorem dX0_count_118 : decode cX0_count 118 = .ok (.aload_n 0, 1) := dk_42 (dk_at dksX0_count_4 15 rfl rfl)
theorem dX0_count_119 : decode cX0_count 119 = .ok (.getfield 12, 3) := dk_180 0 12 (dk_at dksX0_count_4 16 rfl rfl)
theorem dX0_count_122 : decode cX0_count 122 = .ok (.getfield 231, 3) := dk_180 0 231 (dk_at dksX0_count_4 19 rfl rfl)
theorem dX0_count_125 : decode cX0_count 125 = .ok (.ireturn, 1) := dk_172 (dk_at dksX0_count_4 22 rfl rfl)
theorem dX0_count_126 : decode cX0_count 126 = .ok (.aload_n 0, 1) := dk_42 (dk_at dksX0_count_4 23 rfl rfl)
theorem dX0_count_127 : decode cX0_count 127 = .ok (.getfield 12, 3) := dk_180 0 12 (dk_at dksX0_count_5 0 rfl rfl)
theorem dX0_count_130 : decode cX0_count 130 = .ok (.getfield 117, 3) := dk_180 0 117 (dk_at dksX0_count_5 3 rfl rfl)
theorem dX0_count_133 : decode cX0_count 133 = .ok (.ireturn, 1) := dk_172 (dk_at dksX0_count_5 6 rfl rfl)
theorem dX0_count_134 : decode cX0_count 134 = .ok (.aload_n 0, 1) := dk_42 (dk_at dksX0_count_5 7 rfl rfl)
theorem dX0_count_135 : decode cX0_count 135 = .ok (.getfield 96, 3) := dk_180 0 96 (dk_at dksX0_count_5 8 rfl rfl)
theorem dX0_count_138 : decode cX0_count 138 = .ok (.ireturn, 1) := dk_172 (dk_at dksX0_count_5 11 rfl rfl)
theorem dX0_count_139 : decode cX0_count 139 = .ok (.iconst 0, 1) := dk_3 (dk_at dksX0_count_5 12 rfl rfl)
theorem dX0_count_140 : decode cX0_count 140 = .ok (.istore_n 3, 1) := dk_62 (dk_at dksX0_count_5 13 rfl rfl)
theorem dX0_count_141 : decode cX0_count 141 = .ok (.iload_n 3, 1) := dk_29 (dk_at dksX0_count_5 14 rfl rfl)
theorem dX0_count_142 : decode cX0_count 142 = .ok (.iconst 4, 1) := dk_7 (dk_at dksX0_count_5 15 rfl rfl)
theorem dX0_count_143 : decode cX0_count 143 = .ok (.if_icmp .ge 29, 3) := dk_162 0 29 (dk_at dksX0_count_5 16 rfl rfl)
theorem dX0_count_146 : decode cX0_count 146 = .ok (.iload_n 2, 1) := dk_28 (dk_at dksX0_count_5 19 rfl rfl)
theorem dX0_count_147 : decode cX0_count 147 = .ok (.aload_n 0, 1) := dk_42 (dk_at dksX0_count_5 20 rfl rfl)
theorem dX0_count_148 : decode cX0_count 148 = .ok (.getfield 85, 3) := dk_180 0 85 (dk_at dksX0_count_5 21 rfl rfl)
theorem dX0_count_151 : decode cX0_count 151 = .ok (.iload_n 3, 1) := dk_29 (dk_at dksX0_count_6 0 rfl rfl)
theorem dX0_count_152 : decode cX0_count 152 = .ok (.aaload, 1) := dk_50 (dk_at dksX0_count_6 1 rfl rfl)
theorem dX0_count_153 : decode cX0_count 153 = .ok (.getfield 461, 3) := dk_180 1 205 (dk_at dksX0_count_6 2 rfl rfl)
theorem dX0_count_156 : decode cX0_count 156 = .ok (.ifnonnull 7, 3) := dk_199 0 7 (dk_at dksX0_count_6 5 rfl rfl)
theorem dX0_count_159 : decode cX0_count 159 = .ok (.iconst 0, 1) := dk_3 (dk_at dksX0_count_6 8 rfl rfl)
theorem dX0_count_160 : decode cX0_count 160 = .ok (.goto 4, 3) := dk_167 0 4 (dk_at dksX0_count_6 9 rfl rfl)
theorem dX0_count_163 : decode cX0_count 163 = .ok (.iconst 1, 1) := dk_4 (dk_at dksX0_count_6 12 rfl rfl)
theorem dX0_count_164 : decode cX0_count 164 = .ok (.iadd, 1) := dk_96 (dk_at dksX0_count_6 13 rfl rfl)
theorem dX0_count_165 : decode cX0_count 165 = .ok (.istore_n 2, 1) := dk_61 (dk_at dksX0_count_6 14 rfl rfl)
theorem dX0_count_166 : decode cX0_count 166 = .ok (.iinc 3 1, 3) := dk_132 3 1 (dk_at dksX0_count_6 15 rfl rfl)
theorem dX0_count_169 : decode cX0_count 169 = .ok (.goto (-28), 3) := dk_167 255 228 (dk_at dksX0_count_6 18 rfl rfl)
theorem dX0_count_172 : decode cX0_count 172 = .ok (.iload_n 2, 1) := dk_28 (dk_at dksX0_count_6 21 rfl rfl)
theorem dX0_count_173 : decode cX0_count 173 = .ok (.ireturn, 1) := dk_172 (dk_at dksX0_count_6 22 rfl rfl)
theorem dX0_count_174 : decode cX0_count 174 = .ok (.iconst (-1), 1) := dk_2 (dk_at dksX0_count_6 23 rfl rfl)
theorem dX0_count_175 : decode cX0_count 175 = .ok (.ireturn, 1) := dk_172 (dk_at dksX0_count_7 0 rfl rfl)

theorem okX0_count : wOkV yX0_count cX0_count 4 (some .int) 1 := ⟨q1205, q1206, q136, q1207, by decide, by decide, by decide +kernel⟩
def gbX0_count_141 (N : Nat) (hs : Nat → Bool)   (K : (Int32 → wMem → Option (Int32 × wMem))) (rec : (Int32 → Int32 → wMem → Option (Int32 × wMem))) (x2_ : Int32) (x3_ : Int32) (μ : wMem) : Option (Int32 × wMem) :=
  if (4 : Int32) ≤ x3_ then K x2_ μ else wG (ok_in x3_ 4) (if hs (Int32.toNatClampNeg x3_) = true then wLet (x2_ + (1 : Int32) : Int32) fun x22 => wLet (x3_ + 1 : Int32) fun x23 => rec x22 x23 μ else wLet (x2_ + (0 : Int32) : Int32) fun x24 => wLet (x3_ + 1 : Int32) fun x25 => rec x24 x25 μ)
def gX0_count_141 (N : Nat) (hs : Nat → Bool)   (K : (Int32 → wMem → Option (Int32 × wMem))) : Nat → (Int32 → Int32 → wMem → Option (Int32 × wMem))
  | 0 => fun _ _ _ => none
  | k + 1 => gbX0_count_141 N hs   K (gX0_count_141 N hs   K k)
set_option maxHeartbeats 4000000 in
set_option maxRecDepth 100000 in
theorem tX0_count_141 {p : Program} {l : Launch} {e : Env} {s : State} {m : MethodId} {args : Array Value} {below : List Frame} {meth : Method} {c : Code} {D : va_G} {E : List wCell} {q : Nat → Nat} {ca : wCA} {A : Nat → Prop} (C : wC p ({ frames := 1, cells := 0, slots := 0, locals := 20 } : Room) s m args meth c cX0_count yX0_count.cls 4 (some .int) D vwCl (spX ++ E) q ca A) (hE : wSlots ca (spX ++ E)) (N : Nat) (hs : Nat → Bool)    (hS : ∀ k, k < 4 → ∃ x, (spX ++ E)[24 + k]? = some (.inl (5, [(if hs k = true then 2 else 3, x)]))) (K : (Int32 → wMem → Option (Int32 × wMem))) (r0 : (Int32 × wMem)) (hK : ∀ (y2_ : Int32) (μ : wMem), K y2_ μ = some r0 → wJ p l e ({ frames := 1, cells := 0, slots := 0, locals := 20 } : Room) s m args below meth c 4 D vwCl (spX ++ E) q ca A (wQi ({ frames := 1, cells := 0, slots := 0, locals := 20 } : Room) D vwCl (spX ++ E) q ca below args s A r0) 0 0 μ 172 [(2, .int y2_)] []) : ∀ (k : Nat) (x2_ : Int32) (x3_ : Int32) (μ : wMem), gX0_count_141 N hs   K k x2_ x3_ μ = some r0 → wJ p l e ({ frames := 1, cells := 0, slots := 0, locals := 20 } : Room) s m args below meth c 4 D vwCl (spX ++ E) q ca A (wQi ({ frames := 1, cells := 0, slots := 0, locals := 20 } : Room) D vwCl (spX ++ E) q ca below args s A r0) 0 0 μ 141 [(0, .ref (q 0)), (2, .int x2_), (3, .int x3_)] [] := by
  intro k
  induction k with
  | zero =>
    intro x2_ x3_ μ hf
    cases hf
  | succ k ih =>
    intro x2_ x3_ μ hf
    replace hf : gbX0_count_141 N hs   K (gX0_count_141 N hs   K k) x2_ x3_ μ = some r0 := hf
    unfold gbX0_count_141 at hf
    refine wr_iload_n 141 C dX0_count_141 2 rfl rfl ?_
    refine wr_iconst 142 C dX0_count_142 (v := 4) rfl ?_
    refine wr_icmp_ge 143 172 C dX0_count_143 (by decide) (fun c18 => ?_) (fun c18 => ?_)
    · replace hf := o_pos c18 hf
      refine wr_sub [(2, .int x2_)] [1] rfl ?_
      exact hK x2_ μ hf
    · replace hf := o_neg c18 hf
      refine wr_iload_n 146 C dX0_count_146 1 rfl rfl ?_
      refine wr_aload_n 147 C dX0_count_147 0 rfl rfl ?_
      refine geX_slots 148 C dX0_count_148 ?_
      refine wr_iload_n 151 C dX0_count_151 2 rfl rfl ?_
      obtain ⟨g19, hf⟩ := o_g hf
      refine wr_aaldD 152 C dX0_count_152 5 hE.1 wRc_slots hE.2 g19 (wRd_slots (ok_in4 g19)) ?_
      obtain ⟨_, h21⟩ := hS _ (ok_in4 g19)
      refine wr_rowNN 153 163 C dX0_count_153 dX0_count_156 (by decide) h21 (fun c20 => ?_) (fun c20 => ?_)
      · replace hf := o_pos c20 hf
        refine wr_iconst 163 C dX0_count_163 (v := 1) rfl ?_
        refine wr_iadd 164 C dX0_count_164 ?_
        obtain ⟨x22, ex22, hf⟩ := o_let hf
        refine wr_istore_n 165 [(2, .int x22), (0, .ref (q 0)), (3, .int x3_)] C dX0_count_165 ex22 rfl (Nat.le_of_ble_eq_true rfl) rfl ?_
        obtain ⟨x23, ex23, hf⟩ := o_let hf
        refine wr_iinc 166 [(3, .int x23), (2, .int x22), (0, .ref (q 0))] C dX0_count_166 2 rfl (ex23.trans rfl) (Nat.le_of_ble_eq_true rfl) rfl ?_
        refine wr_goto 169 C dX0_count_169 (tgt := 141) (by decide) ?_
        refine wr_sub [(0, .ref (q 0)), (2, .int x22), (3, .int x23)] [2, 1, 0] rfl ?_
        exact ih x22 x23 μ hf
      · replace hf := o_neg c20 hf
        refine wr_iconst 159 C dX0_count_159 (v := 0) rfl ?_
        refine wr_goto 160 C dX0_count_160 (tgt := 164) (by decide) ?_
        refine wr_iadd 164 C dX0_count_164 ?_
        obtain ⟨x24, ex24, hf⟩ := o_let hf
        refine wr_istore_n 165 [(2, .int x24), (0, .ref (q 0)), (3, .int x3_)] C dX0_count_165 ex24 rfl (Nat.le_of_ble_eq_true rfl) rfl ?_
        obtain ⟨x25, ex25, hf⟩ := o_let hf
        refine wr_iinc 166 [(3, .int x25), (2, .int x24), (0, .ref (q 0))] C dX0_count_166 2 rfl (ex25.trans rfl) (Nat.le_of_ble_eq_true rfl) rfl ?_
        refine wr_goto 169 C dX0_count_169 (tgt := 141) (by decide) ?_
        refine wr_sub [(0, .ref (q 0)), (2, .int x24), (3, .int x25)] [2, 1, 0] rfl ?_
        exact ih x24 x25 μ hf
def fX0_count (N : Nat) (hs : Nat → Bool)  (a1 : Int32) (μ : wMem) : Option (Int32 × wMem) :=
  if a1 = 0 then some (μ.1 1 2, μ) else if a1 = 1 then some (μ.1 1 3, μ) else if a1 = 2 then some (μ.1 1 0, μ) else if a1 = 3 then wBind (fJ10_bitCount N  (μ.1 1 4) μ) fun v7 μ6 => some (v7, μ6) else if a1 = 4 then wBind (fJ10_bitCount N  (μ.1 1 5) μ) fun v11 μ10 => some (v11, μ10) else if a1 = 5 then if (μ.1 1 7) = 0 then some (0, μ) else some (1, μ) else if a1 = 6 then some (μ.1 1 6, μ) else if a1 = 7 then some (μ.1 1 1, μ) else if a1 = 8 then some (μ.1 0 2, μ) else if a1 = 9 then gX0_count_141 N hs   (fun (x27 : Int32) (μ26 : wMem) => some (x27, μ26)) N 0 0 μ else some ((-1), μ)
set_option maxHeartbeats 4000000 in
set_option maxRecDepth 100000 in
theorem tX0_count (l : Launch) {D : va_G} {E : List wCell} {q : Nat → Nat} {ca : wCA} (hE : wSlots ca (spX ++ E)) (N : Nat) (hs : Nat → Bool)   (a1 : Int32) (μ : wMem) (r0 : (Int32 × wMem)) (hS : ∀ k, k < 4 → ∃ x, (spX ++ E)[24 + k]? = some (.inl (5, [(if hs k = true then 2 else 3, x)]))) (hf : fX0_count N hs  a1 μ = some r0) : wMi l yX0_count cX0_count 4 (some .int) ({ frames := 1, cells := 0, slots := 0, locals := 20 } : Room) D vwCl (spX ++ E) q ca [.ref (q 0), .int a1] μ r0 := by
  refine wMi_intro (by decide) (Nat.le_of_ble_eq_true rfl) ?_
  intro p e s m args below meth c A C
  unfold fX0_count at hf
  refine wr_sub [(0, .ref (q 0)), (1, .int a1)] [0, 1] rfl ?_
  refine wr_iconst 0 C dX0_count_0 (v := 0) rfl ?_
  refine wr_istore_n 1 [(2, .int 0), (0, .ref (q 0)), (1, .int a1)] C dX0_count_1 rfl rfl (Nat.le_of_ble_eq_true rfl) rfl ?_
  refine wr_iload_n 2 C dX0_count_2 2 rfl rfl ?_
  by_cases c1 : a1 = 0
  · replace hf := o_pos c1 hf
    refine wr_tableIn 3 C dX0_count_3 (off := 53) (tgt := 56) (by rw [c1]; decide) (by rw [c1]; decide) (by rw [c1]; rfl) (by decide) ?_
    refine wr_aload_n 56 C dX0_count_56 1 rfl rfl ?_
    refine gespX_0_0_X0 57 C dX0_count_57 ?_
    refine gespX_1_2_X0 60 C dX0_count_60 ?_
    exact wr_iret 63 C dX0_count_63 ⟨Nat.zero_le _, Nat.zero_le _⟩ (Option.some.inj hf)
  replace hf := o_neg c1 hf
  by_cases c2 : a1 = 1
  · replace hf := o_pos c2 hf
    refine wr_tableIn 3 C dX0_count_3 (off := 61) (tgt := 64) (by rw [c2]; decide) (by rw [c2]; decide) (by rw [c2]; rfl) (by decide) ?_
    refine wr_aload_n 64 C dX0_count_64 1 rfl rfl ?_
    refine gespX_0_0_X0 65 C dX0_count_65 ?_
    refine gespX_1_3_X0 68 C dX0_count_68 ?_
    exact wr_iret 71 C dX0_count_71 ⟨Nat.zero_le _, Nat.zero_le _⟩ (Option.some.inj hf)
  replace hf := o_neg c2 hf
  by_cases c3 : a1 = 2
  · replace hf := o_pos c3 hf
    refine wr_tableIn 3 C dX0_count_3 (off := 69) (tgt := 72) (by rw [c3]; decide) (by rw [c3]; decide) (by rw [c3]; rfl) (by decide) ?_
    refine wr_aload_n 72 C dX0_count_72 1 rfl rfl ?_
    refine gespX_0_0_X0 73 C dX0_count_73 ?_
    refine gespX_1_0_X0 76 C dX0_count_76 ?_
    exact wr_iret 79 C dX0_count_79 ⟨Nat.zero_le _, Nat.zero_le _⟩ (Option.some.inj hf)
  replace hf := o_neg c3 hf
  by_cases c4 : a1 = 3
  · replace hf := o_pos c4 hf
    refine wr_tableIn 3 C dX0_count_3 (off := 77) (tgt := 80) (by rw [c4]; decide) (by rw [c4]; decide) (by rw [c4]; rfl) (by decide) ?_
    refine wr_aload_n 80 C dX0_count_80 1 rfl rfl ?_
    refine gespX_0_0_X0 81 C dX0_count_81 ?_
    refine gespX_1_4_X0 84 C dX0_count_84 ?_
    obtain ⟨v7, μ6, h5, hf⟩ := o_bind hf
    refine wr_Si (kc1 := 0) (ks1 := 0) 87 [] C dX0_count_87 (tJ10_bitCount l N   (μ.1 1 4) μ (v7, μ6) h5) okJ10_bitCount q1017 ⟨rfl, rfl, Nat.le_of_ble_eq_true rfl, Nat.le_of_ble_eq_true rfl, Nat.zero_le _, Nat.zero_le _⟩ (Nat.le_of_ble_eq_true rfl) rfl ?_
    exact wr_iret 90 C dX0_count_90 ⟨Nat.zero_le _, Nat.zero_le _⟩ (Option.some.inj hf)
  replace hf := o_neg c4 hf
  by_cases c8 : a1 = 4
  · replace hf := o_pos c8 hf
    refine wr_tableIn 3 C dX0_count_3 (off := 88) (tgt := 91) (by rw [c8]; decide) (by rw [c8]; decide) (by rw [c8]; rfl) (by decide) ?_
    refine wr_aload_n 91 C dX0_count_91 1 rfl rfl ?_
    refine gespX_0_0_X0 92 C dX0_count_92 ?_
    refine gespX_1_5_X0 95 C dX0_count_95 ?_
    obtain ⟨v11, μ10, h9, hf⟩ := o_bind hf
    refine wr_Si (kc1 := 0) (ks1 := 0) 98 [] C dX0_count_98 (tJ10_bitCount l N   (μ.1 1 5) μ (v11, μ10) h9) okJ10_bitCount q1017 ⟨rfl, rfl, Nat.le_of_ble_eq_true rfl, Nat.le_of_ble_eq_true rfl, Nat.zero_le _, Nat.zero_le _⟩ (Nat.le_of_ble_eq_true rfl) rfl ?_
    exact wr_iret 101 C dX0_count_101 ⟨Nat.zero_le _, Nat.zero_le _⟩ (Option.some.inj hf)
  replace hf := o_neg c8 hf
  by_cases c12 : a1 = 5
  · replace hf := o_pos c12 hf
    refine wr_tableIn 3 C dX0_count_3 (off := 99) (tgt := 102) (by rw [c12]; decide) (by rw [c12]; decide) (by rw [c12]; rfl) (by decide) ?_
    refine wr_aload_n 102 C dX0_count_102 1 rfl rfl ?_
    refine gespX_0_0_X0 103 C dX0_count_103 ?_
    refine gespX_1_7_X0 106 C dX0_count_106 ?_
    refine wr_if_eq 109 116 C dX0_count_109 (by decide) (fun c13 => ?_) (fun c13 => ?_)
    · replace hf := o_pos c13 hf
      refine wr_iconst 116 C dX0_count_116 (v := 0) rfl ?_
      exact wr_iret 117 C dX0_count_117 ⟨Nat.zero_le _, Nat.zero_le _⟩ (Option.some.inj hf)
    · replace hf := o_neg c13 hf
      refine wr_iconst 112 C dX0_count_112 (v := 1) rfl ?_
      refine wr_goto 113 C dX0_count_113 (tgt := 117) (by decide) ?_
      exact wr_iret 117 C dX0_count_117 ⟨Nat.zero_le _, Nat.zero_le _⟩ (Option.some.inj hf)
  replace hf := o_neg c12 hf
  by_cases c14 : a1 = 6
  · replace hf := o_pos c14 hf
    refine wr_tableIn 3 C dX0_count_3 (off := 115) (tgt := 118) (by rw [c14]; decide) (by rw [c14]; decide) (by rw [c14]; rfl) (by decide) ?_
    refine wr_aload_n 118 C dX0_count_118 1 rfl rfl ?_
    refine gespX_0_0_X0 119 C dX0_count_119 ?_
    refine gespX_1_6_X0 122 C dX0_count_122 ?_
    exact wr_iret 125 C dX0_count_125 ⟨Nat.zero_le _, Nat.zero_le _⟩ (Option.some.inj hf)
  replace hf := o_neg c14 hf
  by_cases c15 : a1 = 7
  · replace hf := o_pos c15 hf
    refine wr_tableIn 3 C dX0_count_3 (off := 123) (tgt := 126) (by rw [c15]; decide) (by rw [c15]; decide) (by rw [c15]; rfl) (by decide) ?_
    refine wr_aload_n 126 C dX0_count_126 1 rfl rfl ?_
    refine gespX_0_0_X0 127 C dX0_count_127 ?_
    refine gespX_1_1_X0 130 C dX0_count_130 ?_
    exact wr_iret 133 C dX0_count_133 ⟨Nat.zero_le _, Nat.zero_le _⟩ (Option.some.inj hf)
  replace hf := o_neg c15 hf
  by_cases c16 : a1 = 8
  · replace hf := o_pos c16 hf
    refine wr_tableIn 3 C dX0_count_3 (off := 131) (tgt := 134) (by rw [c16]; decide) (by rw [c16]; decide) (by rw [c16]; rfl) (by decide) ?_
    refine wr_aload_n 134 C dX0_count_134 1 rfl rfl ?_
    refine gespX_0_2_X0 135 C dX0_count_135 ?_
    exact wr_iret 138 C dX0_count_138 ⟨Nat.zero_le _, Nat.zero_le _⟩ (Option.some.inj hf)
  replace hf := o_neg c16 hf
  by_cases c17 : a1 = 9
  · replace hf := o_pos c17 hf
    refine wr_tableIn 3 C dX0_count_3 (off := 136) (tgt := 139) (by rw [c17]; decide) (by rw [c17]; decide) (by rw [c17]; rfl) (by decide) ?_
    refine wr_iconst 139 C dX0_count_139 (v := 0) rfl ?_
    refine wr_istore_n 140 [(3, .int 0), (2, .int 0), (0, .ref (q 0)), (1, .int a1)] C dX0_count_140 rfl rfl (Nat.le_of_ble_eq_true rfl) rfl ?_
    refine wr_sub [(0, .ref (q 0)), (2, .int 0), (3, .int 0)] [2, 1, 0] rfl ?_
    refine tX0_count_141 C hE N hs    hS _ r0 (fun x27 μ26 hf => ?_) N 0 0 μ hf
    · replace hf := hf
      refine wr_iload_n 172 C dX0_count_172 0 rfl rfl ?_
      exact wr_iret 173 C dX0_count_173 ⟨Nat.zero_le _, Nat.zero_le _⟩ (Option.some.inj hf)
  replace hf := o_neg c17 hf
  refine wr_tableOut 3 C dX0_count_3 (tgt := 174) (wSw9 0 a1 c1 c2 c3 c4 c8 c12 c14 c15 c16 c17) (by decide) ?_
  refine wr_iconst 174 C dX0_count_174 (v := (-1)) rfl ?_
  exact wr_iret 175 C dX0_count_175 ⟨Nat.zero_le _, Nat.zero_le _⟩ (Option.some.inj hf)
