set_option maxRecDepth 100000
abbrev cX0_goesBy : ByteArray := prog_1_method_87_code
def yX0_goesBy : MethodName := ⟨RX0, "goesBy", "(I)I"⟩
def dkwX0_goesBy_3 : List UInt8 := [182, 0, 237, 132, 2, 1, 167, 255, 207, 28, 172]
abbrev dktX0_goesBy_3 : List UInt8 := dkwX0_goesBy_3 ++ []
def dkwX0_goesBy_2 : List UInt8 := [182, 1, 22, 153, 0, 29, 42, 42, 27, 28, 182, 1, 131, 182, 1, 9, 42, 42, 27, 28, 182, 1, 131]
abbrev dktX0_goesBy_2 : List UInt8 := dkwX0_goesBy_2 ++ dktX0_goesBy_3
def dkwX0_goesBy_1 : List UInt8 := [3, 61, 28, 42, 180, 0, 85, 27, 50, 182, 1, 126, 162, 0, 42, 42, 42, 27, 28, 182, 1, 131]
abbrev dktX0_goesBy_1 : List UInt8 := dkwX0_goesBy_1 ++ dktX0_goesBy_2
def dkwX0_goesBy_0 : List UInt8 := [42, 182, 0, 222, 42, 3, 181, 0, 225, 42, 3, 181, 0, 228, 42, 3, 181, 1, 3, 42, 2, 181, 1, 6]
abbrev dktX0_goesBy_0 : List UInt8 := dkwX0_goesBy_0 ++ dktX0_goesBy_1
theorem dksX0_goesBy_0 : cX0_goesBy.data.toList.drop 0 = dktX0_goesBy_0 := by decide +kernel
theorem dksX0_goesBy_1 : cX0_goesBy.data.toList.drop 24 = dktX0_goesBy_1 := dk_seg dksX0_goesBy_0 24 rfl rfl
theorem dksX0_goesBy_2 : cX0_goesBy.data.toList.drop 46 = dktX0_goesBy_2 := dk_seg dksX0_goesBy_1 22 rfl rfl
theorem dksX0_goesBy_3 : cX0_goesBy.data.toList.drop 69 = dktX0_goesBy_3 := dk_seg dksX0_goesBy_2 23 rfl rfl
theorem dX0_goesBy_0 : decode cX0_goesBy 0 = .ok (.aload_n 0, 1) := dk_42 (dk_at dksX0_goesBy_0 0 rfl rfl)
theorem dX0_goesBy_1 : decode cX0_goesBy 1 = .ok (.invokevirtual 222, 3) := dk_182 0 222 (dk_at dksX0_goesBy_0 1 rfl rfl)
theorem dX0_goesBy_4 : decode cX0_goesBy 4 = .ok (.aload_n 0, 1) := dk_42 (dk_at dksX0_goesBy_0 4 rfl rfl)
theorem dX0_goesBy_5 : decode cX0_goesBy 5 = .ok (.iconst 0, 1) := dk_3 (dk_at dksX0_goesBy_0 5 rfl rfl)
theorem dX0_goesBy_6 : decode cX0_goesBy 6 = .ok (.putfield 225, 3) := dk_181 0 225 (dk_at dksX0_goesBy_0 6 rfl rfl)
theorem dX0_goesBy_9 : decode cX0_goesBy 9 = .ok (.aload_n 0, 1) := dk_42 (dk_at dksX0_goesBy_0 9 rfl rfl)
theorem dX0_goesBy_10 : decode cX0_goesBy 10 = .ok (.iconst 0, 1) := dk_3 (dk_at dksX0_goesBy_0 10 rfl rfl)
theorem dX0_goesBy_11 : decode cX0_goesBy 11 = .ok (.putfield 228, 3) := dk_181 0 228 (dk_at dksX0_goesBy_0 11 rfl rfl)
theorem dX0_goesBy_14 : decode cX0_goesBy 14 = .ok (.aload_n 0, 1) := dk_42 (dk_at dksX0_goesBy_0 14 rfl rfl)
theorem dX0_goesBy_15 : decode cX0_goesBy 15 = .ok (.iconst 0, 1) := dk_3 (dk_at dksX0_goesBy_0 15 rfl rfl)
theorem dX0_goesBy_16 : decode cX0_goesBy 16 = .ok (.putfield 259, 3) := dk_181 1 3 (dk_at dksX0_goesBy_0 16 rfl rfl)
theorem dX0_goesBy_19 : decode cX0_goesBy 19 = .ok (.aload_n 0, 1) := dk_42 (dk_at dksX0_goesBy_0 19 rfl rfl)
theorem dX0_goesBy_20 : decode cX0_goesBy 20 = .ok (.iconst (-1), 1) := dk_2 (dk_at dksX0_goesBy_0 20 rfl rfl)
theorem dX0_goesBy_21 : decode cX0_goesBy 21 = .ok (.putfield 262, 3) := dk_181 1 6 (dk_at dksX0_goesBy_0 21 rfl rfl)
theorem dX0_goesBy_24 : decode cX0_goesBy 24 = .ok (.iconst 0, 1) := dk_3 (dk_at dksX0_goesBy_1 0 rfl rfl)
theorem dX0_goesBy_25 : decode cX0_goesBy 25 = .ok (.istore_n 2, 1) := dk_61 (dk_at dksX0_goesBy_1 1 rfl rfl)
theorem dX0_goesBy_26 : decode cX0_goesBy 26 = .ok (.iload_n 2, 1) := dk_28 (dk_at dksX0_goesBy_1 2 rfl rfl)
theorem dX0_goesBy_27 : decode cX0_goesBy 27 = .ok (.aload_n 0, 1) := dk_42 (dk_at dksX0_goesBy_1 3 rfl rfl)
theorem dX0_goesBy_28 : decode cX0_goesBy 28 = .ok (.getfield 85, 3) := dk_180 0 85 (dk_at dksX0_goesBy_1 4 rfl rfl)
theorem dX0_goesBy_31 : decode cX0_goesBy 31 = .ok (.iload_n 1, 1) := dk_27 (dk_at dksX0_goesBy_1 7 rfl rfl)
theorem dX0_goesBy_32 : decode cX0_goesBy 32 = .ok (.aaload, 1) := dk_50 (dk_at dksX0_goesBy_1 8 rfl rfl)
theorem dX0_goesBy_33 : decode cX0_goesBy 33 = .ok (.invokevirtual 382, 3) := dk_182 1 126 (dk_at dksX0_goesBy_1 9 rfl rfl)
theorem dX0_goesBy_36 : decode cX0_goesBy 36 = .ok (.if_icmp .ge 42, 3) := dk_162 0 42 (dk_at dksX0_goesBy_1 12 rfl rfl)
theorem dX0_goesBy_39 : decode cX0_goesBy 39 = .ok (.aload_n 0, 1) := dk_42 (dk_at dksX0_goesBy_1 15 rfl rfl)
theorem dX0_goesBy_40 : decode cX0_goesBy 40 = .ok (.aload_n 0, 1) := dk_42 (dk_at dksX0_goesBy_1 16 rfl rfl)
theorem dX0_goesBy_41 : decode cX0_goesBy 41 = .ok (.iload_n 1, 1) := dk_27 (dk_at dksX0_goesBy_1 17 rfl rfl)
theorem dX0_goesBy_42 : decode cX0_goesBy 42 = .ok (.iload_n 2, 1) := dk_28 (dk_at dksX0_goesBy_1 18 rfl rfl)
theorem dX0_goesBy_43 : decode cX0_goesBy 43 = .ok (.invokevirtual 387, 3) := dk_182 1 131 (dk_at dksX0_goesBy_1 19 rfl rfl)
theorem dX0_goesBy_46 : decode cX0_goesBy 46 = .ok (.invokevirtual 278, 3) := dk_182 1 22 (dk_at dksX0_goesBy_2 0 rfl rfl)
theorem dX0_goesBy_49 : decode cX0_goesBy 49 = .ok (.ifCond .eq 29, 3) := dk_153 0 29 (dk_at dksX0_goesBy_2 3 rfl rfl)
theorem dX0_goesBy_52 : decode cX0_goesBy 52 = .ok (.aload_n 0, 1) := dk_42 (dk_at dksX0_goesBy_2 6 rfl rfl)
theorem dX0_goesBy_53 : decode cX0_goesBy 53 = .ok (.aload_n 0, 1) := dk_42 (dk_at dksX0_goesBy_2 7 rfl rfl)
theorem dX0_goesBy_54 : decode cX0_goesBy 54 = .ok (.iload_n 1, 1) := dk_27 (dk_at dksX0_goesBy_2 8 rfl rfl)
theorem dX0_goesBy_55 : decode cX0_goesBy 55 = .ok (.iload_n 2, 1) := dk_28 (dk_at dksX0_goesBy_2 9 rfl rfl)
theorem dX0_goesBy_56 : decode cX0_goesBy 56 = .ok (.invokevirtual 387, 3) := dk_182 1 131 (dk_at dksX0_goesBy_2 10 rfl rfl)
theorem dX0_goesBy_59 : decode cX0_goesBy 59 = .ok (.invokevirtual 265, 3) := dk_182 1 9 (dk_at dksX0_goesBy_2 13 rfl rfl)
theorem dX0_goesBy_62 : decode cX0_goesBy 62 = .ok (.aload_n 0, 1) := dk_42 (dk_at dksX0_goesBy_2 16 rfl rfl)
theorem dX0_goesBy_63 : decode cX0_goesBy 63 = .ok (.aload_n 0, 1) := dk_42 (dk_at dksX0_goesBy_2 17 rfl rfl)
theorem dX0_goesBy_64 : decode cX0_goesBy 64 = .ok (.iload_n 1, 1) := dk_27 (dk_at dksX0_goesBy_2 18 rfl rfl)
theorem dX0_goesBy_65 : decode cX0_goesBy 65 = .ok (.iload_n 2, 1) := dk_28 (dk_at dksX0_goesBy_2 19 rfl rfl)
theorem dX0_goesBy_66 : decode cX0_goesBy 66 = .ok (.invokevirtual 387, 3) := dk_182 1 131 (dk_at dksX0_goesBy_2 20 rfl rfl)
theorem dX0_goesBy_69 : decode cX0_goesBy 69 = .ok (.invokevirtual 237, 3) := dk_182 0 237 (dk_at dksX0_goesBy_3 0 rfl rfl)
theorem dX0_goesBy_72 : decode cX0_goesBy 72 = .ok (.iinc 2 1, 3) := dk_132 2 1 (dk_at dksX0_goesBy_3 3 rfl rfl)
theorem dX0_goesBy_75 : decode cX0_goesBy 75 = .ok (.goto (-49), 3) := dk_167 255 207 (dk_at dksX0_goesBy_3 6 rfl rfl)
theorem dX0_goesBy_78 : decode cX0_goesBy 78 = .ok (.iload_n 2, 1) := dk_28 (dk_at dksX0_goesBy_3 9 rfl rfl)
theorem dX0_goesBy_79 : decode cX0_goesBy 79 = .ok (.ireturn, 1) := dk_172 (dk_at dksX0_goesBy_3 10 rfl rfl)

theorem okX0_goesBy : wOkV yX0_goesBy cX0_goesBy 3 (some .int) 1 := ⟨q1076, qs54, q136, q1077, by decide, by decide, by decide +kernel⟩
def gbX0_goesBy_26 (N : Nat) (c0 t n : Nat)  (x1_ : Int32) (K : (Int32 → wMem → Option (Int32 × wMem))) (rec : (Int32 → wMem → Option (Int32 × wMem))) (x2_ : Int32) (μ : wMem) : Option (Int32 × wMem) :=
  if (Int32.ofNat n) ≤ x2_ then K x2_ μ else wG (ok_in x2_ n) (wBind (fX0_can N  (Int64.toInt32 (wAt μ c0 t (Int32.toNatClampNeg x2_))) μ) fun v11 μ10 => if v11 = 0 then K x2_ μ10 else wG (ok_in x2_ n) (wBindV (fX0_liesBy N  (Int64.toInt32 (wAt μ10 c0 t (Int32.toNatClampNeg x2_))) μ10) fun μ15 => wG (ok_in x2_ n) (wBindV (fX0_does0 N  (Int64.toInt32 (wAt μ15 c0 t (Int32.toNatClampNeg x2_))) μ15) fun μ18 => wLet (x2_ + 1 : Int32) fun x19 => rec x19 μ18)))
def gX0_goesBy_26 (N : Nat) (c0 t n : Nat)  (x1_ : Int32) (K : (Int32 → wMem → Option (Int32 × wMem))) : Nat → (Int32 → wMem → Option (Int32 × wMem))
  | 0 => fun _ _ => none
  | k + 1 => gbX0_goesBy_26 N c0 t n  x1_ K (gX0_goesBy_26 N c0 t n  x1_ K k)
set_option maxHeartbeats 4000000 in
set_option maxRecDepth 100000 in
theorem tX0_goesBy_26 {p : Program} {l : Launch} {e : Env} {s : State} {m : MethodId} {args : Array Value} {below : List Frame} {meth : Method} {c : Code} {D : va_G} {E : List wCell} {q : Nat → Nat} {ca : wCA} {A : Nat → Prop} (C : wC p ({ frames := 4, cells := 0, slots := 0, locals := 88 } : Room) s m args meth c cX0_goesBy yX0_goesBy.cls 3 (some .int) D vwCl (spX ++ E) q ca A) (hE : wSlots ca (spX ++ E)) (N : Nat) (c0 t n : Nat)   (x1_ : Int32) (hi1 : ok_in x1_ 4 = true) (hb : (spX ++ E)[24 + x1_.toNatClampNeg]? = some (.inl (5, [(2, c0)]))) (hr : wRow (spX ++ E) c0 t n) (K : (Int32 → wMem → Option (Int32 × wMem))) (r0 : (Int32 × wMem)) (hK : ∀ (y2_ : Int32) (μ : wMem), K y2_ μ = some r0 → wJ p l e ({ frames := 4, cells := 0, slots := 0, locals := 88 } : Room) s m args below meth c 3 D vwCl (spX ++ E) q ca A (wQi ({ frames := 4, cells := 0, slots := 0, locals := 88 } : Room) D vwCl (spX ++ E) q ca below args s A r0) 0 0 μ 78 [(2, .int y2_)] []) : ∀ (k : Nat) (x2_ : Int32) (μ : wMem), gX0_goesBy_26 N c0 t n  x1_ K k x2_ μ = some r0 → wJ p l e ({ frames := 4, cells := 0, slots := 0, locals := 88 } : Room) s m args below meth c 3 D vwCl (spX ++ E) q ca A (wQi ({ frames := 4, cells := 0, slots := 0, locals := 88 } : Room) D vwCl (spX ++ E) q ca below args s A r0) 0 0 μ 26 [(0, .ref (q 0)), (1, .int x1_), (2, .int x2_)] [] := by
  intro k
  induction k with
  | zero =>
    intro x2_ μ hf
    cases hf
  | succ k ih =>
    intro x2_ μ hf
    replace hf : gbX0_goesBy_26 N c0 t n  x1_ K (gX0_goesBy_26 N c0 t n  x1_ K k) x2_ μ = some r0 := hf
    unfold gbX0_goesBy_26 at hf
    refine wr_iload_n 26 C dX0_goesBy_26 2 rfl rfl ?_
    refine wr_aload_n 27 C dX0_goesBy_27 0 rfl rfl ?_
    refine geX_slots 28 C dX0_goesBy_28 ?_
    refine wr_iload_n 31 C dX0_goesBy_31 1 rfl rfl ?_
    refine wr_aaldD 32 C dX0_goesBy_32 5 hE.1 wRc_slots hE.2 hi1 (wRd_slots (ok_in4 hi1)) ?_
    refine wr_Vi (kc1 := 0) (ks1 := 0) (As := []) 33 [.int x2_] C dX0_goesBy_33 (tX5_size l hb hr μ) okX5_size q1062 (b := (24 + x1_.toNatClampNeg)) hb rfl ⟨rfl, rfl, Nat.le_of_ble_eq_true rfl, Nat.le_of_ble_eq_true rfl, Nat.zero_le _, Nat.zero_le _⟩ (Nat.le_of_ble_eq_true rfl) rfl ?_
    refine wr_icmp_ge 36 78 C dX0_goesBy_36 (by decide) (fun c7 => ?_) (fun c7 => ?_)
    · replace hf := o_pos c7 hf
      refine wr_sub [(2, .int x2_)] [2] rfl ?_
      exact hK x2_ μ hf
    · replace hf := o_neg c7 hf
      refine wr_aload_n 39 C dX0_goesBy_39 0 rfl rfl ?_
      refine wr_aload_n 40 C dX0_goesBy_40 0 rfl rfl ?_
      refine wr_iload_n 41 C dX0_goesBy_41 1 rfl rfl ?_
      refine wr_iload_n 42 C dX0_goesBy_42 2 rfl rfl ?_
      obtain ⟨g8, hf⟩ := o_g hf
      refine wr_Vi (kc1 := 0) (ks1 := 0) (As := [.int x1_, .int x2_]) 43 [.ref (q 0)] C dX0_goesBy_43 (tX0_number l hE hi1 hb hr g8 μ) okX0_number q1078 (b := 0) spX_0 rfl ⟨rfl, rfl, Nat.le_of_ble_eq_true rfl, Nat.le_of_ble_eq_true rfl, Nat.zero_le _, Nat.zero_le _⟩ (Nat.le_of_ble_eq_true rfl) rfl ?_
      obtain ⟨v11, μ10, h9, hf⟩ := o_bind hf
      refine wr_Vi (kc1 := 0) (ks1 := 0) 46 [] C dX0_goesBy_46 (tX0_can l N   (Int64.toInt32 (wAt μ c0 t (Int32.toNatClampNeg x2_))) μ (v11, μ10) h9) okX0_can q844 (b := 0) spX_0 rfl ⟨rfl, rfl, Nat.le_of_ble_eq_true rfl, Nat.le_of_ble_eq_true rfl, Nat.zero_le _, Nat.zero_le _⟩ (Nat.le_of_ble_eq_true rfl) rfl ?_
      refine wr_if_eq 49 78 C dX0_goesBy_49 (by decide) (fun c12 => ?_) (fun c12 => ?_)
      · replace hf := o_pos c12 hf
        refine wr_sub [(2, .int x2_)] [2] rfl ?_
        exact hK x2_ μ10 hf
      · replace hf := o_neg c12 hf
        refine wr_aload_n 52 C dX0_goesBy_52 0 rfl rfl ?_
        refine wr_aload_n 53 C dX0_goesBy_53 0 rfl rfl ?_
        refine wr_iload_n 54 C dX0_goesBy_54 1 rfl rfl ?_
        refine wr_iload_n 55 C dX0_goesBy_55 2 rfl rfl ?_
        obtain ⟨g13, hf⟩ := o_g hf
        refine wr_Vi (kc1 := 0) (ks1 := 0) (As := [.int x1_, .int x2_]) 56 [.ref (q 0)] C dX0_goesBy_56 (tX0_number l hE hi1 hb hr g13 μ10) okX0_number q1078 (b := 0) spX_0 rfl ⟨rfl, rfl, Nat.le_of_ble_eq_true rfl, Nat.le_of_ble_eq_true rfl, Nat.zero_le _, Nat.zero_le _⟩ (Nat.le_of_ble_eq_true rfl) rfl ?_
        obtain ⟨μ15, h14, hf⟩ := o_bindV hf
        refine wr_Vv (kc1 := 0) (ks1 := 0) 59 [] C dX0_goesBy_59 (tX0_liesBy l N   (Int64.toInt32 (wAt μ10 c0 t (Int32.toNatClampNeg x2_))) μ10 μ15 h14) okX0_liesBy q786 (b := 0) spX_0 rfl ⟨rfl, rfl, Nat.le_of_ble_eq_true rfl, Nat.le_of_ble_eq_true rfl, Nat.zero_le _, Nat.zero_le _⟩ (Nat.le_of_ble_eq_true rfl) rfl ?_
        refine wr_aload_n 62 C dX0_goesBy_62 0 rfl rfl ?_
        refine wr_aload_n 63 C dX0_goesBy_63 0 rfl rfl ?_
        refine wr_iload_n 64 C dX0_goesBy_64 1 rfl rfl ?_
        refine wr_iload_n 65 C dX0_goesBy_65 2 rfl rfl ?_
        obtain ⟨g16, hf⟩ := o_g hf
        refine wr_Vi (kc1 := 0) (ks1 := 0) (As := [.int x1_, .int x2_]) 66 [.ref (q 0)] C dX0_goesBy_66 (tX0_number l hE hi1 hb hr g16 μ15) okX0_number q1078 (b := 0) spX_0 rfl ⟨rfl, rfl, Nat.le_of_ble_eq_true rfl, Nat.le_of_ble_eq_true rfl, Nat.zero_le _, Nat.zero_le _⟩ (Nat.le_of_ble_eq_true rfl) rfl ?_
        obtain ⟨μ18, h17, hf⟩ := o_bindV hf
        refine wr_Vv (kc1 := 0) (ks1 := 0) 69 [] C dX0_goesBy_69 (tX0_does0 l N   (Int64.toInt32 (wAt μ15 c0 t (Int32.toNatClampNeg x2_))) μ15 μ18 h17) okX0_does0 q745 (b := 0) spX_0 rfl ⟨rfl, rfl, Nat.le_of_ble_eq_true rfl, Nat.le_of_ble_eq_true rfl, Nat.zero_le _, Nat.zero_le _⟩ (Nat.le_of_ble_eq_true rfl) rfl ?_
        obtain ⟨x19, ex19, hf⟩ := o_let hf
        refine wr_iinc 72 [(2, .int x19), (0, .ref (q 0)), (1, .int x1_)] C dX0_goesBy_72 2 rfl (ex19.trans rfl) (Nat.le_of_ble_eq_true rfl) rfl ?_
        refine wr_goto 75 C dX0_goesBy_75 (tgt := 26) (by decide) ?_
        refine wr_sub [(0, .ref (q 0)), (1, .int x1_), (2, .int x19)] [1, 2, 0] rfl ?_
        exact ih x19 μ18 hf
def fX0_goesBy (N : Nat) (c0 t n : Nat)  (a1 : Int32) (μ : wMem) : Option (Int32 × wMem) :=
  wBindV (fX0_asAtFirst N   μ) fun μ2 => wLet (wSI μ2 0 9 (0 : Int32)) fun μ3 => wLet (wSI μ3 0 10 (0 : Int32)) fun μ4 => wLet (wSI μ4 0 11 (0 : Int32)) fun μ5 => wLet (wSI μ5 0 12 (-1 : Int32)) fun μ6 => gX0_goesBy_26 N c0 t n  a1 (fun (x21 : Int32) (μ20 : wMem) => some (x21, μ20)) N 0 μ6
set_option maxHeartbeats 4000000 in
set_option maxRecDepth 100000 in
theorem tX0_goesBy (l : Launch) {D : va_G} {E : List wCell} {q : Nat → Nat} {ca : wCA} (hE : wSlots ca (spX ++ E)) (N : Nat) (c0 t n : Nat)   (a1 : Int32) (μ : wMem) (r0 : (Int32 × wMem)) (hi1 : ok_in a1 4 = true) (hb : (spX ++ E)[24 + a1.toNatClampNeg]? = some (.inl (5, [(2, c0)]))) (hr : wRow (spX ++ E) c0 t n) (hf : fX0_goesBy N c0 t n  a1 μ = some r0) : wMi l yX0_goesBy cX0_goesBy 3 (some .int) ({ frames := 4, cells := 0, slots := 0, locals := 88 } : Room) D vwCl (spX ++ E) q ca [.ref (q 0), .int a1] μ r0 := by
  refine wMi_intro (by decide) (Nat.le_of_ble_eq_true rfl) ?_
  intro p e s m args below meth c A C
  unfold fX0_goesBy at hf
  refine wr_sub [(0, .ref (q 0)), (1, .int a1)] [0, 1] rfl ?_
  refine wr_aload_n 0 C dX0_goesBy_0 0 rfl rfl ?_
  obtain ⟨μ2, h1, hf⟩ := o_bindV hf
  refine wr_Vv (kc1 := 0) (ks1 := 0) 1 [] C dX0_goesBy_1 (tX0_asAtFirst l N    μ μ2 h1) okX0_asAtFirst q741 (b := 0) spX_0 rfl ⟨rfl, rfl, Nat.le_of_ble_eq_true rfl, Nat.le_of_ble_eq_true rfl, Nat.zero_le _, Nat.zero_le _⟩ (Nat.le_of_ble_eq_true rfl) rfl ?_
  refine wr_aload_n 4 C dX0_goesBy_4 0 rfl rfl ?_
  refine wr_iconst 5 C dX0_goesBy_5 (v := 0) rfl ?_
  obtain ⟨μ3, eμ3, hf⟩ := o_let hf
  refine puspX_0_9_X0 6 C dX0_goesBy_6 eμ3 ?_
  refine wr_aload_n 9 C dX0_goesBy_9 0 rfl rfl ?_
  refine wr_iconst 10 C dX0_goesBy_10 (v := 0) rfl ?_
  obtain ⟨μ4, eμ4, hf⟩ := o_let hf
  refine puspX_0_10_X0 11 C dX0_goesBy_11 eμ4 ?_
  refine wr_aload_n 14 C dX0_goesBy_14 0 rfl rfl ?_
  refine wr_iconst 15 C dX0_goesBy_15 (v := 0) rfl ?_
  obtain ⟨μ5, eμ5, hf⟩ := o_let hf
  refine puspX_0_11_X0 16 C dX0_goesBy_16 eμ5 ?_
  refine wr_aload_n 19 C dX0_goesBy_19 0 rfl rfl ?_
  refine wr_iconst 20 C dX0_goesBy_20 (v := (-1)) rfl ?_
  obtain ⟨μ6, eμ6, hf⟩ := o_let hf
  refine puspX_0_12_X0 21 C dX0_goesBy_21 eμ6 ?_
  refine wr_iconst 24 C dX0_goesBy_24 (v := 0) rfl ?_
  refine wr_istore_n 25 [(2, .int 0), (0, .ref (q 0)), (1, .int a1)] C dX0_goesBy_25 rfl rfl (Nat.le_of_ble_eq_true rfl) rfl ?_
  refine wr_sub [(0, .ref (q 0)), (1, .int a1), (2, .int 0)] [1, 2, 0] rfl ?_
  refine tX0_goesBy_26 C hE N c0 t n   a1 hi1 hb hr _ r0 (fun x21 μ20 hf => ?_) N 0 μ6 hf
  · replace hf := hf
    refine wr_iload_n 78 C dX0_goesBy_78 0 rfl rfl ?_
    exact wr_iret 79 C dX0_goesBy_79 ⟨Nat.zero_le _, Nat.zero_le _⟩ (Option.some.inj hf)
abbrev cX0_firstBy : ByteArray := prog_1_method_98_code
def yX0_firstBy : MethodName := ⟨RX0, "firstBy", "(II)I"⟩
def dkwX0_firstBy_0 : List UInt8 := [16, 100, 42, 27, 28, 182, 1, 131, 16, 10, 108, 104, 172]
abbrev dktX0_firstBy_0 : List UInt8 := dkwX0_firstBy_0 ++ []
theorem dksX0_firstBy_0 : cX0_firstBy.data.toList.drop 0 = dktX0_firstBy_0 := by decide +kernel
theorem dX0_firstBy_0 : decode cX0_firstBy 0 = .ok (.bipush 100, 2) := dk_16 100 (dk_at dksX0_firstBy_0 0 rfl rfl)
theorem dX0_firstBy_2 : decode cX0_firstBy 2 = .ok (.aload_n 0, 1) := dk_42 (dk_at dksX0_firstBy_0 2 rfl rfl)
theorem dX0_firstBy_3 : decode cX0_firstBy 3 = .ok (.iload_n 1, 1) := dk_27 (dk_at dksX0_firstBy_0 3 rfl rfl)
theorem dX0_firstBy_4 : decode cX0_firstBy 4 = .ok (.iload_n 2, 1) := dk_28 (dk_at dksX0_firstBy_0 4 rfl rfl)
theorem dX0_firstBy_5 : decode cX0_firstBy 5 = .ok (.invokevirtual 387, 3) := dk_182 1 131 (dk_at dksX0_firstBy_0 5 rfl rfl)
theorem dX0_firstBy_8 : decode cX0_firstBy 8 = .ok (.bipush 10, 2) := dk_16 10 (dk_at dksX0_firstBy_0 8 rfl rfl)
theorem dX0_firstBy_10 : decode cX0_firstBy 10 = .ok (.idiv, 1) := dk_108 (dk_at dksX0_firstBy_0 10 rfl rfl)
theorem dX0_firstBy_11 : decode cX0_firstBy 11 = .ok (.imul, 1) := dk_104 (dk_at dksX0_firstBy_0 11 rfl rfl)
theorem dX0_firstBy_12 : decode cX0_firstBy 12 = .ok (.ireturn, 1) := dk_172 (dk_at dksX0_firstBy_0 12 rfl rfl)

theorem okX0_firstBy : wOkV yX0_firstBy cX0_firstBy 3 (some .int) 2 := ⟨q1123, qs60, q136, q1124, by decide, by decide, by decide +kernel⟩
def fX0_firstBy (N : Nat) (c0 t n : Nat)  (a1 : Int32) (a2 : Int32) (μ : wMem) : Option (Int32 × wMem) :=
  wG (ok_in a2 n) (some ((100 : Int32) * ((Int64.toInt32 (wAt μ c0 t (Int32.toNatClampNeg a2))) / (10 : Int32)), μ))
set_option maxHeartbeats 4000000 in
set_option maxRecDepth 100000 in
theorem tX0_firstBy (l : Launch) {D : va_G} {E : List wCell} {q : Nat → Nat} {ca : wCA} (hE : wSlots ca (spX ++ E)) (N : Nat) (c0 t n : Nat)   (a1 : Int32) (a2 : Int32) (μ : wMem) (r0 : (Int32 × wMem)) (hi1 : ok_in a1 4 = true) (hb : (spX ++ E)[24 + a1.toNatClampNeg]? = some (.inl (5, [(2, c0)]))) (hr : wRow (spX ++ E) c0 t n) (hf : fX0_firstBy N c0 t n  a1 a2 μ = some r0) : wMi l yX0_firstBy cX0_firstBy 3 (some .int) ({ frames := 2, cells := 0, slots := 0, locals := 43 } : Room) D vwCl (spX ++ E) q ca [.ref (q 0), .int a1, .int a2] μ r0 := by
  refine wMi_intro (by decide) (Nat.le_of_ble_eq_true rfl) ?_
  intro p e s m args below meth c A C
  unfold fX0_firstBy at hf
  refine wr_sub [(0, .ref (q 0)), (1, .int a1), (2, .int a2)] [0, 1, 2] rfl ?_
  refine wr_bipush 0 C dX0_firstBy_0 (v := 100) rfl ?_
  refine wr_aload_n 2 C dX0_firstBy_2 0 rfl rfl ?_
  refine wr_iload_n 3 C dX0_firstBy_3 1 rfl rfl ?_
  refine wr_iload_n 4 C dX0_firstBy_4 2 rfl rfl ?_
  obtain ⟨g1, hf⟩ := o_g hf
  refine wr_Vi (kc1 := 0) (ks1 := 0) (As := [.int a1, .int a2]) 5 [.int 100] C dX0_firstBy_5 (tX0_number l hE hi1 hb hr g1 μ) okX0_number q1078 (b := 0) spX_0 rfl ⟨rfl, rfl, Nat.le_of_ble_eq_true rfl, Nat.le_of_ble_eq_true rfl, Nat.zero_le _, Nat.zero_le _⟩ (Nat.le_of_ble_eq_true rfl) rfl ?_
  refine wr_bipush 8 C dX0_firstBy_8 (v := 10) rfl ?_
  refine wr_idiv 10 C dX0_firstBy_10 (by decide) ?_
  refine wr_imul 11 C dX0_firstBy_11 ?_
  exact wr_iret 12 C dX0_firstBy_12 ⟨Nat.zero_le _, Nat.zero_le _⟩ (Option.some.inj hf)
abbrev cX0_beScene : ByteArray := prog_1_method_95_code
def yX0_beScene : MethodName := ⟨RX0, "beScene", "(III)V"⟩
def dkwX0_beScene_5 : List UInt8 := [162, 0, 16, 42, 42, 29, 27, 182, 1, 131, 16, 10, 112, 181, 0, 182, 177]
abbrev dktX0_beScene_5 : List UInt8 := dkwX0_beScene_5 ++ []
def dkwX0_beScene_4 : List UInt8 := [21, 4, 182, 1, 131, 16, 10, 112, 128, 181, 0, 185, 132, 4, 1, 167, 255, 191, 27, 42, 180, 1, 140]
abbrev dktX0_beScene_4 : List UInt8 := dkwX0_beScene_4 ++ dktX0_beScene_5
def dkwX0_beScene_3 : List UInt8 := [126, 128, 42, 29, 21, 4, 182, 1, 131, 16, 10, 112, 128, 167, 0, 20, 42, 180, 0, 185, 4, 120, 42, 29]
abbrev dktX0_beScene_3 : List UInt8 := dkwX0_beScene_3 ++ dktX0_beScene_4
def dkwX0_beScene_2 : List UInt8 := [27, 162, 0, 65, 42, 42, 180, 0, 185, 16, 8, 161, 0, 29, 16, 8, 42, 180, 0, 185, 4, 120, 16, 7]
abbrev dktX0_beScene_2 : List UInt8 := dkwX0_beScene_2 ++ dktX0_beScene_3
def dkwX0_beScene_1 : List UInt8 := [100, 79, 42, 180, 0, 24, 4, 28, 16, 7, 112, 4, 100, 79, 42, 4, 181, 0, 185, 3, 54, 4, 21, 4]
abbrev dktX0_beScene_1 : List UInt8 := dkwX0_beScene_1 ++ dktX0_beScene_2
def dkwX0_beScene_0 : List UInt8 := [42, 28, 16, 7, 108, 16, 7, 108, 181, 0, 179, 42, 180, 0, 24, 3, 28, 16, 7, 108, 16, 7, 112, 4]
abbrev dktX0_beScene_0 : List UInt8 := dkwX0_beScene_0 ++ dktX0_beScene_1
theorem dksX0_beScene_0 : cX0_beScene.data.toList.drop 0 = dktX0_beScene_0 := by decide +kernel
theorem dksX0_beScene_1 : cX0_beScene.data.toList.drop 24 = dktX0_beScene_1 := dk_seg dksX0_beScene_0 24 rfl rfl
theorem dksX0_beScene_2 : cX0_beScene.data.toList.drop 48 = dktX0_beScene_2 := dk_seg dksX0_beScene_1 24 rfl rfl
theorem dksX0_beScene_3 : cX0_beScene.data.toList.drop 72 = dktX0_beScene_3 := dk_seg dksX0_beScene_2 24 rfl rfl
theorem dksX0_beScene_4 : cX0_beScene.data.toList.drop 96 = dktX0_beScene_4 := dk_seg dksX0_beScene_3 24 rfl rfl
theorem dksX0_beScene_5 : cX0_beScene.data.toList.drop 119 = dktX0_beScene_5 := dk_seg dksX0_beScene_4 23 rfl rfl
theorem dX0_beScene_0 : decode cX0_beScene 0 = .ok (.aload_n 0, 1) := dk_42 (dk_at dksX0_beScene_0 0 rfl rfl)
theorem dX0_beScene_1 : decode cX0_beScene 1 = .ok (.iload_n 2, 1) := dk_28 (dk_at dksX0_beScene_0 1 rfl rfl)
theorem dX0_beScene_2 : decode cX0_beScene 2 = .ok (.bipush 7, 2) := dk_16 7 (dk_at dksX0_beScene_0 2 rfl rfl)
theorem dX0_beScene_4 : decode cX0_beScene 4 = .ok (.idiv, 1) := dk_108 (dk_at dksX0_beScene_0 4 rfl rfl)
theorem dX0_beScene_5 : decode cX0_beScene 5 = .ok (.bipush 7, 2) := dk_16 7 (dk_at dksX0_beScene_0 5 rfl rfl)
theorem dX0_beScene_7 : decode cX0_beScene 7 = .ok (.idiv, 1) := dk_108 (dk_at dksX0_beScene_0 7 rfl rfl)
theorem dX0_beScene_8 : decode cX0_beScene 8 = .ok (.putfield 179, 3) := dk_181 0 179 (dk_at dksX0_beScene_0 8 rfl rfl)
theorem dX0_beScene_11 : decode cX0_beScene 11 = .ok (.aload_n 0, 1) := dk_42 (dk_at dksX0_beScene_0 11 rfl rfl)
theorem dX0_beScene_12 : decode cX0_beScene 12 = .ok (.getfield 24, 3) := dk_180 0 24 (dk_at dksX0_beScene_0 12 rfl rfl)
theorem dX0_beScene_15 : decode cX0_beScene 15 = .ok (.iconst 0, 1) := dk_3 (dk_at dksX0_beScene_0 15 rfl rfl)
theorem dX0_beScene_16 : decode cX0_beScene 16 = .ok (.iload_n 2, 1) := dk_28 (dk_at dksX0_beScene_0 16 rfl rfl)
theorem dX0_beScene_17 : decode cX0_beScene 17 = .ok (.bipush 7, 2) := dk_16 7 (dk_at dksX0_beScene_0 17 rfl rfl)
theorem dX0_beScene_19 : decode cX0_beScene 19 = .ok (.idiv, 1) := dk_108 (dk_at dksX0_beScene_0 19 rfl rfl)
theorem dX0_beScene_20 : decode cX0_beScene 20 = .ok (.bipush 7, 2) := dk_16 7 (dk_at dksX0_beScene_0 20 rfl rfl)
theorem dX0_beScene_22 : decode cX0_beScene 22 = .ok (.irem, 1) := dk_112 (dk_at dksX0_beScene_0 22 rfl rfl)
theorem dX0_beScene_23 : decode cX0_beScene 23 = .ok (.iconst 1, 1) := dk_4 (dk_at dksX0_beScene_0 23 rfl rfl)
theorem dX0_beScene_24 : decode cX0_beScene 24 = .ok (.isub, 1) := dk_100 (dk_at dksX0_beScene_1 0 rfl rfl)
theorem dX0_beScene_25 : decode cX0_beScene 25 = .ok (.iastore, 1) := dk_79 (dk_at dksX0_beScene_1 1 rfl rfl)
theorem dX0_beScene_26 : decode cX0_beScene 26 = .ok (.aload_n 0, 1) := dk_42 (dk_at dksX0_beScene_1 2 rfl rfl)
theorem dX0_beScene_27 : decode cX0_beScene 27 = .ok (.getfield 24, 3) := dk_180 0 24 (dk_at dksX0_beScene_1 3 rfl rfl)
theorem dX0_beScene_30 : decode cX0_beScene 30 = .ok (.iconst 1, 1) := dk_4 (dk_at dksX0_beScene_1 6 rfl rfl)
theorem dX0_beScene_31 : decode cX0_beScene 31 = .ok (.iload_n 2, 1) := dk_28 (dk_at dksX0_beScene_1 7 rfl rfl)
theorem dX0_beScene_32 : decode cX0_beScene 32 = .ok (.bipush 7, 2) := dk_16 7 (dk_at dksX0_beScene_1 8 rfl rfl)
theorem dX0_beScene_34 : decode cX0_beScene 34 = .ok (.irem, 1) := dk_112 (dk_at dksX0_beScene_1 10 rfl rfl)
theorem dX0_beScene_35 : decode cX0_beScene 35 = .ok (.iconst 1, 1) := dk_4 (dk_at dksX0_beScene_1 11 rfl rfl)
theorem dX0_beScene_36 : decode cX0_beScene 36 = .ok (.isub, 1) := dk_100 (dk_at dksX0_beScene_1 12 rfl rfl)
theorem dX0_beScene_37 : decode cX0_beScene 37 = .ok (.iastore, 1) := dk_79 (dk_at dksX0_beScene_1 13 rfl rfl)
theorem dX0_beScene_38 : decode cX0_beScene 38 = .ok (.aload_n 0, 1) := dk_42 (dk_at dksX0_beScene_1 14 rfl rfl)
theorem dX0_beScene_39 : decode cX0_beScene 39 = .ok (.iconst 1, 1) := dk_4 (dk_at dksX0_beScene_1 15 rfl rfl)
theorem dX0_beScene_40 : decode cX0_beScene 40 = .ok (.putfield 185, 3) := dk_181 0 185 (dk_at dksX0_beScene_1 16 rfl rfl)
theorem dX0_beScene_43 : decode cX0_beScene 43 = .ok (.iconst 0, 1) := dk_3 (dk_at dksX0_beScene_1 19 rfl rfl)
theorem dX0_beScene_44 : decode cX0_beScene 44 = .ok (.istore 4, 2) := dk_54 4 (dk_at dksX0_beScene_1 20 rfl rfl)
theorem dX0_beScene_46 : decode cX0_beScene 46 = .ok (.iload 4, 2) := dk_21 4 (dk_at dksX0_beScene_1 22 rfl rfl)
theorem dX0_beScene_48 : decode cX0_beScene 48 = .ok (.iload_n 1, 1) := dk_27 (dk_at dksX0_beScene_2 0 rfl rfl)
theorem dX0_beScene_49 : decode cX0_beScene 49 = .ok (.if_icmp .ge 65, 3) := dk_162 0 65 (dk_at dksX0_beScene_2 1 rfl rfl)
theorem dX0_beScene_52 : decode cX0_beScene 52 = .ok (.aload_n 0, 1) := dk_42 (dk_at dksX0_beScene_2 4 rfl rfl)
theorem dX0_beScene_53 : decode cX0_beScene 53 = .ok (.aload_n 0, 1) := dk_42 (dk_at dksX0_beScene_2 5 rfl rfl)
theorem dX0_beScene_54 : decode cX0_beScene 54 = .ok (.getfield 185, 3) := dk_180 0 185 (dk_at dksX0_beScene_2 6 rfl rfl)
theorem dX0_beScene_57 : decode cX0_beScene 57 = .ok (.bipush 8, 2) := dk_16 8 (dk_at dksX0_beScene_2 9 rfl rfl)
theorem dX0_beScene_59 : decode cX0_beScene 59 = .ok (.if_icmp .lt 29, 3) := dk_161 0 29 (dk_at dksX0_beScene_2 11 rfl rfl)
theorem dX0_beScene_62 : decode cX0_beScene 62 = .ok (.bipush 8, 2) := dk_16 8 (dk_at dksX0_beScene_2 14 rfl rfl)
theorem dX0_beScene_64 : decode cX0_beScene 64 = .ok (.aload_n 0, 1) := dk_42 (dk_at dksX0_beScene_2 16 rfl rfl)
theorem dX0_beScene_65 : decode cX0_beScene 65 = .ok (.getfield 185, 3) := dk_180 0 185 (dk_at dksX0_beScene_2 17 rfl rfl)
theorem dX0_beScene_68 : decode cX0_beScene 68 = .ok (.iconst 1, 1) := dk_4 (dk_at dksX0_beScene_2 20 rfl rfl)
theorem dX0_beScene_69 : decode cX0_beScene 69 = .ok (.ishl, 1) := dk_120 (dk_at dksX0_beScene_2 21 rfl rfl)
theorem dX0_beScene_70 : decode cX0_beScene 70 = .ok (.bipush 7, 2) := dk_16 7 (dk_at dksX0_beScene_2 22 rfl rfl)
theorem dX0_beScene_72 : decode cX0_beScene 72 = .ok (.iand, 1) := dk_126 (dk_at dksX0_beScene_3 0 rfl rfl)
theorem dX0_beScene_73 : decode cX0_beScene 73 = .ok (.ior, 1) := dk_128 (dk_at dksX0_beScene_3 1 rfl rfl)
theorem dX0_beScene_74 : decode cX0_beScene 74 = .ok (.aload_n 0, 1) := dk_42 (dk_at dksX0_beScene_3 2 rfl rfl)
theorem dX0_beScene_75 : decode cX0_beScene 75 = .ok (.iload_n 3, 1) := dk_29 (dk_at dksX0_beScene_3 3 rfl rfl)
theorem dX0_beScene_76 : decode cX0_beScene 76 = .ok (.iload 4, 2) := dk_21 4 (dk_at dksX0_beScene_3 4 rfl rfl)
theorem dX0_beScene_78 : decode cX0_beScene 78 = .ok (.invokevirtual 387, 3) := dk_182 1 131 (dk_at dksX0_beScene_3 6 rfl rfl)
theorem dX0_beScene_81 : decode cX0_beScene 81 = .ok (.bipush 10, 2) := dk_16 10 (dk_at dksX0_beScene_3 9 rfl rfl)
theorem dX0_beScene_83 : decode cX0_beScene 83 = .ok (.irem, 1) := dk_112 (dk_at dksX0_beScene_3 11 rfl rfl)
theorem dX0_beScene_84 : decode cX0_beScene 84 = .ok (.ior, 1) := dk_128 (dk_at dksX0_beScene_3 12 rfl rfl)
theorem dX0_beScene_85 : decode cX0_beScene 85 = .ok (.goto 20, 3) := dk_167 0 20 (dk_at dksX0_beScene_3 13 rfl rfl)
theorem dX0_beScene_88 : decode cX0_beScene 88 = .ok (.aload_n 0, 1) := dk_42 (dk_at dksX0_beScene_3 16 rfl rfl)
theorem dX0_beScene_89 : decode cX0_beScene 89 = .ok (.getfield 185, 3) := dk_180 0 185 (dk_at dksX0_beScene_3 17 rfl rfl)
theorem dX0_beScene_92 : decode cX0_beScene 92 = .ok (.iconst 1, 1) := dk_4 (dk_at dksX0_beScene_3 20 rfl rfl)
theorem dX0_beScene_93 : decode cX0_beScene 93 = .ok (.ishl, 1) := dk_120 (dk_at dksX0_beScene_3 21 rfl rfl)
theorem dX0_beScene_94 : decode cX0_beScene 94 = .ok (.aload_n 0, 1) := dk_42 (dk_at dksX0_beScene_3 22 rfl rfl)
theorem dX0_beScene_95 : decode cX0_beScene 95 = .ok (.iload_n 3, 1) := dk_29 (dk_at dksX0_beScene_3 23 rfl rfl)
theorem dX0_beScene_96 : decode cX0_beScene 96 = .ok (.iload 4, 2) := dk_21 4 (dk_at dksX0_beScene_4 0 rfl rfl)
theorem dX0_beScene_98 : decode cX0_beScene 98 = .ok (.invokevirtual 387, 3) := dk_182 1 131 (dk_at dksX0_beScene_4 2 rfl rfl)
theorem dX0_beScene_101 : decode cX0_beScene 101 = .ok (.bipush 10, 2) := dk_16 10 (dk_at dksX0_beScene_4 5 rfl rfl)
theorem dX0_beScene_103 : decode cX0_beScene 103 = .ok (.irem, 1) := dk_112 (dk_at dksX0_beScene_4 7 rfl rfl)
theorem dX0_beScene_104 : decode cX0_beScene 104 = .ok (.ior, 1) := dk_128 (dk_at dksX0_beScene_4 8 rfl rfl)
theorem dX0_beScene_105 : decode cX0_beScene 105 = .ok (.putfield 185, 3) := dk_181 0 185 (dk_at dksX0_beScene_4 9 rfl rfl)
theorem dX0_beScene_108 : decode cX0_beScene 108 = .ok (.iinc 4 1, 3) := dk_132 4 1 (dk_at dksX0_beScene_4 12 rfl rfl)
theorem dX0_beScene_111 : decode cX0_beScene 111 = .ok (.goto (-65), 3) := dk_167 255 191 (dk_at dksX0_beScene_4 15 rfl rfl)
theorem dX0_beScene_114 : decode cX0_beScene 114 = .ok (.iload_n 1, 1) := dk_27 (dk_at dksX0_beScene_4 18 rfl rfl)
theorem dX0_beScene_115 : decode cX0_beScene 115 = .ok (.aload_n 0, 1) := dk_42 (dk_at dksX0_beScene_4 19 rfl rfl)
theorem dX0_beScene_116 : decode cX0_beScene 116 = .ok (.getfield 396, 3) := dk_180 1 140 (dk_at dksX0_beScene_4 20 rfl rfl)
theorem dX0_beScene_119 : decode cX0_beScene 119 = .ok (.if_icmp .ge 16, 3) := dk_162 0 16 (dk_at dksX0_beScene_5 0 rfl rfl)
theorem dX0_beScene_122 : decode cX0_beScene 122 = .ok (.aload_n 0, 1) := dk_42 (dk_at dksX0_beScene_5 3 rfl rfl)
theorem dX0_beScene_123 : decode cX0_beScene 123 = .ok (.aload_n 0, 1) := dk_42 (dk_at dksX0_beScene_5 4 rfl rfl)
theorem dX0_beScene_124 : decode cX0_beScene 124 = .ok (.iload_n 3, 1) := dk_29 (dk_at dksX0_beScene_5 5 rfl rfl)
theorem dX0_beScene_125 : decode cX0_beScene 125 = .ok (.iload_n 1, 1) := dk_27 (dk_at dksX0_beScene_5 6 rfl rfl)
theorem dX0_beScene_126 : decode cX0_beScene 126 = .ok (.invokevirtual 387, 3) := dk_182 1 131 (dk_at dksX0_beScene_5 7 rfl rfl)
theorem dX0_beScene_129 : decode cX0_beScene 129 = .ok (.bipush 10, 2) := dk_16 10 (dk_at dksX0_beScene_5 10 rfl rfl)
theorem dX0_beScene_131 : decode cX0_beScene 131 = .ok (.irem, 1) := dk_112 (dk_at dksX0_beScene_5 12 rfl rfl)
theorem dX0_beScene_132 : decode cX0_beScene 132 = .ok (.putfield 182, 3) := dk_181 0 182 (dk_at dksX0_beScene_5 13 rfl rfl)
theorem dX0_beScene_135 : decode cX0_beScene 135 = .ok (.return_, 1) := dk_177 (dk_at dksX0_beScene_5 16 rfl rfl)
theorem gespX_0_28_X0 {p : Program} {l : Launch} {e : Env} {R : Room} {s : State} {m : MethodId} {args : Array Value} {below : List Frame} {meth : Method} {c : Code} {cc : ByteArray} {nL : Nat} {ret : Option FieldType} {D : va_G} {E : List wCell} {q : Nat → Nat} {ca : wCA} {A : Nat → Prop} {Q : State → Prop} {kc ks : Nat} {μ : wMem} {lv : List (Nat × Value)} {st : List Value} (pc : Nat) (C : wC p R s m args meth c cc "OnePassport" nL ret D vwCl (spX ++ E) q ca A) (hd : decode cc pc = .ok (.getfield 396, 3)) (k : wJ p l e R s m args below meth c nL D vwCl (spX ++ E) q ca A Q kc ks μ (pc + 3) lv (.int (μ.1 0 28) :: st)) : wJ p l e R s m args below meth c nL D vwCl (spX ++ E) q ca A Q kc ks μ pc lv (.ref (q 0) :: st) := wr_getI pc 28 C hd spX_0 rfl in_X0 (by decide) rfl q359 k
theorem okX0_beScene : wOkV yX0_beScene cX0_beScene 5 none 3 := ⟨q1127, qs61, q136, q1128, by decide, by decide, by decide +kernel⟩
def gbX0_beScene_46 (N : Nat) (c0 t n : Nat)  (x1_ : Int32) (x3_ : Int32) (K : (wMem → Option wMem)) (rec : (Int32 → wMem → Option wMem)) (x4_ : Int32) (μ : wMem) : Option wMem :=
  if x1_ ≤ x4_ then K  μ else wLet (fun (v9 : Int32) (μ8 : wMem) => wLet (wSI μ8 0 7 v9) fun μ10 => wLet (x4_ + 1 : Int32) fun x11 => rec x11 μ10) fun JbeScene105 => if (μ.1 0 7) < (8 : Int32) then wG (ok_in x4_ n) (JbeScene105 (((μ.1 0 7) <<< ((1 : Int32) &&& 31)) ||| ((Int64.toInt32 (wAt μ c0 t (Int32.toNatClampNeg x4_))) - (Int64.toInt32 (wAt μ c0 t (Int32.toNatClampNeg x4_))) / (10 : Int32) * (10 : Int32))) μ) else wG (ok_in x4_ n) (JbeScene105 (((8 : Int32) ||| (((μ.1 0 7) <<< ((1 : Int32) &&& 31)) &&& (7 : Int32))) ||| ((Int64.toInt32 (wAt μ c0 t (Int32.toNatClampNeg x4_))) - (Int64.toInt32 (wAt μ c0 t (Int32.toNatClampNeg x4_))) / (10 : Int32) * (10 : Int32))) μ)
def gX0_beScene_46 (N : Nat) (c0 t n : Nat)  (x1_ : Int32) (x3_ : Int32) (K : (wMem → Option wMem)) : Nat → (Int32 → wMem → Option wMem)
  | 0 => fun _ _ => none
  | k + 1 => gbX0_beScene_46 N c0 t n  x1_ x3_ K (gX0_beScene_46 N c0 t n  x1_ x3_ K k)
set_option maxHeartbeats 4000000 in
set_option maxRecDepth 100000 in
theorem tX0_beScene_46 {p : Program} {l : Launch} {e : Env} {s : State} {m : MethodId} {args : Array Value} {below : List Frame} {meth : Method} {c : Code} {D : va_G} {E : List wCell} {q : Nat → Nat} {ca : wCA} {A : Nat → Prop} (C : wC p ({ frames := 2, cells := 0, slots := 0, locals := 43 } : Room) s m args meth c cX0_beScene yX0_beScene.cls 5 none D vwCl (spX ++ E) q ca A) (hE : wSlots ca (spX ++ E)) (N : Nat) (c0 t n : Nat)   (x1_ : Int32) (x3_ : Int32) (hi1 : ok_in x3_ 4 = true) (hb : (spX ++ E)[24 + x3_.toNatClampNeg]? = some (.inl (5, [(2, c0)]))) (hr : wRow (spX ++ E) c0 t n) (K : (wMem → Option wMem)) (r0 : wMem) (hK : ∀  (μ : wMem), K  μ = some r0 → wJ p l e ({ frames := 2, cells := 0, slots := 0, locals := 43 } : Room) s m args below meth c 5 D vwCl (spX ++ E) q ca A (wQv ({ frames := 2, cells := 0, slots := 0, locals := 43 } : Room) D vwCl (spX ++ E) q ca below args s A r0) 0 0 μ 114 [(0, .ref (q 0)), (1, .int x1_), (3, .int x3_)] []) : ∀ (k : Nat) (x4_ : Int32) (μ : wMem), gX0_beScene_46 N c0 t n  x1_ x3_ K k x4_ μ = some r0 → wJ p l e ({ frames := 2, cells := 0, slots := 0, locals := 43 } : Room) s m args below meth c 5 D vwCl (spX ++ E) q ca A (wQv ({ frames := 2, cells := 0, slots := 0, locals := 43 } : Room) D vwCl (spX ++ E) q ca below args s A r0) 0 0 μ 46 [(0, .ref (q 0)), (1, .int x1_), (3, .int x3_), (4, .int x4_)] [] := by
  intro k
  induction k with
  | zero =>
    intro x4_ μ hf
    cases hf
  | succ k ih =>
    intro x4_ μ hf
    replace hf : gbX0_beScene_46 N c0 t n  x1_ x3_ K (gX0_beScene_46 N c0 t n  x1_ x3_ K k) x4_ μ = some r0 := hf
    unfold gbX0_beScene_46 at hf
    refine wr_iload 46 C dX0_beScene_46 3 rfl ?_
    refine wr_iload_n 48 C dX0_beScene_48 1 rfl rfl ?_
    refine wr_icmp_ge 49 114 C dX0_beScene_49 (by decide) (fun c7 => ?_) (fun c7 => ?_)
    · replace hf := o_pos c7 hf
      refine wr_sub [(0, .ref (q 0)), (1, .int x1_), (3, .int x3_)] [0, 1, 2] rfl ?_
      exact hK  μ hf
    · replace hf := o_neg c7 hf
      refine wr_aload_n 52 C dX0_beScene_52 0 rfl rfl ?_
      refine wr_aload_n 53 C dX0_beScene_53 0 rfl rfl ?_
      refine gespX_0_7_X0 54 C dX0_beScene_54 ?_
      refine wr_bipush 57 C dX0_beScene_57 (v := 8) rfl ?_
      obtain ⟨JbeScene105, eJbeScene105, hf⟩ := o_let hf
      have hJbeScene105 : ∀ (v9 : Int32) (μ8 : wMem), JbeScene105 v9 μ8 = some r0 → wJ p l e ({ frames := 2, cells := 0, slots := 0, locals := 43 } : Room) s m args below meth c 5 D vwCl (spX ++ E) q ca A (wQv ({ frames := 2, cells := 0, slots := 0, locals := 43 } : Room) D vwCl (spX ++ E) q ca below args s A r0) 0 0 μ8 105 [(0, .ref (q 0)), (1, .int x1_), (3, .int x3_), (4, .int x4_)] [.int v9, .ref (q 0)] := by
        intro v9 μ8 hf
        rw [eJbeScene105] at hf
        obtain ⟨μ10, eμ10, hf⟩ := o_let hf
        refine puspX_0_7_X0 105 C dX0_beScene_105 eμ10 ?_
        obtain ⟨x11, ex11, hf⟩ := o_let hf
        refine wr_iinc 108 [(4, .int x11), (0, .ref (q 0)), (1, .int x1_), (3, .int x3_)] C dX0_beScene_108 3 rfl (ex11.trans rfl) (Nat.le_of_ble_eq_true rfl) rfl ?_
        refine wr_goto 111 C dX0_beScene_111 (tgt := 46) (by decide) ?_
        refine wr_sub [(0, .ref (q 0)), (1, .int x1_), (3, .int x3_), (4, .int x11)] [1, 2, 3, 0] rfl ?_
        exact ih x11 μ10 hf
      refine wr_icmp_lt 59 88 C dX0_beScene_59 (by decide) (fun c12 => ?_) (fun c12 => ?_)
      · replace hf := o_pos c12 hf
        refine wr_aload_n 88 C dX0_beScene_88 0 rfl rfl ?_
        refine gespX_0_7_X0 89 C dX0_beScene_89 ?_
        refine wr_iconst 92 C dX0_beScene_92 (v := 1) rfl ?_
        refine wr_ishl 93 C dX0_beScene_93 ?_
        refine wr_aload_n 94 C dX0_beScene_94 0 rfl rfl ?_
        refine wr_iload_n 95 C dX0_beScene_95 2 rfl rfl ?_
        refine wr_iload 96 C dX0_beScene_96 3 rfl ?_
        obtain ⟨g13, hf⟩ := o_g hf
        refine wr_Vi (kc1 := 0) (ks1 := 0) (As := [.int x3_, .int x4_]) 98 [.int ((μ.1 0 7) <<< ((1 : Int32) &&& 31)), .ref (q 0)] C dX0_beScene_98 (tX0_number l hE hi1 hb hr g13 μ) okX0_number q1078 (b := 0) spX_0 rfl ⟨rfl, rfl, Nat.le_of_ble_eq_true rfl, Nat.le_of_ble_eq_true rfl, Nat.zero_le _, Nat.zero_le _⟩ (Nat.le_of_ble_eq_true rfl) rfl ?_
        refine wr_bipush 101 C dX0_beScene_101 (v := 10) rfl ?_
        refine wr_irem 103 C dX0_beScene_103 (by decide) ?_
        refine wr_ior 104 C dX0_beScene_104 ?_
        exact hJbeScene105 (((μ.1 0 7) <<< ((1 : Int32) &&& 31)) ||| ((Int64.toInt32 (wAt μ c0 t (Int32.toNatClampNeg x4_))) - (Int64.toInt32 (wAt μ c0 t (Int32.toNatClampNeg x4_))) / (10 : Int32) * (10 : Int32))) μ hf
      · replace hf := o_neg c12 hf
        refine wr_bipush 62 C dX0_beScene_62 (v := 8) rfl ?_
        refine wr_aload_n 64 C dX0_beScene_64 0 rfl rfl ?_
        refine gespX_0_7_X0 65 C dX0_beScene_65 ?_
        refine wr_iconst 68 C dX0_beScene_68 (v := 1) rfl ?_
        refine wr_ishl 69 C dX0_beScene_69 ?_
        refine wr_bipush 70 C dX0_beScene_70 (v := 7) rfl ?_
        refine wr_iand 72 C dX0_beScene_72 ?_
        refine wr_ior 73 C dX0_beScene_73 ?_
        refine wr_aload_n 74 C dX0_beScene_74 0 rfl rfl ?_
        refine wr_iload_n 75 C dX0_beScene_75 2 rfl rfl ?_
        refine wr_iload 76 C dX0_beScene_76 3 rfl ?_
        obtain ⟨g14, hf⟩ := o_g hf
        refine wr_Vi (kc1 := 0) (ks1 := 0) (As := [.int x3_, .int x4_]) 78 [.int ((8 : Int32) ||| (((μ.1 0 7) <<< ((1 : Int32) &&& 31)) &&& (7 : Int32))), .ref (q 0)] C dX0_beScene_78 (tX0_number l hE hi1 hb hr g14 μ) okX0_number q1078 (b := 0) spX_0 rfl ⟨rfl, rfl, Nat.le_of_ble_eq_true rfl, Nat.le_of_ble_eq_true rfl, Nat.zero_le _, Nat.zero_le _⟩ (Nat.le_of_ble_eq_true rfl) rfl ?_
        refine wr_bipush 81 C dX0_beScene_81 (v := 10) rfl ?_
        refine wr_irem 83 C dX0_beScene_83 (by decide) ?_
        refine wr_ior 84 C dX0_beScene_84 ?_
        refine wr_goto 85 C dX0_beScene_85 (tgt := 105) (by decide) ?_
        exact hJbeScene105 (((8 : Int32) ||| (((μ.1 0 7) <<< ((1 : Int32) &&& 31)) &&& (7 : Int32))) ||| ((Int64.toInt32 (wAt μ c0 t (Int32.toNatClampNeg x4_))) - (Int64.toInt32 (wAt μ c0 t (Int32.toNatClampNeg x4_))) / (10 : Int32) * (10 : Int32))) μ hf
def fX0_beScene (N : Nat) (c0 t n : Nat)  (a1 : Int32) (a2 : Int32) (a3 : Int32) (μ : wMem) : Option wMem :=
  wLet (wSI μ 0 5 ((a2 / (7 : Int32)) / (7 : Int32))) fun μ1 => wG (ok_in (0 : Int32) 2) (wLet (wSI μ1 9 (Int32.toNatClampNeg (0 : Int32)) (((a2 / (7 : Int32)) - (a2 / (7 : Int32)) / (7 : Int32) * (7 : Int32)) - (1 : Int32))) fun μ3 => wG (ok_in (1 : Int32) 2) (wLet (wSI μ3 9 (Int32.toNatClampNeg (1 : Int32)) ((a2 - a2 / (7 : Int32) * (7 : Int32)) - (1 : Int32))) fun μ5 => wLet (wSI μ5 0 7 (1 : Int32)) fun μ6 => gX0_beScene_46 N c0 t n  a1 a3 (fun  (μ15 : wMem) => if (μ15.1 0 28) ≤ a1 then some μ15 else wG (ok_in a1 n) (wLet (wSI μ15 0 6 ((Int64.toInt32 (wAt μ15 c0 t (Int32.toNatClampNeg a1))) - (Int64.toInt32 (wAt μ15 c0 t (Int32.toNatClampNeg a1))) / (10 : Int32) * (10 : Int32))) fun μ18 => some μ18)) N 0 μ6))
set_option maxHeartbeats 4000000 in
set_option maxRecDepth 100000 in
theorem tX0_beScene (l : Launch) {D : va_G} {E : List wCell} {q : Nat → Nat} {ca : wCA} (hE : wSlots ca (spX ++ E)) (N : Nat) (c0 t n : Nat)   (a1 : Int32) (a2 : Int32) (a3 : Int32) (μ : wMem) (r0 : wMem) (hi1 : ok_in a3 4 = true) (hb : (spX ++ E)[24 + a3.toNatClampNeg]? = some (.inl (5, [(2, c0)]))) (hr : wRow (spX ++ E) c0 t n) (hf : fX0_beScene N c0 t n  a1 a2 a3 μ = some r0) : wMv l yX0_beScene cX0_beScene 5 none ({ frames := 2, cells := 0, slots := 0, locals := 43 } : Room) D vwCl (spX ++ E) q ca [.ref (q 0), .int a1, .int a2, .int a3] μ r0 := by
  refine wMv_intro (by decide) (Nat.le_of_ble_eq_true rfl) ?_
  intro p e s m args below meth c A C
  unfold fX0_beScene at hf
  refine wr_sub [(0, .ref (q 0)), (1, .int a1), (2, .int a2), (3, .int a3)] [0, 1, 2, 3] rfl ?_
  refine wr_aload_n 0 C dX0_beScene_0 0 rfl rfl ?_
  refine wr_iload_n 1 C dX0_beScene_1 2 rfl rfl ?_
  refine wr_bipush 2 C dX0_beScene_2 (v := 7) rfl ?_
  refine wr_idiv 4 C dX0_beScene_4 (by decide) ?_
  refine wr_bipush 5 C dX0_beScene_5 (v := 7) rfl ?_
  refine wr_idiv 7 C dX0_beScene_7 (by decide) ?_
  obtain ⟨μ1, eμ1, hf⟩ := o_let hf
  refine puspX_0_5_X0 8 C dX0_beScene_8 eμ1 ?_
  refine wr_aload_n 11 C dX0_beScene_11 0 rfl rfl ?_
  refine gespX_0_8_X0 12 C dX0_beScene_12 ?_
  refine wr_iconst 15 C dX0_beScene_15 (v := 0) rfl ?_
  refine wr_iload_n 16 C dX0_beScene_16 2 rfl rfl ?_
  refine wr_bipush 17 C dX0_beScene_17 (v := 7) rfl ?_
  refine wr_idiv 19 C dX0_beScene_19 (by decide) ?_
  refine wr_bipush 20 C dX0_beScene_20 (v := 7) rfl ?_
  refine wr_irem 22 C dX0_beScene_22 (by decide) ?_
  refine wr_iconst 23 C dX0_beScene_23 (v := 1) rfl ?_
  refine wr_isub 24 C dX0_beScene_24 ?_
  obtain ⟨g2, hf⟩ := o_g hf
  obtain ⟨μ3, eμ3, hf⟩ := o_let hf
  refine wr_iast 25 C dX0_beScene_25 spX_9 g2 eμ3 ?_
  refine wr_aload_n 26 C dX0_beScene_26 0 rfl rfl ?_
  refine gespX_0_8_X0 27 C dX0_beScene_27 ?_
  refine wr_iconst 30 C dX0_beScene_30 (v := 1) rfl ?_
  refine wr_iload_n 31 C dX0_beScene_31 2 rfl rfl ?_
  refine wr_bipush 32 C dX0_beScene_32 (v := 7) rfl ?_
  refine wr_irem 34 C dX0_beScene_34 (by decide) ?_
  refine wr_iconst 35 C dX0_beScene_35 (v := 1) rfl ?_
  refine wr_isub 36 C dX0_beScene_36 ?_
  obtain ⟨g4, hf⟩ := o_g hf
  obtain ⟨μ5, eμ5, hf⟩ := o_let hf
  refine wr_iast 37 C dX0_beScene_37 spX_9 g4 eμ5 ?_
  refine wr_aload_n 38 C dX0_beScene_38 0 rfl rfl ?_
  refine wr_iconst 39 C dX0_beScene_39 (v := 1) rfl ?_
  obtain ⟨μ6, eμ6, hf⟩ := o_let hf
  refine puspX_0_7_X0 40 C dX0_beScene_40 eμ6 ?_
  refine wr_iconst 43 C dX0_beScene_43 (v := 0) rfl ?_
  refine wr_istore 44 [(4, .int 0), (0, .ref (q 0)), (1, .int a1), (2, .int a2), (3, .int a3)] C dX0_beScene_44 rfl (Nat.le_of_ble_eq_true rfl) rfl ?_
  refine wr_sub [(0, .ref (q 0)), (1, .int a1), (3, .int a3), (4, .int 0)] [1, 2, 4, 0] rfl ?_
  refine tX0_beScene_46 C hE N c0 t n   a1 a3 hi1 hb hr _ r0 (fun  μ15 hf => ?_) N 0 μ6 hf
  · replace hf := hf
    refine wr_iload_n 114 C dX0_beScene_114 1 rfl rfl ?_
    refine wr_aload_n 115 C dX0_beScene_115 0 rfl rfl ?_
    refine gespX_0_28_X0 116 C dX0_beScene_116 ?_
    refine wr_icmp_ge 119 135 C dX0_beScene_119 (by decide) (fun c16 => ?_) (fun c16 => ?_)
    · replace hf := o_pos c16 hf
      exact wr_vret 135 C dX0_beScene_135 ⟨Nat.zero_le _, Nat.zero_le _⟩ (Option.some.inj hf)
    · replace hf := o_neg c16 hf
      refine wr_aload_n 122 C dX0_beScene_122 0 rfl rfl ?_
      refine wr_aload_n 123 C dX0_beScene_123 0 rfl rfl ?_
      refine wr_iload_n 124 C dX0_beScene_124 2 rfl rfl ?_
      refine wr_iload_n 125 C dX0_beScene_125 1 rfl rfl ?_
      obtain ⟨g17, hf⟩ := o_g hf
      refine wr_Vi (kc1 := 0) (ks1 := 0) (As := [.int a3, .int a1]) 126 [.ref (q 0)] C dX0_beScene_126 (tX0_number l hE hi1 hb hr g17 μ15) okX0_number q1078 (b := 0) spX_0 rfl ⟨rfl, rfl, Nat.le_of_ble_eq_true rfl, Nat.le_of_ble_eq_true rfl, Nat.zero_le _, Nat.zero_le _⟩ (Nat.le_of_ble_eq_true rfl) rfl ?_
      refine wr_bipush 129 C dX0_beScene_129 (v := 10) rfl ?_
      refine wr_irem 131 C dX0_beScene_131 (by decide) ?_
      obtain ⟨μ18, eμ18, hf⟩ := o_let hf
      refine puspX_0_6_X0 132 C dX0_beScene_132 eμ18 ?_
      exact wr_vret 135 C dX0_beScene_135 ⟨Nat.zero_le _, Nat.zero_le _⟩ (Option.some.inj hf)
abbrev cX0_goesOn : ByteArray := prog_1_method_99_code
def yX0_goesOn : MethodName := ⟨RX0, "goesOn", "(III)V"⟩
def dkwX0_goesOn_5 : List UInt8 := [184, 0, 204, 21, 4, 184, 0, 198, 182, 0, 149, 96, 184, 1, 168, 79, 132, 4, 1, 167, 255, 130, 177]
abbrev dktX0_goesOn_5 : List UInt8 := dkwX0_goesOn_5 ++ []
def dkwX0_goesOn_4 : List UInt8 := [21, 5, 42, 180, 0, 73, 21, 5, 46, 42, 180, 0, 73, 28, 29, 184, 1, 146, 46, 42, 21, 4]
abbrev dktX0_goesOn_4 : List UInt8 := dkwX0_goesOn_4 ++ dktX0_goesOn_5
def dkwX0_goesOn_3 : List UInt8 := [180, 0, 69, 21, 5, 92, 47, 42, 180, 0, 69, 28, 29, 184, 1, 146, 47, 97, 80, 42, 180, 0, 73]
abbrev dktX0_goesOn_3 : List UInt8 := dkwX0_goesOn_3 ++ dktX0_goesOn_4
def dkwX0_goesOn_2 : List UInt8 := [167, 0, 83, 42, 21, 4, 182, 0, 243, 28, 4, 96, 42, 182, 1, 143, 184, 1, 146, 54, 5, 42]
abbrev dktX0_goesOn_2 : List UInt8 := dkwX0_goesOn_2 ++ dktX0_goesOn_3
def dkwX0_goesOn_1 : List UInt8 := [29, 27, 182, 1, 165, 42, 21, 4, 133, 182, 1, 18, 153, 0, 95, 42, 21, 4, 182, 1, 22, 154, 0, 6]
abbrev dktX0_goesOn_1 : List UInt8 := dkwX0_goesOn_1 ++ dktX0_goesOn_2
def dkwX0_goesOn_0 : List UInt8 := [42, 27, 28, 182, 1, 162, 54, 4, 21, 4, 42, 27, 28, 182, 1, 162, 16, 100, 96, 162, 0, 118, 42, 28]
abbrev dktX0_goesOn_0 : List UInt8 := dkwX0_goesOn_0 ++ dktX0_goesOn_1
theorem dksX0_goesOn_0 : cX0_goesOn.data.toList.drop 0 = dktX0_goesOn_0 := by decide +kernel
theorem dksX0_goesOn_1 : cX0_goesOn.data.toList.drop 24 = dktX0_goesOn_1 := dk_seg dksX0_goesOn_0 24 rfl rfl
theorem dksX0_goesOn_2 : cX0_goesOn.data.toList.drop 48 = dktX0_goesOn_2 := dk_seg dksX0_goesOn_1 24 rfl rfl
theorem dksX0_goesOn_3 : cX0_goesOn.data.toList.drop 70 = dktX0_goesOn_3 := dk_seg dksX0_goesOn_2 22 rfl rfl
theorem dksX0_goesOn_4 : cX0_goesOn.data.toList.drop 93 = dktX0_goesOn_4 := dk_seg dksX0_goesOn_3 23 rfl rfl
theorem dksX0_goesOn_5 : cX0_goesOn.data.toList.drop 115 = dktX0_goesOn_5 := dk_seg dksX0_goesOn_4 22 rfl rfl
theorem dX0_goesOn_0 : decode cX0_goesOn 0 = .ok (.aload_n 0, 1) := dk_42 (dk_at dksX0_goesOn_0 0 rfl rfl)
theorem dX0_goesOn_1 : decode cX0_goesOn 1 = .ok (.iload_n 1, 1) := dk_27 (dk_at dksX0_goesOn_0 1 rfl rfl)
theorem dX0_goesOn_2 : decode cX0_goesOn 2 = .ok (.iload_n 2, 1) := dk_28 (dk_at dksX0_goesOn_0 2 rfl rfl)
theorem dX0_goesOn_3 : decode cX0_goesOn 3 = .ok (.invokevirtual 418, 3) := dk_182 1 162 (dk_at dksX0_goesOn_0 3 rfl rfl)
theorem dX0_goesOn_6 : decode cX0_goesOn 6 = .ok (.istore 4, 2) := dk_54 4 (dk_at dksX0_goesOn_0 6 rfl rfl)
theorem dX0_goesOn_8 : decode cX0_goesOn 8 = .ok (.iload 4, 2) := dk_21 4 (dk_at dksX0_goesOn_0 8 rfl rfl)
theorem dX0_goesOn_10 : decode cX0_goesOn 10 = .ok (.aload_n 0, 1) := dk_42 (dk_at dksX0_goesOn_0 10 rfl rfl)
theorem dX0_goesOn_11 : decode cX0_goesOn 11 = .ok (.iload_n 1, 1) := dk_27 (dk_at dksX0_goesOn_0 11 rfl rfl)
theorem dX0_goesOn_12 : decode cX0_goesOn 12 = .ok (.iload_n 2, 1) := dk_28 (dk_at dksX0_goesOn_0 12 rfl rfl)
theorem dX0_goesOn_13 : decode cX0_goesOn 13 = .ok (.invokevirtual 418, 3) := dk_182 1 162 (dk_at dksX0_goesOn_0 13 rfl rfl)
theorem dX0_goesOn_16 : decode cX0_goesOn 16 = .ok (.bipush 100, 2) := dk_16 100 (dk_at dksX0_goesOn_0 16 rfl rfl)
theorem dX0_goesOn_18 : decode cX0_goesOn 18 = .ok (.iadd, 1) := dk_96 (dk_at dksX0_goesOn_0 18 rfl rfl)
theorem dX0_goesOn_19 : decode cX0_goesOn 19 = .ok (.if_icmp .ge 118, 3) := dk_162 0 118 (dk_at dksX0_goesOn_0 19 rfl rfl)
theorem dX0_goesOn_22 : decode cX0_goesOn 22 = .ok (.aload_n 0, 1) := dk_42 (dk_at dksX0_goesOn_0 22 rfl rfl)
theorem dX0_goesOn_23 : decode cX0_goesOn 23 = .ok (.iload_n 2, 1) := dk_28 (dk_at dksX0_goesOn_0 23 rfl rfl)
theorem dX0_goesOn_24 : decode cX0_goesOn 24 = .ok (.iload_n 3, 1) := dk_29 (dk_at dksX0_goesOn_1 0 rfl rfl)
theorem dX0_goesOn_25 : decode cX0_goesOn 25 = .ok (.iload_n 1, 1) := dk_27 (dk_at dksX0_goesOn_1 1 rfl rfl)
theorem dX0_goesOn_26 : decode cX0_goesOn 26 = .ok (.invokevirtual 421, 3) := dk_182 1 165 (dk_at dksX0_goesOn_1 2 rfl rfl)
theorem dX0_goesOn_29 : decode cX0_goesOn 29 = .ok (.aload_n 0, 1) := dk_42 (dk_at dksX0_goesOn_1 5 rfl rfl)
theorem dX0_goesOn_30 : decode cX0_goesOn 30 = .ok (.iload 4, 2) := dk_21 4 (dk_at dksX0_goesOn_1 6 rfl rfl)
theorem dX0_goesOn_32 : decode cX0_goesOn 32 = .ok (.i2l, 1) := dk_133 (dk_at dksX0_goesOn_1 8 rfl rfl)
theorem dX0_goesOn_33 : decode cX0_goesOn 33 = .ok (.invokevirtual 274, 3) := dk_182 1 18 (dk_at dksX0_goesOn_1 9 rfl rfl)
theorem dX0_goesOn_36 : decode cX0_goesOn 36 = .ok (.ifCond .eq 95, 3) := dk_153 0 95 (dk_at dksX0_goesOn_1 12 rfl rfl)
theorem dX0_goesOn_39 : decode cX0_goesOn 39 = .ok (.aload_n 0, 1) := dk_42 (dk_at dksX0_goesOn_1 15 rfl rfl)
theorem dX0_goesOn_40 : decode cX0_goesOn 40 = .ok (.iload 4, 2) := dk_21 4 (dk_at dksX0_goesOn_1 16 rfl rfl)
theorem dX0_goesOn_42 : decode cX0_goesOn 42 = .ok (.invokevirtual 278, 3) := dk_182 1 22 (dk_at dksX0_goesOn_1 18 rfl rfl)
theorem dX0_goesOn_45 : decode cX0_goesOn 45 = .ok (.ifCond .ne 6, 3) := dk_154 0 6 (dk_at dksX0_goesOn_1 21 rfl rfl)
theorem dX0_goesOn_48 : decode cX0_goesOn 48 = .ok (.goto 83, 3) := dk_167 0 83 (dk_at dksX0_goesOn_2 0 rfl rfl)
theorem dX0_goesOn_51 : decode cX0_goesOn 51 = .ok (.aload_n 0, 1) := dk_42 (dk_at dksX0_goesOn_2 3 rfl rfl)
theorem dX0_goesOn_52 : decode cX0_goesOn 52 = .ok (.iload 4, 2) := dk_21 4 (dk_at dksX0_goesOn_2 4 rfl rfl)
theorem dX0_goesOn_54 : decode cX0_goesOn 54 = .ok (.invokevirtual 243, 3) := dk_182 0 243 (dk_at dksX0_goesOn_2 6 rfl rfl)
theorem dX0_goesOn_57 : decode cX0_goesOn 57 = .ok (.iload_n 2, 1) := dk_28 (dk_at dksX0_goesOn_2 9 rfl rfl)
theorem dX0_goesOn_58 : decode cX0_goesOn 58 = .ok (.iconst 1, 1) := dk_4 (dk_at dksX0_goesOn_2 10 rfl rfl)
theorem dX0_goesOn_59 : decode cX0_goesOn 59 = .ok (.iadd, 1) := dk_96 (dk_at dksX0_goesOn_2 11 rfl rfl)
theorem dX0_goesOn_60 : decode cX0_goesOn 60 = .ok (.aload_n 0, 1) := dk_42 (dk_at dksX0_goesOn_2 12 rfl rfl)
theorem dX0_goesOn_61 : decode cX0_goesOn 61 = .ok (.invokevirtual 399, 3) := dk_182 1 143 (dk_at dksX0_goesOn_2 13 rfl rfl)
theorem dX0_goesOn_64 : decode cX0_goesOn 64 = .ok (.invokestatic 402, 3) := dk_184 1 146 (dk_at dksX0_goesOn_2 16 rfl rfl)
theorem dX0_goesOn_67 : decode cX0_goesOn 67 = .ok (.istore 5, 2) := dk_54 5 (dk_at dksX0_goesOn_2 19 rfl rfl)
theorem dX0_goesOn_69 : decode cX0_goesOn 69 = .ok (.aload_n 0, 1) := dk_42 (dk_at dksX0_goesOn_2 21 rfl rfl)
theorem dX0_goesOn_70 : decode cX0_goesOn 70 = .ok (.getfield 69, 3) := dk_180 0 69 (dk_at dksX0_goesOn_3 0 rfl rfl)
theorem dX0_goesOn_73 : decode cX0_goesOn 73 = .ok (.iload 5, 2) := dk_21 5 (dk_at dksX0_goesOn_3 3 rfl rfl)
theorem dX0_goesOn_75 : decode cX0_goesOn 75 = .ok (.dup2, 1) := dk_92 (dk_at dksX0_goesOn_3 5 rfl rfl)
theorem dX0_goesOn_76 : decode cX0_goesOn 76 = .ok (.laload, 1) := dk_47 (dk_at dksX0_goesOn_3 6 rfl rfl)
theorem dX0_goesOn_77 : decode cX0_goesOn 77 = .ok (.aload_n 0, 1) := dk_42 (dk_at dksX0_goesOn_3 7 rfl rfl)
theorem dX0_goesOn_78 : decode cX0_goesOn 78 = .ok (.getfield 69, 3) := dk_180 0 69 (dk_at dksX0_goesOn_3 8 rfl rfl)
theorem dX0_goesOn_81 : decode cX0_goesOn 81 = .ok (.iload_n 2, 1) := dk_28 (dk_at dksX0_goesOn_3 11 rfl rfl)
theorem dX0_goesOn_82 : decode cX0_goesOn 82 = .ok (.iload_n 3, 1) := dk_29 (dk_at dksX0_goesOn_3 12 rfl rfl)
theorem dX0_goesOn_83 : decode cX0_goesOn 83 = .ok (.invokestatic 402, 3) := dk_184 1 146 (dk_at dksX0_goesOn_3 13 rfl rfl)
theorem dX0_goesOn_86 : decode cX0_goesOn 86 = .ok (.laload, 1) := dk_47 (dk_at dksX0_goesOn_3 16 rfl rfl)
theorem dX0_goesOn_87 : decode cX0_goesOn 87 = .ok (.ladd, 1) := dk_97 (dk_at dksX0_goesOn_3 17 rfl rfl)
theorem dX0_goesOn_88 : decode cX0_goesOn 88 = .ok (.lastore, 1) := dk_80 (dk_at dksX0_goesOn_3 18 rfl rfl)
theorem dX0_goesOn_89 : decode cX0_goesOn 89 = .ok (.aload_n 0, 1) := dk_42 (dk_at dksX0_goesOn_3 19 rfl rfl)
theorem dX0_goesOn_90 : decode cX0_goesOn 90 = .ok (.getfield 73, 3) := dk_180 0 73 (dk_at dksX0_goesOn_3 20 rfl rfl)
theorem dX0_goesOn_93 : decode cX0_goesOn 93 = .ok (.iload 5, 2) := dk_21 5 (dk_at dksX0_goesOn_4 0 rfl rfl)
theorem dX0_goesOn_95 : decode cX0_goesOn 95 = .ok (.aload_n 0, 1) := dk_42 (dk_at dksX0_goesOn_4 2 rfl rfl)
theorem dX0_goesOn_96 : decode cX0_goesOn 96 = .ok (.getfield 73, 3) := dk_180 0 73 (dk_at dksX0_goesOn_4 3 rfl rfl)
theorem dX0_goesOn_99 : decode cX0_goesOn 99 = .ok (.iload 5, 2) := dk_21 5 (dk_at dksX0_goesOn_4 6 rfl rfl)
theorem dX0_goesOn_101 : decode cX0_goesOn 101 = .ok (.iaload, 1) := dk_46 (dk_at dksX0_goesOn_4 8 rfl rfl)
theorem dX0_goesOn_102 : decode cX0_goesOn 102 = .ok (.aload_n 0, 1) := dk_42 (dk_at dksX0_goesOn_4 9 rfl rfl)
theorem dX0_goesOn_103 : decode cX0_goesOn 103 = .ok (.getfield 73, 3) := dk_180 0 73 (dk_at dksX0_goesOn_4 10 rfl rfl)
theorem dX0_goesOn_106 : decode cX0_goesOn 106 = .ok (.iload_n 2, 1) := dk_28 (dk_at dksX0_goesOn_4 13 rfl rfl)
theorem dX0_goesOn_107 : decode cX0_goesOn 107 = .ok (.iload_n 3, 1) := dk_29 (dk_at dksX0_goesOn_4 14 rfl rfl)
theorem dX0_goesOn_108 : decode cX0_goesOn 108 = .ok (.invokestatic 402, 3) := dk_184 1 146 (dk_at dksX0_goesOn_4 15 rfl rfl)
theorem dX0_goesOn_111 : decode cX0_goesOn 111 = .ok (.iaload, 1) := dk_46 (dk_at dksX0_goesOn_4 18 rfl rfl)
theorem dX0_goesOn_112 : decode cX0_goesOn 112 = .ok (.aload_n 0, 1) := dk_42 (dk_at dksX0_goesOn_4 19 rfl rfl)
theorem dX0_goesOn_113 : decode cX0_goesOn 113 = .ok (.iload 4, 2) := dk_21 4 (dk_at dksX0_goesOn_4 20 rfl rfl)
theorem dX0_goesOn_115 : decode cX0_goesOn 115 = .ok (.invokestatic 204, 3) := dk_184 0 204 (dk_at dksX0_goesOn_5 0 rfl rfl)
theorem dX0_goesOn_118 : decode cX0_goesOn 118 = .ok (.iload 4, 2) := dk_21 4 (dk_at dksX0_goesOn_5 3 rfl rfl)
theorem dX0_goesOn_120 : decode cX0_goesOn 120 = .ok (.invokestatic 198, 3) := dk_184 0 198 (dk_at dksX0_goesOn_5 5 rfl rfl)
theorem dX0_goesOn_123 : decode cX0_goesOn 123 = .ok (.invokevirtual 149, 3) := dk_182 0 149 (dk_at dksX0_goesOn_5 8 rfl rfl)
theorem dX0_goesOn_126 : decode cX0_goesOn 126 = .ok (.iadd, 1) := dk_96 (dk_at dksX0_goesOn_5 11 rfl rfl)
theorem dX0_goesOn_127 : decode cX0_goesOn 127 = .ok (.invokestatic 424, 3) := dk_184 1 168 (dk_at dksX0_goesOn_5 12 rfl rfl)
theorem dX0_goesOn_130 : decode cX0_goesOn 130 = .ok (.iastore, 1) := dk_79 (dk_at dksX0_goesOn_5 15 rfl rfl)
theorem dX0_goesOn_131 : decode cX0_goesOn 131 = .ok (.iinc 4 1, 3) := dk_132 4 1 (dk_at dksX0_goesOn_5 16 rfl rfl)
theorem dX0_goesOn_134 : decode cX0_goesOn 134 = .ok (.goto (-126), 3) := dk_167 255 130 (dk_at dksX0_goesOn_5 19 rfl rfl)
theorem dX0_goesOn_137 : decode cX0_goesOn 137 = .ok (.return_, 1) := dk_177 (dk_at dksX0_goesOn_5 22 rfl rfl)
theorem gespX_0_24_X0 {p : Program} {l : Launch} {e : Env} {R : Room} {s : State} {m : MethodId} {args : Array Value} {below : List Frame} {meth : Method} {c : Code} {cc : ByteArray} {nL : Nat} {ret : Option FieldType} {D : va_G} {E : List wCell} {q : Nat → Nat} {ca : wCA} {A : Nat → Prop} {Q : State → Prop} {kc ks : Nat} {μ : wMem} {lv : List (Nat × Value)} {st : List Value} (pc : Nat) (C : wC p R s m args meth c cc "OnePassport" nL ret D vwCl (spX ++ E) q ca A) (hd : decode cc pc = .ok (.getfield 69, 3)) (k : wJ p l e R s m args below meth c nL D vwCl (spX ++ E) q ca A Q kc ks μ (pc + 3) lv (.ref (q 15) :: st)) : wJ p l e R s m args below meth c nL D vwCl (spX ++ E) q ca A Q kc ks μ pc lv (.ref (q 0) :: st) := wr_getR pc 24 C hd spX_0 rfl in_X0 (by decide) rfl q355 k
theorem gespX_0_25_X0 {p : Program} {l : Launch} {e : Env} {R : Room} {s : State} {m : MethodId} {args : Array Value} {below : List Frame} {meth : Method} {c : Code} {cc : ByteArray} {nL : Nat} {ret : Option FieldType} {D : va_G} {E : List wCell} {q : Nat → Nat} {ca : wCA} {A : Nat → Prop} {Q : State → Prop} {kc ks : Nat} {μ : wMem} {lv : List (Nat × Value)} {st : List Value} (pc : Nat) (C : wC p R s m args meth c cc "OnePassport" nL ret D vwCl (spX ++ E) q ca A) (hd : decode cc pc = .ok (.getfield 73, 3)) (k : wJ p l e R s m args below meth c nL D vwCl (spX ++ E) q ca A Q kc ks μ (pc + 3) lv (.ref (q 16) :: st)) : wJ p l e R s m args below meth c nL D vwCl (spX ++ E) q ca A Q kc ks μ pc lv (.ref (q 0) :: st) := wr_getR pc 25 C hd spX_0 rfl in_X0 (by decide) rfl q356 k
theorem okX0_goesOn : wOkV yX0_goesOn cX0_goesOn 6 none 3 := ⟨q1119, qs59, q136, q1120, by decide, by decide, by decide +kernel⟩
def gbX0_goesOn_8 (N : Nat) (c0 t n : Nat)  (x1_ : Int32) (x2_ : Int32) (x3_ : Int32) (K : (wMem → Option wMem)) (rec : (Int32 → wMem → Option wMem)) (x4_ : Int32) (μ : wMem) : Option wMem :=
  wBind (fX0_firstBy N c0 t n x1_ x2_ μ) fun v6 μ5 => if (v6 + (100 : Int32)) ≤ x4_ then K  μ5 else wBindV (fX0_beScene N c0 t n x2_ x3_ x1_ μ5) fun μ9 => wBind (fX0_isAct N  (Int32.toInt64 x4_) μ9) fun v12 μ11 => wLet (fun  (μ13 : wMem) => wLet (x4_ + 1 : Int32) fun x14 => rec x14 μ13) fun JgoesOn131 => if v12 = 0 then JgoesOn131  μ11 else wBind (fX0_can N  x4_ μ11) fun v18 μ17 => if v18 = 0 then JgoesOn131  μ17 else wBindV (fX0_does N  x4_ μ17) fun μ21 => wBind (fX0_scene N   μ21) fun v24 μ23 => wBind (fX0_spot N  (x2_ + (1 : Int32)) v24 μ23) fun v27 μ26 => wG (ok_in v27 40768) (wBind (fX0_spot N  x2_ x3_ μ26) fun v31 μ30 => wG (ok_in v31 40768) (wG (ok_in v27 40768) (wLet (wSL μ30 15 (Int32.toNatClampNeg v27) ((μ26.2 15 (Int32.toNatClampNeg v27)) + (μ30.2 15 (Int32.toNatClampNeg v31)))) fun μ34 => wG (ok_in v27 40768) (wBind (fX0_spot N  x2_ x3_ μ34) fun v38 μ37 => wG (ok_in v38 40768) (wBind (fX0_personIn N  x4_ μ37) fun v42 μ41 => wBind (fX0_postIn N  x4_ μ41) fun v45 μ44 => wBind (fX0_riskOf N  v42 v45 μ44) fun v48 μ47 => wG (ok_in v27 40768) (wLet (wSI μ47 16 (Int32.toNatClampNeg v27) (if ((μ37.1 16 (Int32.toNatClampNeg v38)) + v48) < (μ34.1 16 (Int32.toNatClampNeg v27)) then ((μ37.1 16 (Int32.toNatClampNeg v38)) + v48) else (μ34.1 16 (Int32.toNatClampNeg v27)))) fun μ50 => JgoesOn131  μ50))))))
def gX0_goesOn_8 (N : Nat) (c0 t n : Nat)  (x1_ : Int32) (x2_ : Int32) (x3_ : Int32) (K : (wMem → Option wMem)) : Nat → (Int32 → wMem → Option wMem)
  | 0 => fun _ _ => none
  | k + 1 => gbX0_goesOn_8 N c0 t n  x1_ x2_ x3_ K (gX0_goesOn_8 N c0 t n  x1_ x2_ x3_ K k)
set_option maxHeartbeats 4000000 in
set_option maxRecDepth 100000 in
theorem tX0_goesOn_8 {p : Program} {l : Launch} {e : Env} {s : State} {m : MethodId} {args : Array Value} {below : List Frame} {meth : Method} {c : Code} {D : va_G} {E : List wCell} {q : Nat → Nat} {ca : wCA} {A : Nat → Prop} (C : wC p ({ frames := 4, cells := 0, slots := 0, locals := 89 } : Room) s m args meth c cX0_goesOn yX0_goesOn.cls 6 none D vwCl (spX ++ E) q ca A) (hE : wSlots ca (spX ++ E)) (N : Nat) (c0 t n : Nat)   (x1_ : Int32) (x2_ : Int32) (x3_ : Int32) (hi1 : ok_in x1_ 4 = true) (hb : (spX ++ E)[24 + x1_.toNatClampNeg]? = some (.inl (5, [(2, c0)]))) (hr : wRow (spX ++ E) c0 t n) (K : (wMem → Option wMem)) (r0 : wMem) (hK : ∀  (μ : wMem), K  μ = some r0 → wJ p l e ({ frames := 4, cells := 0, slots := 0, locals := 89 } : Room) s m args below meth c 6 D vwCl (spX ++ E) q ca A (wQv ({ frames := 4, cells := 0, slots := 0, locals := 89 } : Room) D vwCl (spX ++ E) q ca below args s A r0) 0 0 μ 137 [] []) : ∀ (k : Nat) (x4_ : Int32) (μ : wMem), gX0_goesOn_8 N c0 t n  x1_ x2_ x3_ K k x4_ μ = some r0 → wJ p l e ({ frames := 4, cells := 0, slots := 0, locals := 89 } : Room) s m args below meth c 6 D vwCl (spX ++ E) q ca A (wQv ({ frames := 4, cells := 0, slots := 0, locals := 89 } : Room) D vwCl (spX ++ E) q ca below args s A r0) 0 0 μ 8 [(0, .ref (q 0)), (1, .int x1_), (2, .int x2_), (3, .int x3_), (4, .int x4_)] [] := by
  intro k
  induction k with
  | zero =>
    intro x4_ μ hf
    cases hf
  | succ k ih =>
    intro x4_ μ hf
    replace hf : gbX0_goesOn_8 N c0 t n  x1_ x2_ x3_ K (gX0_goesOn_8 N c0 t n  x1_ x2_ x3_ K k) x4_ μ = some r0 := hf
    unfold gbX0_goesOn_8 at hf
    refine wr_iload 8 C dX0_goesOn_8 4 rfl ?_
    refine wr_aload_n 10 C dX0_goesOn_10 0 rfl rfl ?_
    refine wr_iload_n 11 C dX0_goesOn_11 1 rfl rfl ?_
    refine wr_iload_n 12 C dX0_goesOn_12 2 rfl rfl ?_
    obtain ⟨v6, μ5, h4, hf⟩ := o_bind hf
    refine wr_Vi (kc1 := 0) (ks1 := 0) 13 [.int x4_] C dX0_goesOn_13 (tX0_firstBy l hE N c0 t n x1_ x2_ μ (v6, μ5) hi1 hb hr h4) okX0_firstBy q1121 (b := 0) spX_0 rfl ⟨rfl, rfl, Nat.le_of_ble_eq_true rfl, Nat.le_of_ble_eq_true rfl, Nat.zero_le _, Nat.zero_le _⟩ (Nat.le_of_ble_eq_true rfl) rfl ?_
    refine wr_bipush 16 C dX0_goesOn_16 (v := 100) rfl ?_
    refine wr_iadd 18 C dX0_goesOn_18 ?_
    refine wr_icmp_ge 19 137 C dX0_goesOn_19 (by decide) (fun c7 => ?_) (fun c7 => ?_)
    · replace hf := o_pos c7 hf
      refine wr_sub [] [] rfl ?_
      exact hK  μ5 hf
    · replace hf := o_neg c7 hf
      refine wr_aload_n 22 C dX0_goesOn_22 0 rfl rfl ?_
      refine wr_iload_n 23 C dX0_goesOn_23 2 rfl rfl ?_
      refine wr_iload_n 24 C dX0_goesOn_24 3 rfl rfl ?_
      refine wr_iload_n 25 C dX0_goesOn_25 1 rfl rfl ?_
      obtain ⟨μ9, h8, hf⟩ := o_bindV hf
      refine wr_Vv (kc1 := 0) (ks1 := 0) 26 [] C dX0_goesOn_26 (tX0_beScene l hE N c0 t n x2_ x3_ x1_ μ5 μ9 hi1 hb hr h8) okX0_beScene q1125 (b := 0) spX_0 rfl ⟨rfl, rfl, Nat.le_of_ble_eq_true rfl, Nat.le_of_ble_eq_true rfl, Nat.zero_le _, Nat.zero_le _⟩ (Nat.le_of_ble_eq_true rfl) rfl ?_
      refine wr_aload_n 29 C dX0_goesOn_29 0 rfl rfl ?_
      refine wr_iload 30 C dX0_goesOn_30 4 rfl ?_
      refine wr_i2l 32 C dX0_goesOn_32 ?_
      obtain ⟨v12, μ11, h10, hf⟩ := o_bind hf
      refine wr_Vi (kc1 := 0) (ks1 := 0) 33 [] C dX0_goesOn_33 (tX0_isAct l N   (Int32.toInt64 x4_) μ9 (v12, μ11) h10) okX0_isAct q838 (b := 0) spX_0 rfl ⟨rfl, rfl, Nat.le_of_ble_eq_true rfl, Nat.le_of_ble_eq_true rfl, Nat.zero_le _, Nat.zero_le _⟩ (Nat.le_of_ble_eq_true rfl) rfl ?_
      obtain ⟨JgoesOn131, eJgoesOn131, hf⟩ := o_let hf
      have hJgoesOn131 : ∀  (μ13 : wMem), JgoesOn131  μ13 = some r0 → wJ p l e ({ frames := 4, cells := 0, slots := 0, locals := 89 } : Room) s m args below meth c 6 D vwCl (spX ++ E) q ca A (wQv ({ frames := 4, cells := 0, slots := 0, locals := 89 } : Room) D vwCl (spX ++ E) q ca below args s A r0) 0 0 μ13 131 [(0, .ref (q 0)), (1, .int x1_), (2, .int x2_), (3, .int x3_), (4, .int x4_)] [] := by
        intro  μ13 hf
        rw [eJgoesOn131] at hf
        obtain ⟨x14, ex14, hf⟩ := o_let hf
        refine wr_iinc 131 [(4, .int x14), (0, .ref (q 0)), (1, .int x1_), (2, .int x2_), (3, .int x3_)] C dX0_goesOn_131 4 rfl (ex14.trans rfl) (Nat.le_of_ble_eq_true rfl) rfl ?_
        refine wr_goto 134 C dX0_goesOn_134 (tgt := 8) (by decide) ?_
        refine wr_sub [(0, .ref (q 0)), (1, .int x1_), (2, .int x2_), (3, .int x3_), (4, .int x14)] [1, 2, 3, 4, 0] rfl ?_
        exact ih x14 μ13 hf
      refine wr_if_eq 36 131 C dX0_goesOn_36 (by decide) (fun c15 => ?_) (fun c15 => ?_)
      · replace hf := o_pos c15 hf
        exact hJgoesOn131  μ11 hf
      · replace hf := o_neg c15 hf
        refine wr_aload_n 39 C dX0_goesOn_39 0 rfl rfl ?_
        refine wr_iload 40 C dX0_goesOn_40 4 rfl ?_
        obtain ⟨v18, μ17, h16, hf⟩ := o_bind hf
        refine wr_Vi (kc1 := 0) (ks1 := 0) 42 [] C dX0_goesOn_42 (tX0_can l N   x4_ μ11 (v18, μ17) h16) okX0_can q844 (b := 0) spX_0 rfl ⟨rfl, rfl, Nat.le_of_ble_eq_true rfl, Nat.le_of_ble_eq_true rfl, Nat.zero_le _, Nat.zero_le _⟩ (Nat.le_of_ble_eq_true rfl) rfl ?_
        refine wr_if_ne 45 51 C dX0_goesOn_45 (by decide) (fun c19 => ?_) (fun c19 => ?_)
        · replace hf := o_neg c19 hf
          refine wr_aload_n 51 C dX0_goesOn_51 0 rfl rfl ?_
          refine wr_iload 52 C dX0_goesOn_52 4 rfl ?_
          obtain ⟨μ21, h20, hf⟩ := o_bindV hf
          refine wr_Vv (kc1 := 0) (ks1 := 0) 54 [] C dX0_goesOn_54 (tX0_does l N   x4_ μ17 μ21 h20) okX0_does q755 (b := 0) spX_0 rfl ⟨rfl, rfl, Nat.le_of_ble_eq_true rfl, Nat.le_of_ble_eq_true rfl, Nat.zero_le _, Nat.zero_le _⟩ (Nat.le_of_ble_eq_true rfl) rfl ?_
          refine wr_iload_n 57 C dX0_goesOn_57 2 rfl rfl ?_
          refine wr_iconst 58 C dX0_goesOn_58 (v := 1) rfl ?_
          refine wr_iadd 59 C dX0_goesOn_59 ?_
          refine wr_aload_n 60 C dX0_goesOn_60 0 rfl rfl ?_
          obtain ⟨v24, μ23, h22, hf⟩ := o_bind hf
          refine wr_Vi (kc1 := 0) (ks1 := 0) 61 [.int (x2_ + (1 : Int32))] C dX0_goesOn_61 (tX0_scene l N    μ21 (v24, μ23) h22) okX0_scene q1110 (b := 0) spX_0 rfl ⟨rfl, rfl, Nat.le_of_ble_eq_true rfl, Nat.le_of_ble_eq_true rfl, Nat.zero_le _, Nat.zero_le _⟩ (Nat.le_of_ble_eq_true rfl) rfl ?_
          obtain ⟨v27, μ26, h25, hf⟩ := o_bind hf
          refine wr_Si (kc1 := 0) (ks1 := 0) 64 [] C dX0_goesOn_64 (tX0_spot l N   (x2_ + (1 : Int32)) v24 μ23 (v27, μ26) h25) okX0_spot q1114 ⟨rfl, rfl, Nat.le_of_ble_eq_true rfl, Nat.le_of_ble_eq_true rfl, Nat.zero_le _, Nat.zero_le _⟩ (Nat.le_of_ble_eq_true rfl) rfl ?_
          refine wr_istore 67 [(5, .int v27), (0, .ref (q 0)), (1, .int x1_), (2, .int x2_), (3, .int x3_), (4, .int x4_)] C dX0_goesOn_67 rfl (Nat.le_of_ble_eq_true rfl) rfl ?_
          refine wr_aload_n 69 C dX0_goesOn_69 1 rfl rfl ?_
          refine gespX_0_24_X0 70 C dX0_goesOn_70 ?_
          refine wr_iload 73 C dX0_goesOn_73 0 rfl ?_
          refine wr_dup2 75 C dX0_goesOn_75 rfl rfl ?_
          obtain ⟨g28, hf⟩ := o_g hf
          refine wr_lald 76 C dX0_goesOn_76 spX_15 g28 ?_
          refine wr_aload_n 77 C dX0_goesOn_77 1 rfl rfl ?_
          refine gespX_0_24_X0 78 C dX0_goesOn_78 ?_
          refine wr_iload_n 81 C dX0_goesOn_81 3 rfl rfl ?_
          refine wr_iload_n 82 C dX0_goesOn_82 4 rfl rfl ?_
          obtain ⟨v31, μ30, h29, hf⟩ := o_bind hf
          refine wr_Si (kc1 := 0) (ks1 := 0) 83 [.ref (q 15), .long (μ26.2 15 (Int32.toNatClampNeg v27)), .int v27, .ref (q 15)] C dX0_goesOn_83 (tX0_spot l N   x2_ x3_ μ26 (v31, μ30) h29) okX0_spot q1114 ⟨rfl, rfl, Nat.le_of_ble_eq_true rfl, Nat.le_of_ble_eq_true rfl, Nat.zero_le _, Nat.zero_le _⟩ (Nat.le_of_ble_eq_true rfl) rfl ?_
          obtain ⟨g32, hf⟩ := o_g hf
          refine wr_lald 86 C dX0_goesOn_86 spX_15 g32 ?_
          refine wr_ladd 87 C dX0_goesOn_87 ?_
          obtain ⟨g33, hf⟩ := o_g hf
          obtain ⟨μ34, eμ34, hf⟩ := o_let hf
          refine wr_last 88 C dX0_goesOn_88 spX_15 g33 eμ34 ?_
          refine wr_aload_n 89 C dX0_goesOn_89 1 rfl rfl ?_
          refine gespX_0_25_X0 90 C dX0_goesOn_90 ?_
          refine wr_iload 93 C dX0_goesOn_93 0 rfl ?_
          refine wr_aload_n 95 C dX0_goesOn_95 1 rfl rfl ?_
          refine gespX_0_25_X0 96 C dX0_goesOn_96 ?_
          refine wr_iload 99 C dX0_goesOn_99 0 rfl ?_
          obtain ⟨g35, hf⟩ := o_g hf
          refine wr_iald 101 C dX0_goesOn_101 spX_16 g35 ?_
          refine wr_aload_n 102 C dX0_goesOn_102 1 rfl rfl ?_
          refine gespX_0_25_X0 103 C dX0_goesOn_103 ?_
          refine wr_iload_n 106 C dX0_goesOn_106 3 rfl rfl ?_
          refine wr_iload_n 107 C dX0_goesOn_107 4 rfl rfl ?_
          obtain ⟨v38, μ37, h36, hf⟩ := o_bind hf
          refine wr_Si (kc1 := 0) (ks1 := 0) 108 [.ref (q 16), .int (μ34.1 16 (Int32.toNatClampNeg v27)), .int v27, .ref (q 16)] C dX0_goesOn_108 (tX0_spot l N   x2_ x3_ μ34 (v38, μ37) h36) okX0_spot q1114 ⟨rfl, rfl, Nat.le_of_ble_eq_true rfl, Nat.le_of_ble_eq_true rfl, Nat.zero_le _, Nat.zero_le _⟩ (Nat.le_of_ble_eq_true rfl) rfl ?_
          obtain ⟨g39, hf⟩ := o_g hf
          refine wr_iald 111 C dX0_goesOn_111 spX_16 g39 ?_
          refine wr_aload_n 112 C dX0_goesOn_112 1 rfl rfl ?_
          refine wr_iload 113 C dX0_goesOn_113 5 rfl ?_
          obtain ⟨v42, μ41, h40, hf⟩ := o_bind hf
          refine wr_Si (kc1 := 0) (ks1 := 0) 115 [.ref (q 0), .int (μ37.1 16 (Int32.toNatClampNeg v38)), .int (μ34.1 16 (Int32.toNatClampNeg v27)), .int v27, .ref (q 16)] C dX0_goesOn_115 (tX0_personIn l N   x4_ μ37 (v42, μ41) h40) okX0_personIn q749 ⟨rfl, rfl, Nat.le_of_ble_eq_true rfl, Nat.le_of_ble_eq_true rfl, Nat.zero_le _, Nat.zero_le _⟩ (Nat.le_of_ble_eq_true rfl) rfl ?_
          refine wr_iload 118 C dX0_goesOn_118 5 rfl ?_
          obtain ⟨v45, μ44, h43, hf⟩ := o_bind hf
          refine wr_Si (kc1 := 0) (ks1 := 0) 120 [.int v42, .ref (q 0), .int (μ37.1 16 (Int32.toNatClampNeg v38)), .int (μ34.1 16 (Int32.toNatClampNeg v27)), .int v27, .ref (q 16)] C dX0_goesOn_120 (tX0_postIn l N   x4_ μ41 (v45, μ44) h43) okX0_postIn q752 ⟨rfl, rfl, Nat.le_of_ble_eq_true rfl, Nat.le_of_ble_eq_true rfl, Nat.zero_le _, Nat.zero_le _⟩ (Nat.le_of_ble_eq_true rfl) rfl ?_
          obtain ⟨v48, μ47, h46, hf⟩ := o_bind hf
          refine wr_Vi (kc1 := 0) (ks1 := 0) 123 [.int (μ37.1 16 (Int32.toNatClampNeg v38)), .int (μ34.1 16 (Int32.toNatClampNeg v27)), .int v27, .ref (q 16)] C dX0_goesOn_123 (tX0_riskOf l N   v42 v45 μ44 (v48, μ47) h46) okX0_riskOf q710 (b := 0) spX_0 rfl ⟨rfl, rfl, Nat.le_of_ble_eq_true rfl, Nat.le_of_ble_eq_true rfl, Nat.zero_le _, Nat.zero_le _⟩ (Nat.le_of_ble_eq_true rfl) rfl ?_
          refine wr_iadd 126 C dX0_goesOn_126 ?_
          refine wr_mmin 127 C dX0_goesOn_127 q1129 q477 q149 q478 ⟨Nat.le_of_ble_eq_true rfl, Nat.le_of_ble_eq_true rfl, Nat.zero_le _, Nat.zero_le _⟩ (Nat.le_of_ble_eq_true rfl) ?_
          obtain ⟨g49, hf⟩ := o_g hf
          obtain ⟨μ50, eμ50, hf⟩ := o_let hf
          refine wr_iast 130 C dX0_goesOn_130 spX_16 g49 eμ50 ?_
          refine wr_sub [(0, .ref (q 0)), (1, .int x1_), (2, .int x2_), (3, .int x3_), (4, .int x4_)] [1, 2, 3, 4, 5] rfl ?_
          exact hJgoesOn131  μ50 hf
        · replace hf := o_pos c19 hf
          refine wr_goto 48 C dX0_goesOn_48 (tgt := 131) (by decide) ?_
          exact hJgoesOn131  μ17 hf
def fX0_goesOn (N : Nat) (c0 t n : Nat)  (a1 : Int32) (a2 : Int32) (a3 : Int32) (μ : wMem) : Option wMem :=
  wBind (fX0_firstBy N c0 t n a1 a2 μ) fun v3 μ2 => gX0_goesOn_8 N c0 t n  a1 a2 a3 (fun  (μ51 : wMem) => some μ51) N v3 μ2
set_option maxHeartbeats 4000000 in
set_option maxRecDepth 100000 in
theorem tX0_goesOn (l : Launch) {D : va_G} {E : List wCell} {q : Nat → Nat} {ca : wCA} (hE : wSlots ca (spX ++ E)) (N : Nat) (c0 t n : Nat)   (a1 : Int32) (a2 : Int32) (a3 : Int32) (μ : wMem) (r0 : wMem) (hi1 : ok_in a1 4 = true) (hb : (spX ++ E)[24 + a1.toNatClampNeg]? = some (.inl (5, [(2, c0)]))) (hr : wRow (spX ++ E) c0 t n) (hf : fX0_goesOn N c0 t n  a1 a2 a3 μ = some r0) : wMv l yX0_goesOn cX0_goesOn 6 none ({ frames := 4, cells := 0, slots := 0, locals := 89 } : Room) D vwCl (spX ++ E) q ca [.ref (q 0), .int a1, .int a2, .int a3] μ r0 := by
  refine wMv_intro (by decide) (Nat.le_of_ble_eq_true rfl) ?_
  intro p e s m args below meth c A C
  unfold fX0_goesOn at hf
  refine wr_sub [(0, .ref (q 0)), (1, .int a1), (2, .int a2), (3, .int a3)] [0, 1, 2, 3] rfl ?_
  refine wr_aload_n 0 C dX0_goesOn_0 0 rfl rfl ?_
  refine wr_iload_n 1 C dX0_goesOn_1 1 rfl rfl ?_
  refine wr_iload_n 2 C dX0_goesOn_2 2 rfl rfl ?_
  obtain ⟨v3, μ2, h1, hf⟩ := o_bind hf
  refine wr_Vi (kc1 := 0) (ks1 := 0) 3 [] C dX0_goesOn_3 (tX0_firstBy l hE N c0 t n a1 a2 μ (v3, μ2) hi1 hb hr h1) okX0_firstBy q1121 (b := 0) spX_0 rfl ⟨rfl, rfl, Nat.le_of_ble_eq_true rfl, Nat.le_of_ble_eq_true rfl, Nat.zero_le _, Nat.zero_le _⟩ (Nat.le_of_ble_eq_true rfl) rfl ?_
  refine wr_istore 6 [(4, .int v3), (0, .ref (q 0)), (1, .int a1), (2, .int a2), (3, .int a3)] C dX0_goesOn_6 rfl (Nat.le_of_ble_eq_true rfl) rfl ?_
  refine wr_sub [(0, .ref (q 0)), (1, .int a1), (2, .int a2), (3, .int a3), (4, .int v3)] [1, 2, 3, 4, 0] rfl ?_
  refine tX0_goesOn_8 C hE N c0 t n   a1 a2 a3 hi1 hb hr _ r0 (fun  μ51 hf => ?_) N v3 μ2 hf
  · replace hf := hf
    exact wr_vret 137 C dX0_goesOn_137 ⟨Nat.zero_le _, Nat.zero_le _⟩ (Option.some.inj hf)
abbrev cX0_comesBack : ByteArray := prog_1_method_100_code
def yX0_comesBack : MethodName := ⟨RX0, "comesBack", "(III)V"⟩
def dkwX0_comesBack_4 : List UInt8 := [4, 21, 4, 184, 0, 204, 120, 128, 79, 132, 4, 1, 167, 255, 156, 177]
abbrev dktX0_comesBack_4 : List UInt8 := dkwX0_comesBack_4 ++ []
def dkwX0_comesBack_3 : List UInt8 := [154, 0, 6, 167, 0, 30, 42, 180, 0, 76, 28, 29, 184, 1, 146, 4, 84, 42, 180, 0, 79, 28, 92, 46]
abbrev dktX0_comesBack_3 : List UInt8 := dkwX0_comesBack_3 ++ dktX0_comesBack_4
def dkwX0_comesBack_2 : List UInt8 := [167, 0, 57, 42, 21, 4, 182, 0, 243, 42, 180, 0, 76, 28, 4, 96, 42, 182, 1, 143, 184, 1, 146, 51]
abbrev dktX0_comesBack_2 : List UInt8 := dkwX0_comesBack_2 ++ dktX0_comesBack_3
def dkwX0_comesBack_1 : List UInt8 := [29, 27, 182, 1, 165, 42, 21, 4, 133, 182, 1, 18, 153, 0, 69, 42, 21, 4, 182, 1, 22, 154, 0, 6]
abbrev dktX0_comesBack_1 : List UInt8 := dkwX0_comesBack_1 ++ dktX0_comesBack_2
def dkwX0_comesBack_0 : List UInt8 := [42, 27, 28, 182, 1, 162, 54, 4, 21, 4, 42, 27, 28, 182, 1, 162, 16, 100, 96, 162, 0, 92, 42, 28]
abbrev dktX0_comesBack_0 : List UInt8 := dkwX0_comesBack_0 ++ dktX0_comesBack_1
theorem dksX0_comesBack_0 : cX0_comesBack.data.toList.drop 0 = dktX0_comesBack_0 := by decide +kernel
theorem dksX0_comesBack_1 : cX0_comesBack.data.toList.drop 24 = dktX0_comesBack_1 := dk_seg dksX0_comesBack_0 24 rfl rfl
theorem dksX0_comesBack_2 : cX0_comesBack.data.toList.drop 48 = dktX0_comesBack_2 := dk_seg dksX0_comesBack_1 24 rfl rfl
theorem dksX0_comesBack_3 : cX0_comesBack.data.toList.drop 72 = dktX0_comesBack_3 := dk_seg dksX0_comesBack_2 24 rfl rfl
theorem dksX0_comesBack_4 : cX0_comesBack.data.toList.drop 96 = dktX0_comesBack_4 := dk_seg dksX0_comesBack_3 24 rfl rfl
theorem dX0_comesBack_0 : decode cX0_comesBack 0 = .ok (.aload_n 0, 1) := dk_42 (dk_at dksX0_comesBack_0 0 rfl rfl)
theorem dX0_comesBack_1 : decode cX0_comesBack 1 = .ok (.iload_n 1, 1) := dk_27 (dk_at dksX0_comesBack_0 1 rfl rfl)
theorem dX0_comesBack_2 : decode cX0_comesBack 2 = .ok (.iload_n 2, 1) := dk_28 (dk_at dksX0_comesBack_0 2 rfl rfl)
theorem dX0_comesBack_3 : decode cX0_comesBack 3 = .ok (.invokevirtual 418, 3) := dk_182 1 162 (dk_at dksX0_comesBack_0 3 rfl rfl)
theorem dX0_comesBack_6 : decode cX0_comesBack 6 = .ok (.istore 4, 2) := dk_54 4 (dk_at dksX0_comesBack_0 6 rfl rfl)
theorem dX0_comesBack_8 : decode cX0_comesBack 8 = .ok (.iload 4, 2) := dk_21 4 (dk_at dksX0_comesBack_0 8 rfl rfl)
theorem dX0_comesBack_10 : decode cX0_comesBack 10 = .ok (.aload_n 0, 1) := dk_42 (dk_at dksX0_comesBack_0 10 rfl rfl)
theorem dX0_comesBack_11 : decode cX0_comesBack 11 = .ok (.iload_n 1, 1) := dk_27 (dk_at dksX0_comesBack_0 11 rfl rfl)
theorem dX0_comesBack_12 : decode cX0_comesBack 12 = .ok (.iload_n 2, 1) := dk_28 (dk_at dksX0_comesBack_0 12 rfl rfl)
theorem dX0_comesBack_13 : decode cX0_comesBack 13 = .ok (.invokevirtual 418, 3) := dk_182 1 162 (dk_at dksX0_comesBack_0 13 rfl rfl)
theorem dX0_comesBack_16 : decode cX0_comesBack 16 = .ok (.bipush 100, 2) := dk_16 100 (dk_at dksX0_comesBack_0 16 rfl rfl)
theorem dX0_comesBack_18 : decode cX0_comesBack 18 = .ok (.iadd, 1) := dk_96 (dk_at dksX0_comesBack_0 18 rfl rfl)
theorem dX0_comesBack_19 : decode cX0_comesBack 19 = .ok (.if_icmp .ge 92, 3) := dk_162 0 92 (dk_at dksX0_comesBack_0 19 rfl rfl)
theorem dX0_comesBack_22 : decode cX0_comesBack 22 = .ok (.aload_n 0, 1) := dk_42 (dk_at dksX0_comesBack_0 22 rfl rfl)
theorem dX0_comesBack_23 : decode cX0_comesBack 23 = .ok (.iload_n 2, 1) := dk_28 (dk_at dksX0_comesBack_0 23 rfl rfl)
theorem dX0_comesBack_24 : decode cX0_comesBack 24 = .ok (.iload_n 3, 1) := dk_29 (dk_at dksX0_comesBack_1 0 rfl rfl)
theorem dX0_comesBack_25 : decode cX0_comesBack 25 = .ok (.iload_n 1, 1) := dk_27 (dk_at dksX0_comesBack_1 1 rfl rfl)
theorem dX0_comesBack_26 : decode cX0_comesBack 26 = .ok (.invokevirtual 421, 3) := dk_182 1 165 (dk_at dksX0_comesBack_1 2 rfl rfl)
theorem dX0_comesBack_29 : decode cX0_comesBack 29 = .ok (.aload_n 0, 1) := dk_42 (dk_at dksX0_comesBack_1 5 rfl rfl)
theorem dX0_comesBack_30 : decode cX0_comesBack 30 = .ok (.iload 4, 2) := dk_21 4 (dk_at dksX0_comesBack_1 6 rfl rfl)
theorem dX0_comesBack_32 : decode cX0_comesBack 32 = .ok (.i2l, 1) := dk_133 (dk_at dksX0_comesBack_1 8 rfl rfl)
theorem dX0_comesBack_33 : decode cX0_comesBack 33 = .ok (.invokevirtual 274, 3) := dk_182 1 18 (dk_at dksX0_comesBack_1 9 rfl rfl)
theorem dX0_comesBack_36 : decode cX0_comesBack 36 = .ok (.ifCond .eq 69, 3) := dk_153 0 69 (dk_at dksX0_comesBack_1 12 rfl rfl)
theorem dX0_comesBack_39 : decode cX0_comesBack 39 = .ok (.aload_n 0, 1) := dk_42 (dk_at dksX0_comesBack_1 15 rfl rfl)
theorem dX0_comesBack_40 : decode cX0_comesBack 40 = .ok (.iload 4, 2) := dk_21 4 (dk_at dksX0_comesBack_1 16 rfl rfl)
theorem dX0_comesBack_42 : decode cX0_comesBack 42 = .ok (.invokevirtual 278, 3) := dk_182 1 22 (dk_at dksX0_comesBack_1 18 rfl rfl)
theorem dX0_comesBack_45 : decode cX0_comesBack 45 = .ok (.ifCond .ne 6, 3) := dk_154 0 6 (dk_at dksX0_comesBack_1 21 rfl rfl)
theorem dX0_comesBack_48 : decode cX0_comesBack 48 = .ok (.goto 57, 3) := dk_167 0 57 (dk_at dksX0_comesBack_2 0 rfl rfl)
theorem dX0_comesBack_51 : decode cX0_comesBack 51 = .ok (.aload_n 0, 1) := dk_42 (dk_at dksX0_comesBack_2 3 rfl rfl)
theorem dX0_comesBack_52 : decode cX0_comesBack 52 = .ok (.iload 4, 2) := dk_21 4 (dk_at dksX0_comesBack_2 4 rfl rfl)
theorem dX0_comesBack_54 : decode cX0_comesBack 54 = .ok (.invokevirtual 243, 3) := dk_182 0 243 (dk_at dksX0_comesBack_2 6 rfl rfl)
theorem dX0_comesBack_57 : decode cX0_comesBack 57 = .ok (.aload_n 0, 1) := dk_42 (dk_at dksX0_comesBack_2 9 rfl rfl)
theorem dX0_comesBack_58 : decode cX0_comesBack 58 = .ok (.getfield 76, 3) := dk_180 0 76 (dk_at dksX0_comesBack_2 10 rfl rfl)
theorem dX0_comesBack_61 : decode cX0_comesBack 61 = .ok (.iload_n 2, 1) := dk_28 (dk_at dksX0_comesBack_2 13 rfl rfl)
theorem dX0_comesBack_62 : decode cX0_comesBack 62 = .ok (.iconst 1, 1) := dk_4 (dk_at dksX0_comesBack_2 14 rfl rfl)
theorem dX0_comesBack_63 : decode cX0_comesBack 63 = .ok (.iadd, 1) := dk_96 (dk_at dksX0_comesBack_2 15 rfl rfl)
theorem dX0_comesBack_64 : decode cX0_comesBack 64 = .ok (.aload_n 0, 1) := dk_42 (dk_at dksX0_comesBack_2 16 rfl rfl)
theorem dX0_comesBack_65 : decode cX0_comesBack 65 = .ok (.invokevirtual 399, 3) := dk_182 1 143 (dk_at dksX0_comesBack_2 17 rfl rfl)
theorem dX0_comesBack_68 : decode cX0_comesBack 68 = .ok (.invokestatic 402, 3) := dk_184 1 146 (dk_at dksX0_comesBack_2 20 rfl rfl)
theorem dX0_comesBack_71 : decode cX0_comesBack 71 = .ok (.baload, 1) := dk_51 (dk_at dksX0_comesBack_2 23 rfl rfl)
theorem dX0_comesBack_72 : decode cX0_comesBack 72 = .ok (.ifCond .ne 6, 3) := dk_154 0 6 (dk_at dksX0_comesBack_3 0 rfl rfl)
theorem dX0_comesBack_75 : decode cX0_comesBack 75 = .ok (.goto 30, 3) := dk_167 0 30 (dk_at dksX0_comesBack_3 3 rfl rfl)
theorem dX0_comesBack_78 : decode cX0_comesBack 78 = .ok (.aload_n 0, 1) := dk_42 (dk_at dksX0_comesBack_3 6 rfl rfl)
theorem dX0_comesBack_79 : decode cX0_comesBack 79 = .ok (.getfield 76, 3) := dk_180 0 76 (dk_at dksX0_comesBack_3 7 rfl rfl)
theorem dX0_comesBack_82 : decode cX0_comesBack 82 = .ok (.iload_n 2, 1) := dk_28 (dk_at dksX0_comesBack_3 10 rfl rfl)
theorem dX0_comesBack_83 : decode cX0_comesBack 83 = .ok (.iload_n 3, 1) := dk_29 (dk_at dksX0_comesBack_3 11 rfl rfl)
theorem dX0_comesBack_84 : decode cX0_comesBack 84 = .ok (.invokestatic 402, 3) := dk_184 1 146 (dk_at dksX0_comesBack_3 12 rfl rfl)
theorem dX0_comesBack_87 : decode cX0_comesBack 87 = .ok (.iconst 1, 1) := dk_4 (dk_at dksX0_comesBack_3 15 rfl rfl)
theorem dX0_comesBack_88 : decode cX0_comesBack 88 = .ok (.bastore, 1) := dk_84 (dk_at dksX0_comesBack_3 16 rfl rfl)
theorem dX0_comesBack_89 : decode cX0_comesBack 89 = .ok (.aload_n 0, 1) := dk_42 (dk_at dksX0_comesBack_3 17 rfl rfl)
theorem dX0_comesBack_90 : decode cX0_comesBack 90 = .ok (.getfield 79, 3) := dk_180 0 79 (dk_at dksX0_comesBack_3 18 rfl rfl)
theorem dX0_comesBack_93 : decode cX0_comesBack 93 = .ok (.iload_n 2, 1) := dk_28 (dk_at dksX0_comesBack_3 21 rfl rfl)
theorem dX0_comesBack_94 : decode cX0_comesBack 94 = .ok (.dup2, 1) := dk_92 (dk_at dksX0_comesBack_3 22 rfl rfl)
theorem dX0_comesBack_95 : decode cX0_comesBack 95 = .ok (.iaload, 1) := dk_46 (dk_at dksX0_comesBack_3 23 rfl rfl)
theorem dX0_comesBack_96 : decode cX0_comesBack 96 = .ok (.iconst 1, 1) := dk_4 (dk_at dksX0_comesBack_4 0 rfl rfl)
theorem dX0_comesBack_97 : decode cX0_comesBack 97 = .ok (.iload 4, 2) := dk_21 4 (dk_at dksX0_comesBack_4 1 rfl rfl)
theorem dX0_comesBack_99 : decode cX0_comesBack 99 = .ok (.invokestatic 204, 3) := dk_184 0 204 (dk_at dksX0_comesBack_4 3 rfl rfl)
theorem dX0_comesBack_102 : decode cX0_comesBack 102 = .ok (.ishl, 1) := dk_120 (dk_at dksX0_comesBack_4 6 rfl rfl)
theorem dX0_comesBack_103 : decode cX0_comesBack 103 = .ok (.ior, 1) := dk_128 (dk_at dksX0_comesBack_4 7 rfl rfl)
theorem dX0_comesBack_104 : decode cX0_comesBack 104 = .ok (.iastore, 1) := dk_79 (dk_at dksX0_comesBack_4 8 rfl rfl)
theorem dX0_comesBack_105 : decode cX0_comesBack 105 = .ok (.iinc 4 1, 3) := dk_132 4 1 (dk_at dksX0_comesBack_4 9 rfl rfl)
theorem dX0_comesBack_108 : decode cX0_comesBack 108 = .ok (.goto (-100), 3) := dk_167 255 156 (dk_at dksX0_comesBack_4 12 rfl rfl)
theorem dX0_comesBack_111 : decode cX0_comesBack 111 = .ok (.return_, 1) := dk_177 (dk_at dksX0_comesBack_4 15 rfl rfl)
theorem gespX_0_26_X0 {p : Program} {l : Launch} {e : Env} {R : Room} {s : State} {m : MethodId} {args : Array Value} {below : List Frame} {meth : Method} {c : Code} {cc : ByteArray} {nL : Nat} {ret : Option FieldType} {D : va_G} {E : List wCell} {q : Nat → Nat} {ca : wCA} {A : Nat → Prop} {Q : State → Prop} {kc ks : Nat} {μ : wMem} {lv : List (Nat × Value)} {st : List Value} (pc : Nat) (C : wC p R s m args meth c cc "OnePassport" nL ret D vwCl (spX ++ E) q ca A) (hd : decode cc pc = .ok (.getfield 76, 3)) (k : wJ p l e R s m args below meth c nL D vwCl (spX ++ E) q ca A Q kc ks μ (pc + 3) lv (.ref (q 17) :: st)) : wJ p l e R s m args below meth c nL D vwCl (spX ++ E) q ca A Q kc ks μ pc lv (.ref (q 0) :: st) := wr_getR pc 26 C hd spX_0 rfl in_X0 (by decide) rfl q357 k
theorem gespX_0_27_X0 {p : Program} {l : Launch} {e : Env} {R : Room} {s : State} {m : MethodId} {args : Array Value} {below : List Frame} {meth : Method} {c : Code} {cc : ByteArray} {nL : Nat} {ret : Option FieldType} {D : va_G} {E : List wCell} {q : Nat → Nat} {ca : wCA} {A : Nat → Prop} {Q : State → Prop} {kc ks : Nat} {μ : wMem} {lv : List (Nat × Value)} {st : List Value} (pc : Nat) (C : wC p R s m args meth c cc "OnePassport" nL ret D vwCl (spX ++ E) q ca A) (hd : decode cc pc = .ok (.getfield 79, 3)) (k : wJ p l e R s m args below meth c nL D vwCl (spX ++ E) q ca A Q kc ks μ (pc + 3) lv (.ref (q 18) :: st)) : wJ p l e R s m args below meth c nL D vwCl (spX ++ E) q ca A Q kc ks μ pc lv (.ref (q 0) :: st) := wr_getR pc 27 C hd spX_0 rfl in_X0 (by decide) rfl q358 k
theorem okX0_comesBack : wOkV yX0_comesBack cX0_comesBack 5 none 3 := ⟨q1132, qs62, q136, q1133, by decide, by decide, by decide +kernel⟩
def gbX0_comesBack_8 (N : Nat) (c0 t n : Nat)  (x1_ : Int32) (x2_ : Int32) (x3_ : Int32) (K : (wMem → Option wMem)) (rec : (Int32 → wMem → Option wMem)) (x4_ : Int32) (μ : wMem) : Option wMem :=
  wBind (fX0_firstBy N c0 t n x1_ x2_ μ) fun v6 μ5 => if (v6 + (100 : Int32)) ≤ x4_ then K  μ5 else wBindV (fX0_beScene N c0 t n x2_ x3_ x1_ μ5) fun μ9 => wBind (fX0_isAct N  (Int32.toInt64 x4_) μ9) fun v12 μ11 => wLet (fun  (μ13 : wMem) => wLet (x4_ + 1 : Int32) fun x14 => rec x14 μ13) fun JcomesBack105 => if v12 = 0 then JcomesBack105  μ11 else wBind (fX0_can N  x4_ μ11) fun v18 μ17 => if v18 = 0 then JcomesBack105  μ17 else wBindV (fX0_does N  x4_ μ17) fun μ21 => wBind (fX0_scene N   μ21) fun v24 μ23 => wBind (fX0_spot N  (x2_ + (1 : Int32)) v24 μ23) fun v27 μ26 => wG (ok_in v27 40768) (if (μ26.1 17 (Int32.toNatClampNeg v27)) = 0 then JcomesBack105  μ26 else wBind (fX0_spot N  x2_ x3_ μ26) fun v32 μ31 => wG (ok_in v32 40768) (wLet (wSI μ31 17 (Int32.toNatClampNeg v32) (1 : Int32)) fun μ34 => wG (ok_in x2_ 12) (wBind (fX0_personIn N  x4_ μ34) fun v38 μ37 => wG (ok_in x2_ 12) (wLet (wSI μ37 18 (Int32.toNatClampNeg x2_) ((μ34.1 18 (Int32.toNatClampNeg x2_)) ||| ((1 : Int32) <<< (v38 &&& 31)))) fun μ40 => JcomesBack105  μ40))))
def gX0_comesBack_8 (N : Nat) (c0 t n : Nat)  (x1_ : Int32) (x2_ : Int32) (x3_ : Int32) (K : (wMem → Option wMem)) : Nat → (Int32 → wMem → Option wMem)
  | 0 => fun _ _ => none
  | k + 1 => gbX0_comesBack_8 N c0 t n  x1_ x2_ x3_ K (gX0_comesBack_8 N c0 t n  x1_ x2_ x3_ K k)
set_option maxHeartbeats 4000000 in
set_option maxRecDepth 100000 in
theorem tX0_comesBack_8 {p : Program} {l : Launch} {e : Env} {s : State} {m : MethodId} {args : Array Value} {below : List Frame} {meth : Method} {c : Code} {D : va_G} {E : List wCell} {q : Nat → Nat} {ca : wCA} {A : Nat → Prop} (C : wC p ({ frames := 4, cells := 0, slots := 0, locals := 89 } : Room) s m args meth c cX0_comesBack yX0_comesBack.cls 5 none D vwCl (spX ++ E) q ca A) (hE : wSlots ca (spX ++ E)) (N : Nat) (c0 t n : Nat)   (x1_ : Int32) (x2_ : Int32) (x3_ : Int32) (hi1 : ok_in x1_ 4 = true) (hb : (spX ++ E)[24 + x1_.toNatClampNeg]? = some (.inl (5, [(2, c0)]))) (hr : wRow (spX ++ E) c0 t n) (K : (wMem → Option wMem)) (r0 : wMem) (hK : ∀  (μ : wMem), K  μ = some r0 → wJ p l e ({ frames := 4, cells := 0, slots := 0, locals := 89 } : Room) s m args below meth c 5 D vwCl (spX ++ E) q ca A (wQv ({ frames := 4, cells := 0, slots := 0, locals := 89 } : Room) D vwCl (spX ++ E) q ca below args s A r0) 0 0 μ 111 [] []) : ∀ (k : Nat) (x4_ : Int32) (μ : wMem), gX0_comesBack_8 N c0 t n  x1_ x2_ x3_ K k x4_ μ = some r0 → wJ p l e ({ frames := 4, cells := 0, slots := 0, locals := 89 } : Room) s m args below meth c 5 D vwCl (spX ++ E) q ca A (wQv ({ frames := 4, cells := 0, slots := 0, locals := 89 } : Room) D vwCl (spX ++ E) q ca below args s A r0) 0 0 μ 8 [(0, .ref (q 0)), (1, .int x1_), (2, .int x2_), (3, .int x3_), (4, .int x4_)] [] := by
  intro k
  induction k with
  | zero =>
    intro x4_ μ hf
    cases hf
  | succ k ih =>
    intro x4_ μ hf
    replace hf : gbX0_comesBack_8 N c0 t n  x1_ x2_ x3_ K (gX0_comesBack_8 N c0 t n  x1_ x2_ x3_ K k) x4_ μ = some r0 := hf
    unfold gbX0_comesBack_8 at hf
    refine wr_iload 8 C dX0_comesBack_8 4 rfl ?_
    refine wr_aload_n 10 C dX0_comesBack_10 0 rfl rfl ?_
    refine wr_iload_n 11 C dX0_comesBack_11 1 rfl rfl ?_
    refine wr_iload_n 12 C dX0_comesBack_12 2 rfl rfl ?_
    obtain ⟨v6, μ5, h4, hf⟩ := o_bind hf
    refine wr_Vi (kc1 := 0) (ks1 := 0) 13 [.int x4_] C dX0_comesBack_13 (tX0_firstBy l hE N c0 t n x1_ x2_ μ (v6, μ5) hi1 hb hr h4) okX0_firstBy q1121 (b := 0) spX_0 rfl ⟨rfl, rfl, Nat.le_of_ble_eq_true rfl, Nat.le_of_ble_eq_true rfl, Nat.zero_le _, Nat.zero_le _⟩ (Nat.le_of_ble_eq_true rfl) rfl ?_
    refine wr_bipush 16 C dX0_comesBack_16 (v := 100) rfl ?_
    refine wr_iadd 18 C dX0_comesBack_18 ?_
    refine wr_icmp_ge 19 111 C dX0_comesBack_19 (by decide) (fun c7 => ?_) (fun c7 => ?_)
    · replace hf := o_pos c7 hf
      refine wr_sub [] [] rfl ?_
      exact hK  μ5 hf
    · replace hf := o_neg c7 hf
      refine wr_aload_n 22 C dX0_comesBack_22 0 rfl rfl ?_
      refine wr_iload_n 23 C dX0_comesBack_23 2 rfl rfl ?_
      refine wr_iload_n 24 C dX0_comesBack_24 3 rfl rfl ?_
      refine wr_iload_n 25 C dX0_comesBack_25 1 rfl rfl ?_
      obtain ⟨μ9, h8, hf⟩ := o_bindV hf
      refine wr_Vv (kc1 := 0) (ks1 := 0) 26 [] C dX0_comesBack_26 (tX0_beScene l hE N c0 t n x2_ x3_ x1_ μ5 μ9 hi1 hb hr h8) okX0_beScene q1125 (b := 0) spX_0 rfl ⟨rfl, rfl, Nat.le_of_ble_eq_true rfl, Nat.le_of_ble_eq_true rfl, Nat.zero_le _, Nat.zero_le _⟩ (Nat.le_of_ble_eq_true rfl) rfl ?_
      refine wr_aload_n 29 C dX0_comesBack_29 0 rfl rfl ?_
      refine wr_iload 30 C dX0_comesBack_30 4 rfl ?_
      refine wr_i2l 32 C dX0_comesBack_32 ?_
      obtain ⟨v12, μ11, h10, hf⟩ := o_bind hf
      refine wr_Vi (kc1 := 0) (ks1 := 0) 33 [] C dX0_comesBack_33 (tX0_isAct l N   (Int32.toInt64 x4_) μ9 (v12, μ11) h10) okX0_isAct q838 (b := 0) spX_0 rfl ⟨rfl, rfl, Nat.le_of_ble_eq_true rfl, Nat.le_of_ble_eq_true rfl, Nat.zero_le _, Nat.zero_le _⟩ (Nat.le_of_ble_eq_true rfl) rfl ?_
      obtain ⟨JcomesBack105, eJcomesBack105, hf⟩ := o_let hf
      have hJcomesBack105 : ∀  (μ13 : wMem), JcomesBack105  μ13 = some r0 → wJ p l e ({ frames := 4, cells := 0, slots := 0, locals := 89 } : Room) s m args below meth c 5 D vwCl (spX ++ E) q ca A (wQv ({ frames := 4, cells := 0, slots := 0, locals := 89 } : Room) D vwCl (spX ++ E) q ca below args s A r0) 0 0 μ13 105 [(0, .ref (q 0)), (1, .int x1_), (2, .int x2_), (3, .int x3_), (4, .int x4_)] [] := by
        intro  μ13 hf
        rw [eJcomesBack105] at hf
        obtain ⟨x14, ex14, hf⟩ := o_let hf
        refine wr_iinc 105 [(4, .int x14), (0, .ref (q 0)), (1, .int x1_), (2, .int x2_), (3, .int x3_)] C dX0_comesBack_105 4 rfl (ex14.trans rfl) (Nat.le_of_ble_eq_true rfl) rfl ?_
        refine wr_goto 108 C dX0_comesBack_108 (tgt := 8) (by decide) ?_
        refine wr_sub [(0, .ref (q 0)), (1, .int x1_), (2, .int x2_), (3, .int x3_), (4, .int x14)] [1, 2, 3, 4, 0] rfl ?_
        exact ih x14 μ13 hf
      refine wr_if_eq 36 105 C dX0_comesBack_36 (by decide) (fun c15 => ?_) (fun c15 => ?_)
      · replace hf := o_pos c15 hf
        exact hJcomesBack105  μ11 hf
      · replace hf := o_neg c15 hf
        refine wr_aload_n 39 C dX0_comesBack_39 0 rfl rfl ?_
        refine wr_iload 40 C dX0_comesBack_40 4 rfl ?_
        obtain ⟨v18, μ17, h16, hf⟩ := o_bind hf
        refine wr_Vi (kc1 := 0) (ks1 := 0) 42 [] C dX0_comesBack_42 (tX0_can l N   x4_ μ11 (v18, μ17) h16) okX0_can q844 (b := 0) spX_0 rfl ⟨rfl, rfl, Nat.le_of_ble_eq_true rfl, Nat.le_of_ble_eq_true rfl, Nat.zero_le _, Nat.zero_le _⟩ (Nat.le_of_ble_eq_true rfl) rfl ?_
        refine wr_if_ne 45 51 C dX0_comesBack_45 (by decide) (fun c19 => ?_) (fun c19 => ?_)
        · replace hf := o_neg c19 hf
          refine wr_aload_n 51 C dX0_comesBack_51 0 rfl rfl ?_
          refine wr_iload 52 C dX0_comesBack_52 4 rfl ?_
          obtain ⟨μ21, h20, hf⟩ := o_bindV hf
          refine wr_Vv (kc1 := 0) (ks1 := 0) 54 [] C dX0_comesBack_54 (tX0_does l N   x4_ μ17 μ21 h20) okX0_does q755 (b := 0) spX_0 rfl ⟨rfl, rfl, Nat.le_of_ble_eq_true rfl, Nat.le_of_ble_eq_true rfl, Nat.zero_le _, Nat.zero_le _⟩ (Nat.le_of_ble_eq_true rfl) rfl ?_
          refine wr_aload_n 57 C dX0_comesBack_57 0 rfl rfl ?_
          refine gespX_0_26_X0 58 C dX0_comesBack_58 ?_
          refine wr_iload_n 61 C dX0_comesBack_61 2 rfl rfl ?_
          refine wr_iconst 62 C dX0_comesBack_62 (v := 1) rfl ?_
          refine wr_iadd 63 C dX0_comesBack_63 ?_
          refine wr_aload_n 64 C dX0_comesBack_64 0 rfl rfl ?_
          obtain ⟨v24, μ23, h22, hf⟩ := o_bind hf
          refine wr_Vi (kc1 := 0) (ks1 := 0) 65 [.int (x2_ + (1 : Int32)), .ref (q 17)] C dX0_comesBack_65 (tX0_scene l N    μ21 (v24, μ23) h22) okX0_scene q1110 (b := 0) spX_0 rfl ⟨rfl, rfl, Nat.le_of_ble_eq_true rfl, Nat.le_of_ble_eq_true rfl, Nat.zero_le _, Nat.zero_le _⟩ (Nat.le_of_ble_eq_true rfl) rfl ?_
          obtain ⟨v27, μ26, h25, hf⟩ := o_bind hf
          refine wr_Si (kc1 := 0) (ks1 := 0) 68 [.ref (q 17)] C dX0_comesBack_68 (tX0_spot l N   (x2_ + (1 : Int32)) v24 μ23 (v27, μ26) h25) okX0_spot q1114 ⟨rfl, rfl, Nat.le_of_ble_eq_true rfl, Nat.le_of_ble_eq_true rfl, Nat.zero_le _, Nat.zero_le _⟩ (Nat.le_of_ble_eq_true rfl) rfl ?_
          obtain ⟨g28, hf⟩ := o_g hf
          refine wr_zald 71 C dX0_comesBack_71 spX_17 g28 ?_
          refine wr_if_ne 72 78 C dX0_comesBack_72 (by decide) (fun c29 => ?_) (fun c29 => ?_)
          · replace hf := o_neg c29 hf
            refine wr_aload_n 78 C dX0_comesBack_78 0 rfl rfl ?_
            refine gespX_0_26_X0 79 C dX0_comesBack_79 ?_
            refine wr_iload_n 82 C dX0_comesBack_82 2 rfl rfl ?_
            refine wr_iload_n 83 C dX0_comesBack_83 3 rfl rfl ?_
            obtain ⟨v32, μ31, h30, hf⟩ := o_bind hf
            refine wr_Si (kc1 := 0) (ks1 := 0) 84 [.ref (q 17)] C dX0_comesBack_84 (tX0_spot l N   x2_ x3_ μ26 (v32, μ31) h30) okX0_spot q1114 ⟨rfl, rfl, Nat.le_of_ble_eq_true rfl, Nat.le_of_ble_eq_true rfl, Nat.zero_le _, Nat.zero_le _⟩ (Nat.le_of_ble_eq_true rfl) rfl ?_
            refine wr_iconst 87 C dX0_comesBack_87 (v := 1) rfl ?_
            obtain ⟨g33, hf⟩ := o_g hf
            obtain ⟨μ34, eμ34, hf⟩ := o_let hf
            refine wr_zast 88 C dX0_comesBack_88 spX_17 g33 rfl eμ34 ?_
            refine wr_aload_n 89 C dX0_comesBack_89 0 rfl rfl ?_
            refine gespX_0_27_X0 90 C dX0_comesBack_90 ?_
            refine wr_iload_n 93 C dX0_comesBack_93 2 rfl rfl ?_
            refine wr_dup2 94 C dX0_comesBack_94 rfl rfl ?_
            obtain ⟨g35, hf⟩ := o_g hf
            refine wr_iald 95 C dX0_comesBack_95 spX_18 g35 ?_
            refine wr_iconst 96 C dX0_comesBack_96 (v := 1) rfl ?_
            refine wr_iload 97 C dX0_comesBack_97 4 rfl ?_
            obtain ⟨v38, μ37, h36, hf⟩ := o_bind hf
            refine wr_Si (kc1 := 0) (ks1 := 0) 99 [.int 1, .int (μ34.1 18 (Int32.toNatClampNeg x2_)), .int x2_, .ref (q 18)] C dX0_comesBack_99 (tX0_personIn l N   x4_ μ34 (v38, μ37) h36) okX0_personIn q749 ⟨rfl, rfl, Nat.le_of_ble_eq_true rfl, Nat.le_of_ble_eq_true rfl, Nat.zero_le _, Nat.zero_le _⟩ (Nat.le_of_ble_eq_true rfl) rfl ?_
            refine wr_ishl 102 C dX0_comesBack_102 ?_
            refine wr_ior 103 C dX0_comesBack_103 ?_
            obtain ⟨g39, hf⟩ := o_g hf
            obtain ⟨μ40, eμ40, hf⟩ := o_let hf
            refine wr_iast 104 C dX0_comesBack_104 spX_18 g39 eμ40 ?_
            exact hJcomesBack105  μ40 hf
          · replace hf := o_pos c29 hf
            refine wr_goto 75 C dX0_comesBack_75 (tgt := 105) (by decide) ?_
            exact hJcomesBack105  μ26 hf
        · replace hf := o_pos c19 hf
          refine wr_goto 48 C dX0_comesBack_48 (tgt := 105) (by decide) ?_
          exact hJcomesBack105  μ17 hf
def fX0_comesBack (N : Nat) (c0 t n : Nat)  (a1 : Int32) (a2 : Int32) (a3 : Int32) (μ : wMem) : Option wMem :=
  wBind (fX0_firstBy N c0 t n a1 a2 μ) fun v3 μ2 => gX0_comesBack_8 N c0 t n  a1 a2 a3 (fun  (μ41 : wMem) => some μ41) N v3 μ2
set_option maxHeartbeats 4000000 in
set_option maxRecDepth 100000 in
theorem tX0_comesBack (l : Launch) {D : va_G} {E : List wCell} {q : Nat → Nat} {ca : wCA} (hE : wSlots ca (spX ++ E)) (N : Nat) (c0 t n : Nat)   (a1 : Int32) (a2 : Int32) (a3 : Int32) (μ : wMem) (r0 : wMem) (hi1 : ok_in a1 4 = true) (hb : (spX ++ E)[24 + a1.toNatClampNeg]? = some (.inl (5, [(2, c0)]))) (hr : wRow (spX ++ E) c0 t n) (hf : fX0_comesBack N c0 t n  a1 a2 a3 μ = some r0) : wMv l yX0_comesBack cX0_comesBack 5 none ({ frames := 4, cells := 0, slots := 0, locals := 89 } : Room) D vwCl (spX ++ E) q ca [.ref (q 0), .int a1, .int a2, .int a3] μ r0 := by
  refine wMv_intro (by decide) (Nat.le_of_ble_eq_true rfl) ?_
  intro p e s m args below meth c A C
  unfold fX0_comesBack at hf
  refine wr_sub [(0, .ref (q 0)), (1, .int a1), (2, .int a2), (3, .int a3)] [0, 1, 2, 3] rfl ?_
  refine wr_aload_n 0 C dX0_comesBack_0 0 rfl rfl ?_
  refine wr_iload_n 1 C dX0_comesBack_1 1 rfl rfl ?_
  refine wr_iload_n 2 C dX0_comesBack_2 2 rfl rfl ?_
  obtain ⟨v3, μ2, h1, hf⟩ := o_bind hf
  refine wr_Vi (kc1 := 0) (ks1 := 0) 3 [] C dX0_comesBack_3 (tX0_firstBy l hE N c0 t n a1 a2 μ (v3, μ2) hi1 hb hr h1) okX0_firstBy q1121 (b := 0) spX_0 rfl ⟨rfl, rfl, Nat.le_of_ble_eq_true rfl, Nat.le_of_ble_eq_true rfl, Nat.zero_le _, Nat.zero_le _⟩ (Nat.le_of_ble_eq_true rfl) rfl ?_
  refine wr_istore 6 [(4, .int v3), (0, .ref (q 0)), (1, .int a1), (2, .int a2), (3, .int a3)] C dX0_comesBack_6 rfl (Nat.le_of_ble_eq_true rfl) rfl ?_
  refine wr_sub [(0, .ref (q 0)), (1, .int a1), (2, .int a2), (3, .int a3), (4, .int v3)] [1, 2, 3, 4, 0] rfl ?_
  refine tX0_comesBack_8 C hE N c0 t n   a1 a2 a3 hi1 hb hr _ r0 (fun  μ41 hf => ?_) N v3 μ2 hf
  · replace hf := hf
    exact wr_vret 111 C dX0_comesBack_111 ⟨Nat.zero_le _, Nat.zero_le _⟩ (Option.some.inj hf)
abbrev cX0_goesThrough : ByteArray := prog_1_method_97_code
def yX0_goesThrough : MethodName := ⟨RX0, "goesThrough", "(I)V"⟩
def dkwX0_goesThrough_11 : List UInt8 := [42, 27, 28, 29, 182, 1, 159, 132, 3, 1, 167, 255, 224, 132, 2, 255, 167, 255, 205, 177]
abbrev dktX0_goesThrough_11 : List UInt8 := dkwX0_goesThrough_11 ++ []
def dkwX0_goesThrough_10 : List UInt8 := [3, 62, 29, 17, 12, 64, 162, 0, 31, 42, 180, 0, 69, 28, 29, 184, 1, 146, 47, 9, 148, 158, 0, 10]
abbrev dktX0_goesThrough_10 : List UInt8 := dkwX0_goesThrough_10 ++ dktX0_goesThrough_11
def dkwX0_goesThrough_9 : List UInt8 := [132, 2, 1, 167, 255, 179, 42, 180, 1, 140, 4, 100, 61, 28, 155, 0, 53, 42, 180, 0, 79, 28, 3, 79]
abbrev dktX0_goesThrough_9 : List UInt8 := dkwX0_goesThrough_9 ++ dktX0_goesThrough_10
def dkwX0_goesThrough_8 : List UInt8 := [16, 7, 108, 126, 181, 1, 153, 42, 89, 180, 1, 156, 28, 16, 7, 108, 16, 7, 108, 128, 181, 1, 156]
abbrev dktX0_goesThrough_8 : List UInt8 := dkwX0_goesThrough_8 ++ dktX0_goesThrough_9
def dkwX0_goesThrough_7 : List UInt8 := [42, 180, 0, 76, 42, 180, 1, 140, 28, 184, 1, 146, 4, 84, 42, 89, 180, 1, 153, 28, 16, 7, 108]
abbrev dktX0_goesThrough_7 : List UInt8 := dkwX0_goesThrough_7 ++ dktX0_goesThrough_8
def dkwX0_goesThrough_6 : List UInt8 := [162, 0, 76, 42, 180, 0, 69, 42, 180, 1, 140, 28, 184, 1, 146, 47, 9, 148, 154, 0, 6, 167, 0, 49]
abbrev dktX0_goesThrough_6 : List UInt8 := dkwX0_goesThrough_6 ++ dktX0_goesThrough_7
def dkwX0_goesThrough_5 : List UInt8 := [167, 255, 208, 42, 42, 182, 0, 215, 181, 1, 153, 42, 3, 181, 1, 156, 3, 61, 28, 17, 12, 64]
abbrev dktX0_goesThrough_5 : List UInt8 := dkwX0_goesThrough_5 ++ dktX0_goesThrough_6
def dkwX0_goesThrough_4 : List UInt8 := [47, 9, 148, 158, 0, 10, 42, 27, 28, 29, 182, 1, 149, 132, 3, 1, 167, 255, 224, 132, 2, 1]
abbrev dktX0_goesThrough_4 : List UInt8 := dkwX0_goesThrough_4 ++ dktX0_goesThrough_5
def dkwX0_goesThrough_3 : List UInt8 := [180, 1, 140, 162, 0, 46, 3, 62, 29, 17, 12, 64, 162, 0, 31, 42, 180, 0, 69, 28, 29, 184, 1, 146]
abbrev dktX0_goesThrough_3 : List UInt8 := dkwX0_goesThrough_3 ++ dktX0_goesThrough_4
def dkwX0_goesThrough_2 : List UInt8 := [180, 0, 69, 42, 182, 1, 143, 10, 80, 42, 180, 0, 73, 42, 182, 1, 143, 3, 79, 3, 61, 28, 42]
abbrev dktX0_goesThrough_2 : List UInt8 := dkwX0_goesThrough_2 ++ dktX0_goesThrough_3
def dkwX0_goesThrough_1 : List UInt8 := [19, 1, 35, 79, 42, 180, 0, 76, 28, 3, 84, 132, 2, 1, 167, 255, 221, 42, 182, 0, 222, 42]
abbrev dktX0_goesThrough_1 : List UInt8 := dkwX0_goesThrough_1 ++ dktX0_goesThrough_2
def dkwX0_goesThrough_0 : List UInt8 := [3, 61, 28, 42, 180, 0, 69, 190, 162, 0, 32, 42, 180, 0, 69, 28, 9, 80, 42, 180, 0, 73, 28]
abbrev dktX0_goesThrough_0 : List UInt8 := dkwX0_goesThrough_0 ++ dktX0_goesThrough_1
theorem dksX0_goesThrough_0 : cX0_goesThrough.data.toList.drop 0 = dktX0_goesThrough_0 := by decide +kernel
theorem dksX0_goesThrough_1 : cX0_goesThrough.data.toList.drop 23 = dktX0_goesThrough_1 := dk_seg dksX0_goesThrough_0 23 rfl rfl
theorem dksX0_goesThrough_2 : cX0_goesThrough.data.toList.drop 45 = dktX0_goesThrough_2 := dk_seg dksX0_goesThrough_1 22 rfl rfl
theorem dksX0_goesThrough_3 : cX0_goesThrough.data.toList.drop 68 = dktX0_goesThrough_3 := dk_seg dksX0_goesThrough_2 23 rfl rfl
theorem dksX0_goesThrough_4 : cX0_goesThrough.data.toList.drop 92 = dktX0_goesThrough_4 := dk_seg dksX0_goesThrough_3 24 rfl rfl
theorem dksX0_goesThrough_5 : cX0_goesThrough.data.toList.drop 114 = dktX0_goesThrough_5 := dk_seg dksX0_goesThrough_4 22 rfl rfl
theorem dksX0_goesThrough_6 : cX0_goesThrough.data.toList.drop 136 = dktX0_goesThrough_6 := dk_seg dksX0_goesThrough_5 22 rfl rfl
theorem dksX0_goesThrough_7 : cX0_goesThrough.data.toList.drop 160 = dktX0_goesThrough_7 := dk_seg dksX0_goesThrough_6 24 rfl rfl
theorem dksX0_goesThrough_8 : cX0_goesThrough.data.toList.drop 183 = dktX0_goesThrough_8 := dk_seg dksX0_goesThrough_7 23 rfl rfl
theorem dksX0_goesThrough_9 : cX0_goesThrough.data.toList.drop 206 = dktX0_goesThrough_9 := dk_seg dksX0_goesThrough_8 23 rfl rfl
theorem dksX0_goesThrough_10 : cX0_goesThrough.data.toList.drop 230 = dktX0_goesThrough_10 := dk_seg dksX0_goesThrough_9 24 rfl rfl
theorem dksX0_goesThrough_11 : cX0_goesThrough.data.toList.drop 254 = dktX0_goesThrough_11 := dk_seg dksX0_goesThrough_10 24 rfl rfl
theorem dX0_goesThrough_0 : decode cX0_goesThrough 0 = .ok (.iconst 0, 1) := dk_3 (dk_at dksX0_goesThrough_0 0 rfl rfl)
theorem dX0_goesThrough_1 : decode cX0_goesThrough 1 = .ok (.istore_n 2, 1) := dk_61 (dk_at dksX0_goesThrough_0 1 rfl rfl)
theorem dX0_goesThrough_2 : decode cX0_goesThrough 2 = .ok (.iload_n 2, 1) := dk_28 (dk_at dksX0_goesThrough_0 2 rfl rfl)
theorem dX0_goesThrough_3 : decode cX0_goesThrough 3 = .ok (.aload_n 0, 1) := dk_42 (dk_at dksX0_goesThrough_0 3 rfl rfl)
theorem dX0_goesThrough_4 : decode cX0_goesThrough 4 = .ok (.getfield 69, 3) := dk_180 0 69 (dk_at dksX0_goesThrough_0 4 rfl rfl)
theorem dX0_goesThrough_7 : decode cX0_goesThrough 7 = .ok (.arraylength, 1) := dk_190 (dk_at dksX0_goesThrough_0 7 rfl rfl)
theorem dX0_goesThrough_8 : decode cX0_goesThrough 8 = .ok (.if_icmp .ge 32, 3) := dk_162 0 32 (dk_at dksX0_goesThrough_0 8 rfl rfl)
theorem dX0_goesThrough_11 : decode cX0_goesThrough 11 = .ok (.aload_n 0, 1) := dk_42 (dk_at dksX0_goesThrough_0 11 rfl rfl)
theorem dX0_goesThrough_12 : decode cX0_goesThrough 12 = .ok (.getfield 69, 3) := dk_180 0 69 (dk_at dksX0_goesThrough_0 12 rfl rfl)
theorem dX0_goesThrough_15 : decode cX0_goesThrough 15 = .ok (.iload_n 2, 1) := dk_28 (dk_at dksX0_goesThrough_0 15 rfl rfl)
theorem dX0_goesThrough_16 : decode cX0_goesThrough 16 = .ok (.lconst 0, 1) := dk_9 (dk_at dksX0_goesThrough_0 16 rfl rfl)
theorem dX0_goesThrough_17 : decode cX0_goesThrough 17 = .ok (.lastore, 1) := dk_80 (dk_at dksX0_goesThrough_0 17 rfl rfl)
theorem dX0_goesThrough_18 : decode cX0_goesThrough 18 = .ok (.aload_n 0, 1) := dk_42 (dk_at dksX0_goesThrough_0 18 rfl rfl)
theorem dX0_goesThrough_19 : decode cX0_goesThrough 19 = .ok (.getfield 73, 3) := dk_180 0 73 (dk_at dksX0_goesThrough_0 19 rfl rfl)
theorem dX0_goesThrough_22 : decode cX0_goesThrough 22 = .ok (.iload_n 2, 1) := dk_28 (dk_at dksX0_goesThrough_0 22 rfl rfl)
theorem dX0_goesThrough_23 : decode cX0_goesThrough 23 = .ok (.ldc_w 291, 3) := dk_19 1 35 (dk_at dksX0_goesThrough_1 0 rfl rfl)
theorem dX0_goesThrough_26 : decode cX0_goesThrough 26 = .ok (.iastore, 1) := dk_79 (dk_at dksX0_goesThrough_1 3 rfl rfl)
theorem dX0_goesThrough_27 : decode cX0_goesThrough 27 = .ok (.aload_n 0, 1) := dk_42 (dk_at dksX0_goesThrough_1 4 rfl rfl)
theorem dX0_goesThrough_28 : decode cX0_goesThrough 28 = .ok (.getfield 76, 3) := dk_180 0 76 (dk_at dksX0_goesThrough_1 5 rfl rfl)
theorem dX0_goesThrough_31 : decode cX0_goesThrough 31 = .ok (.iload_n 2, 1) := dk_28 (dk_at dksX0_goesThrough_1 8 rfl rfl)
theorem dX0_goesThrough_32 : decode cX0_goesThrough 32 = .ok (.iconst 0, 1) := dk_3 (dk_at dksX0_goesThrough_1 9 rfl rfl)
theorem dX0_goesThrough_33 : decode cX0_goesThrough 33 = .ok (.bastore, 1) := dk_84 (dk_at dksX0_goesThrough_1 10 rfl rfl)
theorem dX0_goesThrough_34 : decode cX0_goesThrough 34 = .ok (.iinc 2 1, 3) := dk_132 2 1 (dk_at dksX0_goesThrough_1 11 rfl rfl)
theorem dX0_goesThrough_37 : decode cX0_goesThrough 37 = .ok (.goto (-35), 3) := dk_167 255 221 (dk_at dksX0_goesThrough_1 14 rfl rfl)
theorem dX0_goesThrough_40 : decode cX0_goesThrough 40 = .ok (.aload_n 0, 1) := dk_42 (dk_at dksX0_goesThrough_1 17 rfl rfl)
theorem dX0_goesThrough_41 : decode cX0_goesThrough 41 = .ok (.invokevirtual 222, 3) := dk_182 0 222 (dk_at dksX0_goesThrough_1 18 rfl rfl)
theorem dX0_goesThrough_44 : decode cX0_goesThrough 44 = .ok (.aload_n 0, 1) := dk_42 (dk_at dksX0_goesThrough_1 21 rfl rfl)
theorem dX0_goesThrough_45 : decode cX0_goesThrough 45 = .ok (.getfield 69, 3) := dk_180 0 69 (dk_at dksX0_goesThrough_2 0 rfl rfl)
theorem dX0_goesThrough_48 : decode cX0_goesThrough 48 = .ok (.aload_n 0, 1) := dk_42 (dk_at dksX0_goesThrough_2 3 rfl rfl)
theorem dX0_goesThrough_49 : decode cX0_goesThrough 49 = .ok (.invokevirtual 399, 3) := dk_182 1 143 (dk_at dksX0_goesThrough_2 4 rfl rfl)
theorem dX0_goesThrough_52 : decode cX0_goesThrough 52 = .ok (.lconst 1, 1) := dk_10 (dk_at dksX0_goesThrough_2 7 rfl rfl)
theorem dX0_goesThrough_53 : decode cX0_goesThrough 53 = .ok (.lastore, 1) := dk_80 (dk_at dksX0_goesThrough_2 8 rfl rfl)
theorem dX0_goesThrough_54 : decode cX0_goesThrough 54 = .ok (.aload_n 0, 1) := dk_42 (dk_at dksX0_goesThrough_2 9 rfl rfl)
theorem dX0_goesThrough_55 : decode cX0_goesThrough 55 = .ok (.getfield 73, 3) := dk_180 0 73 (dk_at dksX0_goesThrough_2 10 rfl rfl)
theorem dX0_goesThrough_58 : decode cX0_goesThrough 58 = .ok (.aload_n 0, 1) := dk_42 (dk_at dksX0_goesThrough_2 13 rfl rfl)
theorem dX0_goesThrough_59 : decode cX0_goesThrough 59 = .ok (.invokevirtual 399, 3) := dk_182 1 143 (dk_at dksX0_goesThrough_2 14 rfl rfl)
theorem dX0_goesThrough_62 : decode cX0_goesThrough 62 = .ok (.iconst 0, 1) := dk_3 (dk_at dksX0_goesThrough_2 17 rfl rfl)
theorem dX0_goesThrough_63 : decode cX0_goesThrough 63 = .ok (.iastore, 1) := dk_79 (dk_at dksX0_goesThrough_2 18 rfl rfl)
theorem dX0_goesThrough_64 : decode cX0_goesThrough 64 = .ok (.iconst 0, 1) := dk_3 (dk_at dksX0_goesThrough_2 19 rfl rfl)
theorem dX0_goesThrough_65 : decode cX0_goesThrough 65 = .ok (.istore_n 2, 1) := dk_61 (dk_at dksX0_goesThrough_2 20 rfl rfl)
theorem dX0_goesThrough_66 : decode cX0_goesThrough 66 = .ok (.iload_n 2, 1) := dk_28 (dk_at dksX0_goesThrough_2 21 rfl rfl)
theorem dX0_goesThrough_67 : decode cX0_goesThrough 67 = .ok (.aload_n 0, 1) := dk_42 (dk_at dksX0_goesThrough_2 22 rfl rfl)
theorem dX0_goesThrough_68 : decode cX0_goesThrough 68 = .ok (.getfield 396, 3) := dk_180 1 140 (dk_at dksX0_goesThrough_3 0 rfl rfl)
theorem dX0_goesThrough_71 : decode cX0_goesThrough 71 = .ok (.if_icmp .ge 46, 3) := dk_162 0 46 (dk_at dksX0_goesThrough_3 3 rfl rfl)
theorem dX0_goesThrough_74 : decode cX0_goesThrough 74 = .ok (.iconst 0, 1) := dk_3 (dk_at dksX0_goesThrough_3 6 rfl rfl)
theorem dX0_goesThrough_75 : decode cX0_goesThrough 75 = .ok (.istore_n 3, 1) := dk_62 (dk_at dksX0_goesThrough_3 7 rfl rfl)
theorem dX0_goesThrough_76 : decode cX0_goesThrough 76 = .ok (.iload_n 3, 1) := dk_29 (dk_at dksX0_goesThrough_3 8 rfl rfl)
theorem dX0_goesThrough_77 : decode cX0_goesThrough 77 = .ok (.sipush 3136, 3) := dk_17 12 64 (dk_at dksX0_goesThrough_3 9 rfl rfl)
theorem dX0_goesThrough_80 : decode cX0_goesThrough 80 = .ok (.if_icmp .ge 31, 3) := dk_162 0 31 (dk_at dksX0_goesThrough_3 12 rfl rfl)
theorem dX0_goesThrough_83 : decode cX0_goesThrough 83 = .ok (.aload_n 0, 1) := dk_42 (dk_at dksX0_goesThrough_3 15 rfl rfl)
theorem dX0_goesThrough_84 : decode cX0_goesThrough 84 = .ok (.getfield 69, 3) := dk_180 0 69 (dk_at dksX0_goesThrough_3 16 rfl rfl)
theorem dX0_goesThrough_87 : decode cX0_goesThrough 87 = .ok (.iload_n 2, 1) := dk_28 (dk_at dksX0_goesThrough_3 19 rfl rfl)
theorem dX0_goesThrough_88 : decode cX0_goesThrough 88 = .ok (.iload_n 3, 1) := dk_29 (dk_at dksX0_goesThrough_3 20 rfl rfl)
theorem dX0_goesThrough_89 : decode cX0_goesThrough 89 = .ok (.invokestatic 402, 3) := dk_184 1 146 (dk_at dksX0_goesThrough_3 21 rfl rfl)
theorem dX0_goesThrough_92 : decode cX0_goesThrough 92 = .ok (.laload, 1) := dk_47 (dk_at dksX0_goesThrough_4 0 rfl rfl)
theorem dX0_goesThrough_93 : decode cX0_goesThrough 93 = .ok (.lconst 0, 1) := dk_9 (dk_at dksX0_goesThrough_4 1 rfl rfl)
theorem dX0_goesThrough_94 : decode cX0_goesThrough 94 = .ok (.lcmp, 1) := dk_148 (dk_at dksX0_goesThrough_4 2 rfl rfl)
theorem dX0_goesThrough_95 : decode cX0_goesThrough 95 = .ok (.ifCond .le 10, 3) := dk_158 0 10 (dk_at dksX0_goesThrough_4 3 rfl rfl)
theorem dX0_goesThrough_98 : decode cX0_goesThrough 98 = .ok (.aload_n 0, 1) := dk_42 (dk_at dksX0_goesThrough_4 6 rfl rfl)
theorem dX0_goesThrough_99 : decode cX0_goesThrough 99 = .ok (.iload_n 1, 1) := dk_27 (dk_at dksX0_goesThrough_4 7 rfl rfl)
theorem dX0_goesThrough_100 : decode cX0_goesThrough 100 = .ok (.iload_n 2, 1) := dk_28 (dk_at dksX0_goesThrough_4 8 rfl rfl)
theorem dX0_goesThrough_101 : decode cX0_goesThrough 101 = .ok (.iload_n 3, 1) := dk_29 (dk_at dksX0_goesThrough_4 9 rfl rfl)
theorem dX0_goesThrough_102 : decode cX0_goesThrough 102 = .ok (.invokevirtual 405, 3) := dk_182 1 149 (dk_at dksX0_goesThrough_4 10 rfl rfl)
theorem dX0_goesThrough_105 : decode cX0_goesThrough 105 = .ok (.iinc 3 1, 3) := dk_132 3 1 (dk_at dksX0_goesThrough_4 13 rfl rfl)
theorem dX0_goesThrough_108 : decode cX0_goesThrough 108 = .ok (.goto (-32), 3) := dk_167 255 224 (dk_at dksX0_goesThrough_4 16 rfl rfl)
theorem dX0_goesThrough_111 : decode cX0_goesThrough 111 = .ok (.iinc 2 1, 3) := dk_132 2 1 (dk_at dksX0_goesThrough_4 19 rfl rfl)
theorem dX0_goesThrough_114 : decode cX0_goesThrough 114 = .ok (.goto (-48), 3) := dk_167 255 208 (dk_at dksX0_goesThrough_5 0 rfl rfl)
theorem dX0_goesThrough_117 : decode cX0_goesThrough 117 = .ok (.aload_n 0, 1) := dk_42 (dk_at dksX0_goesThrough_5 3 rfl rfl)
theorem dX0_goesThrough_118 : decode cX0_goesThrough 118 = .ok (.aload_n 0, 1) := dk_42 (dk_at dksX0_goesThrough_5 4 rfl rfl)
theorem dX0_goesThrough_119 : decode cX0_goesThrough 119 = .ok (.invokevirtual 215, 3) := dk_182 0 215 (dk_at dksX0_goesThrough_5 5 rfl rfl)
theorem dX0_goesThrough_122 : decode cX0_goesThrough 122 = .ok (.putfield 409, 3) := dk_181 1 153 (dk_at dksX0_goesThrough_5 8 rfl rfl)
theorem dX0_goesThrough_125 : decode cX0_goesThrough 125 = .ok (.aload_n 0, 1) := dk_42 (dk_at dksX0_goesThrough_5 11 rfl rfl)
theorem dX0_goesThrough_126 : decode cX0_goesThrough 126 = .ok (.iconst 0, 1) := dk_3 (dk_at dksX0_goesThrough_5 12 rfl rfl)
theorem dX0_goesThrough_127 : decode cX0_goesThrough 127 = .ok (.putfield 412, 3) := dk_181 1 156 (dk_at dksX0_goesThrough_5 13 rfl rfl)
theorem dX0_goesThrough_130 : decode cX0_goesThrough 130 = .ok (.iconst 0, 1) := dk_3 (dk_at dksX0_goesThrough_5 16 rfl rfl)
theorem dX0_goesThrough_131 : decode cX0_goesThrough 131 = .ok (.istore_n 2, 1) := dk_61 (dk_at dksX0_goesThrough_5 17 rfl rfl)
theorem dX0_goesThrough_132 : decode cX0_goesThrough 132 = .ok (.iload_n 2, 1) := dk_28 (dk_at dksX0_goesThrough_5 18 rfl rfl)
theorem dX0_goesThrough_133 : decode cX0_goesThrough 133 = .ok (.sipush 3136, 3) := dk_17 12 64 (dk_at dksX0_goesThrough_5 19 rfl rfl)
theorem dX0_goesThrough_136 : decode cX0_goesThrough 136 = .ok (.if_icmp .ge 76, 3) := dk_162 0 76 (dk_at dksX0_goesThrough_6 0 rfl rfl)
theorem dX0_goesThrough_139 : decode cX0_goesThrough 139 = .ok (.aload_n 0, 1) := dk_42 (dk_at dksX0_goesThrough_6 3 rfl rfl)
theorem dX0_goesThrough_140 : decode cX0_goesThrough 140 = .ok (.getfield 69, 3) := dk_180 0 69 (dk_at dksX0_goesThrough_6 4 rfl rfl)
theorem dX0_goesThrough_143 : decode cX0_goesThrough 143 = .ok (.aload_n 0, 1) := dk_42 (dk_at dksX0_goesThrough_6 7 rfl rfl)
theorem dX0_goesThrough_144 : decode cX0_goesThrough 144 = .ok (.getfield 396, 3) := dk_180 1 140 (dk_at dksX0_goesThrough_6 8 rfl rfl)
theorem dX0_goesThrough_147 : decode cX0_goesThrough 147 = .ok (.iload_n 2, 1) := dk_28 (dk_at dksX0_goesThrough_6 11 rfl rfl)
theorem dX0_goesThrough_148 : decode cX0_goesThrough 148 = .ok (.invokestatic 402, 3) := dk_184 1 146 (dk_at dksX0_goesThrough_6 12 rfl rfl)
theorem dX0_goesThrough_151 : decode cX0_goesThrough 151 = .ok (.laload, 1) := dk_47 (dk_at dksX0_goesThrough_6 15 rfl rfl)
theorem dX0_goesThrough_152 : decode cX0_goesThrough 152 = .ok (.lconst 0, 1) := dk_9 (dk_at dksX0_goesThrough_6 16 rfl rfl)
theorem dX0_goesThrough_153 : decode cX0_goesThrough 153 = .ok (.lcmp, 1) := dk_148 (dk_at dksX0_goesThrough_6 17 rfl rfl)
theorem dX0_goesThrough_154 : decode cX0_goesThrough 154 = .ok (.ifCond .ne 6, 3) := dk_154 0 6 (dk_at dksX0_goesThrough_6 18 rfl rfl)
theorem dX0_goesThrough_157 : decode cX0_goesThrough 157 = .ok (.goto 49, 3) := dk_167 0 49 (dk_at dksX0_goesThrough_6 21 rfl rfl)
theorem dX0_goesThrough_160 : decode cX0_goesThrough 160 = .ok (.aload_n 0, 1) := dk_42 (dk_at dksX0_goesThrough_7 0 rfl rfl)
theorem dX0_goesThrough_161 : decode cX0_goesThrough 161 = .ok (.getfield 76, 3) := dk_180 0 76 (dk_at dksX0_goesThrough_7 1 rfl rfl)
theorem dX0_goesThrough_164 : decode cX0_goesThrough 164 = .ok (.aload_n 0, 1) := dk_42 (dk_at dksX0_goesThrough_7 4 rfl rfl)
theorem dX0_goesThrough_165 : decode cX0_goesThrough 165 = .ok (.getfield 396, 3) := dk_180 1 140 (dk_at dksX0_goesThrough_7 5 rfl rfl)
theorem dX0_goesThrough_168 : decode cX0_goesThrough 168 = .ok (.iload_n 2, 1) := dk_28 (dk_at dksX0_goesThrough_7 8 rfl rfl)
theorem dX0_goesThrough_169 : decode cX0_goesThrough 169 = .ok (.invokestatic 402, 3) := dk_184 1 146 (dk_at dksX0_goesThrough_7 9 rfl rfl)
theorem dX0_goesThrough_172 : decode cX0_goesThrough 172 = .ok (.iconst 1, 1) := dk_4 (dk_at dksX0_goesThrough_7 12 rfl rfl)
theorem dX0_goesThrough_173 : decode cX0_goesThrough 173 = .ok (.bastore, 1) := dk_84 (dk_at dksX0_goesThrough_7 13 rfl rfl)
theorem dX0_goesThrough_174 : decode cX0_goesThrough 174 = .ok (.aload_n 0, 1) := dk_42 (dk_at dksX0_goesThrough_7 14 rfl rfl)
theorem dX0_goesThrough_175 : decode cX0_goesThrough 175 = .ok (.dup, 1) := dk_89 (dk_at dksX0_goesThrough_7 15 rfl rfl)
theorem dX0_goesThrough_176 : decode cX0_goesThrough 176 = .ok (.getfield 409, 3) := dk_180 1 153 (dk_at dksX0_goesThrough_7 16 rfl rfl)
theorem dX0_goesThrough_179 : decode cX0_goesThrough 179 = .ok (.iload_n 2, 1) := dk_28 (dk_at dksX0_goesThrough_7 19 rfl rfl)
theorem dX0_goesThrough_180 : decode cX0_goesThrough 180 = .ok (.bipush 7, 2) := dk_16 7 (dk_at dksX0_goesThrough_7 20 rfl rfl)
theorem dX0_goesThrough_182 : decode cX0_goesThrough 182 = .ok (.idiv, 1) := dk_108 (dk_at dksX0_goesThrough_7 22 rfl rfl)
theorem dX0_goesThrough_183 : decode cX0_goesThrough 183 = .ok (.bipush 7, 2) := dk_16 7 (dk_at dksX0_goesThrough_8 0 rfl rfl)
theorem dX0_goesThrough_185 : decode cX0_goesThrough 185 = .ok (.idiv, 1) := dk_108 (dk_at dksX0_goesThrough_8 2 rfl rfl)
theorem dX0_goesThrough_186 : decode cX0_goesThrough 186 = .ok (.iand, 1) := dk_126 (dk_at dksX0_goesThrough_8 3 rfl rfl)
theorem dX0_goesThrough_187 : decode cX0_goesThrough 187 = .ok (.putfield 409, 3) := dk_181 1 153 (dk_at dksX0_goesThrough_8 4 rfl rfl)
theorem dX0_goesThrough_190 : decode cX0_goesThrough 190 = .ok (.aload_n 0, 1) := dk_42 (dk_at dksX0_goesThrough_8 7 rfl rfl)
theorem dX0_goesThrough_191 : decode cX0_goesThrough 191 = .ok (.dup, 1) := dk_89 (dk_at dksX0_goesThrough_8 8 rfl rfl)
theorem dX0_goesThrough_192 : decode cX0_goesThrough 192 = .ok (.getfield 412, 3) := dk_180 1 156 (dk_at dksX0_goesThrough_8 9 rfl rfl)
theorem dX0_goesThrough_195 : decode cX0_goesThrough 195 = .ok (.iload_n 2, 1) := dk_28 (dk_at dksX0_goesThrough_8 12 rfl rfl)
theorem dX0_goesThrough_196 : decode cX0_goesThrough 196 = .ok (.bipush 7, 2) := dk_16 7 (dk_at dksX0_goesThrough_8 13 rfl rfl)
theorem dX0_goesThrough_198 : decode cX0_goesThrough 198 = .ok (.idiv, 1) := dk_108 (dk_at dksX0_goesThrough_8 15 rfl rfl)
theorem dX0_goesThrough_199 : decode cX0_goesThrough 199 = .ok (.bipush 7, 2) := dk_16 7 (dk_at dksX0_goesThrough_8 16 rfl rfl)
theorem dX0_goesThrough_201 : decode cX0_goesThrough 201 = .ok (.idiv, 1) := dk_108 (dk_at dksX0_goesThrough_8 18 rfl rfl)
theorem dX0_goesThrough_202 : decode cX0_goesThrough 202 = .ok (.ior, 1) := dk_128 (dk_at dksX0_goesThrough_8 19 rfl rfl)
theorem dX0_goesThrough_203 : decode cX0_goesThrough 203 = .ok (.putfield 412, 3) := dk_181 1 156 (dk_at dksX0_goesThrough_8 20 rfl rfl)
theorem dX0_goesThrough_206 : decode cX0_goesThrough 206 = .ok (.iinc 2 1, 3) := dk_132 2 1 (dk_at dksX0_goesThrough_9 0 rfl rfl)
theorem dX0_goesThrough_209 : decode cX0_goesThrough 209 = .ok (.goto (-77), 3) := dk_167 255 179 (dk_at dksX0_goesThrough_9 3 rfl rfl)
theorem dX0_goesThrough_212 : decode cX0_goesThrough 212 = .ok (.aload_n 0, 1) := dk_42 (dk_at dksX0_goesThrough_9 6 rfl rfl)
theorem dX0_goesThrough_213 : decode cX0_goesThrough 213 = .ok (.getfield 396, 3) := dk_180 1 140 (dk_at dksX0_goesThrough_9 7 rfl rfl)
theorem dX0_goesThrough_216 : decode cX0_goesThrough 216 = .ok (.iconst 1, 1) := dk_4 (dk_at dksX0_goesThrough_9 10 rfl rfl)
theorem dX0_goesThrough_217 : decode cX0_goesThrough 217 = .ok (.isub, 1) := dk_100 (dk_at dksX0_goesThrough_9 11 rfl rfl)
theorem dX0_goesThrough_218 : decode cX0_goesThrough 218 = .ok (.istore_n 2, 1) := dk_61 (dk_at dksX0_goesThrough_9 12 rfl rfl)
theorem dX0_goesThrough_219 : decode cX0_goesThrough 219 = .ok (.iload_n 2, 1) := dk_28 (dk_at dksX0_goesThrough_9 13 rfl rfl)
theorem dX0_goesThrough_220 : decode cX0_goesThrough 220 = .ok (.ifCond .lt 53, 3) := dk_155 0 53 (dk_at dksX0_goesThrough_9 14 rfl rfl)
theorem dX0_goesThrough_223 : decode cX0_goesThrough 223 = .ok (.aload_n 0, 1) := dk_42 (dk_at dksX0_goesThrough_9 17 rfl rfl)
theorem dX0_goesThrough_224 : decode cX0_goesThrough 224 = .ok (.getfield 79, 3) := dk_180 0 79 (dk_at dksX0_goesThrough_9 18 rfl rfl)
theorem dX0_goesThrough_227 : decode cX0_goesThrough 227 = .ok (.iload_n 2, 1) := dk_28 (dk_at dksX0_goesThrough_9 21 rfl rfl)
theorem dX0_goesThrough_228 : decode cX0_goesThrough 228 = .ok (.iconst 0, 1) := dk_3 (dk_at dksX0_goesThrough_9 22 rfl rfl)
theorem dX0_goesThrough_229 : decode cX0_goesThrough 229 = .ok (.iastore, 1) := dk_79 (dk_at dksX0_goesThrough_9 23 rfl rfl)
theorem dX0_goesThrough_230 : decode cX0_goesThrough 230 = .ok (.iconst 0, 1) := dk_3 (dk_at dksX0_goesThrough_10 0 rfl rfl)
theorem dX0_goesThrough_231 : decode cX0_goesThrough 231 = .ok (.istore_n 3, 1) := dk_62 (dk_at dksX0_goesThrough_10 1 rfl rfl)
theorem dX0_goesThrough_232 : decode cX0_goesThrough 232 = .ok (.iload_n 3, 1) := dk_29 (dk_at dksX0_goesThrough_10 2 rfl rfl)
theorem dX0_goesThrough_233 : decode cX0_goesThrough 233 = .ok (.sipush 3136, 3) := dk_17 12 64 (dk_at dksX0_goesThrough_10 3 rfl rfl)
theorem dX0_goesThrough_236 : decode cX0_goesThrough 236 = .ok (.if_icmp .ge 31, 3) := dk_162 0 31 (dk_at dksX0_goesThrough_10 6 rfl rfl)
theorem dX0_goesThrough_239 : decode cX0_goesThrough 239 = .ok (.aload_n 0, 1) := dk_42 (dk_at dksX0_goesThrough_10 9 rfl rfl)
theorem dX0_goesThrough_240 : decode cX0_goesThrough 240 = .ok (.getfield 69, 3) := dk_180 0 69 (dk_at dksX0_goesThrough_10 10 rfl rfl)
theorem dX0_goesThrough_243 : decode cX0_goesThrough 243 = .ok (.iload_n 2, 1) := dk_28 (dk_at dksX0_goesThrough_10 13 rfl rfl)
theorem dX0_goesThrough_244 : decode cX0_goesThrough 244 = .ok (.iload_n 3, 1) := dk_29 (dk_at dksX0_goesThrough_10 14 rfl rfl)
theorem dX0_goesThrough_245 : decode cX0_goesThrough 245 = .ok (.invokestatic 402, 3) := dk_184 1 146 (dk_at dksX0_goesThrough_10 15 rfl rfl)
theorem dX0_goesThrough_248 : decode cX0_goesThrough 248 = .ok (.laload, 1) := dk_47 (dk_at dksX0_goesThrough_10 18 rfl rfl)
theorem dX0_goesThrough_249 : decode cX0_goesThrough 249 = .ok (.lconst 0, 1) := dk_9 (dk_at dksX0_goesThrough_10 19 rfl rfl)
theorem dX0_goesThrough_250 : decode cX0_goesThrough 250 = .ok (.lcmp, 1) := dk_148 (dk_at dksX0_goesThrough_10 20 rfl rfl)
theorem dX0_goesThrough_251 : decode cX0_goesThrough 251 = .ok (.ifCond .le 10, 3) := dk_158 0 10 (dk_at dksX0_goesThrough_10 21 rfl rfl)
theorem dX0_goesThrough_254 : decode cX0_goesThrough 254 = .ok (.aload_n 0, 1) := dk_42 (dk_at dksX0_goesThrough_11 0 rfl rfl)
theorem dX0_goesThrough_255 : decode cX0_goesThrough 255 = .ok (.iload_n 1, 1) := dk_27 (dk_at dksX0_goesThrough_11 1 rfl rfl)
theorem dX0_goesThrough_256 : decode cX0_goesThrough 256 = .ok (.iload_n 2, 1) := dk_28 (dk_at dksX0_goesThrough_11 2 rfl rfl)
theorem dX0_goesThrough_257 : decode cX0_goesThrough 257 = .ok (.iload_n 3, 1) := dk_29 (dk_at dksX0_goesThrough_11 3 rfl rfl)
theorem dX0_goesThrough_258 : decode cX0_goesThrough 258 = .ok (.invokevirtual 415, 3) := dk_182 1 159 (dk_at dksX0_goesThrough_11 4 rfl rfl)
theorem dX0_goesThrough_261 : decode cX0_goesThrough 261 = .ok (.iinc 3 1, 3) := dk_132 3 1 (dk_at dksX0_goesThrough_11 7 rfl rfl)
theorem dX0_goesThrough_264 : decode cX0_goesThrough 264 = .ok (.goto (-32), 3) := dk_167 255 224 (dk_at dksX0_goesThrough_11 10 rfl rfl)
theorem dX0_goesThrough_267 : decode cX0_goesThrough 267 = .ok (.iinc 2 (-1), 3) := dk_132 2 255 (dk_at dksX0_goesThrough_11 13 rfl rfl)
theorem dX0_goesThrough_270 : decode cX0_goesThrough 270 = .ok (.goto (-51), 3) := dk_167 255 205 (dk_at dksX0_goesThrough_11 16 rfl rfl)
theorem dX0_goesThrough_273 : decode cX0_goesThrough 273 = .ok (.return_, 1) := dk_177 (dk_at dksX0_goesThrough_11 19 rfl rfl)
theorem gespX_0_29_X0 {p : Program} {l : Launch} {e : Env} {R : Room} {s : State} {m : MethodId} {args : Array Value} {below : List Frame} {meth : Method} {c : Code} {cc : ByteArray} {nL : Nat} {ret : Option FieldType} {D : va_G} {E : List wCell} {q : Nat → Nat} {ca : wCA} {A : Nat → Prop} {Q : State → Prop} {kc ks : Nat} {μ : wMem} {lv : List (Nat × Value)} {st : List Value} (pc : Nat) (C : wC p R s m args meth c cc "OnePassport" nL ret D vwCl (spX ++ E) q ca A) (hd : decode cc pc = .ok (.getfield 409, 3)) (k : wJ p l e R s m args below meth c nL D vwCl (spX ++ E) q ca A Q kc ks μ (pc + 3) lv (.int (μ.1 0 29) :: st)) : wJ p l e R s m args below meth c nL D vwCl (spX ++ E) q ca A Q kc ks μ pc lv (.ref (q 0) :: st) := wr_getI pc 29 C hd spX_0 rfl in_X0 (by decide) rfl q360 k
theorem puspX_0_29_X0 {p : Program} {l : Launch} {e : Env} {R : Room} {s : State} {m : MethodId} {args : Array Value} {below : List Frame} {meth : Method} {c : Code} {cc : ByteArray} {nL : Nat} {ret : Option FieldType} {D : va_G} {E : List wCell} {q : Nat → Nat} {ca : wCA} {A : Nat → Prop} {Q : State → Prop} {kc ks : Nat} {μ : wMem} {lv : List (Nat × Value)} {st : List Value} {v : Int32} {μ1 : wMem} (pc : Nat) (C : wC p R s m args meth c cc "OnePassport" nL ret D vwCl (spX ++ E) q ca A) (hd : decode cc pc = .ok (.putfield 409, 3)) (hμ : μ1 = wSI μ 0 29 v) (k : wJ p l e R s m args below meth c nL D vwCl (spX ++ E) q ca A Q kc ks μ1 (pc + 3) lv st) : wJ p l e R s m args below meth c nL D vwCl (spX ++ E) q ca A Q kc ks μ pc lv (.int v :: .ref (q 0) :: st) := wr_putI pc 29 C hd spX_0 rfl in_X0 tyX0 tyX0_ok nmX0 (by decide) rfl q360 rfl rfl hμ k
theorem gespX_0_30_X0 {p : Program} {l : Launch} {e : Env} {R : Room} {s : State} {m : MethodId} {args : Array Value} {below : List Frame} {meth : Method} {c : Code} {cc : ByteArray} {nL : Nat} {ret : Option FieldType} {D : va_G} {E : List wCell} {q : Nat → Nat} {ca : wCA} {A : Nat → Prop} {Q : State → Prop} {kc ks : Nat} {μ : wMem} {lv : List (Nat × Value)} {st : List Value} (pc : Nat) (C : wC p R s m args meth c cc "OnePassport" nL ret D vwCl (spX ++ E) q ca A) (hd : decode cc pc = .ok (.getfield 412, 3)) (k : wJ p l e R s m args below meth c nL D vwCl (spX ++ E) q ca A Q kc ks μ (pc + 3) lv (.int (μ.1 0 30) :: st)) : wJ p l e R s m args below meth c nL D vwCl (spX ++ E) q ca A Q kc ks μ pc lv (.ref (q 0) :: st) := wr_getI pc 30 C hd spX_0 rfl in_X0 (by decide) rfl q361 k
theorem puspX_0_30_X0 {p : Program} {l : Launch} {e : Env} {R : Room} {s : State} {m : MethodId} {args : Array Value} {below : List Frame} {meth : Method} {c : Code} {cc : ByteArray} {nL : Nat} {ret : Option FieldType} {D : va_G} {E : List wCell} {q : Nat → Nat} {ca : wCA} {A : Nat → Prop} {Q : State → Prop} {kc ks : Nat} {μ : wMem} {lv : List (Nat × Value)} {st : List Value} {v : Int32} {μ1 : wMem} (pc : Nat) (C : wC p R s m args meth c cc "OnePassport" nL ret D vwCl (spX ++ E) q ca A) (hd : decode cc pc = .ok (.putfield 412, 3)) (hμ : μ1 = wSI μ 0 30 v) (k : wJ p l e R s m args below meth c nL D vwCl (spX ++ E) q ca A Q kc ks μ1 (pc + 3) lv st) : wJ p l e R s m args below meth c nL D vwCl (spX ++ E) q ca A Q kc ks μ pc lv (.int v :: .ref (q 0) :: st) := wr_putI pc 30 C hd spX_0 rfl in_X0 tyX0 tyX0_ok nmX0 (by decide) rfl q361 rfl rfl hμ k
theorem okX0_goesThrough : wOkV yX0_goesThrough cX0_goesThrough 4 none 1 := ⟨q1108, qs57, q136, q1109, by decide, by decide, by decide +kernel⟩
def gbX0_goesThrough_2 (N : Nat) (c0 t n : Nat)  (x1_ : Int32) (K : (wMem → Option wMem)) (rec : (Int32 → wMem → Option wMem)) (x2_ : Int32) (μ : wMem) : Option wMem :=
  if (Int32.ofNat 40768) ≤ x2_ then K  μ else wG (ok_in x2_ 40768) (wLet (wSL μ 15 (Int32.toNatClampNeg x2_) (0 : Int64)) fun μ3 => wG (ok_in x2_ 40768) (wLet (wSI μ3 16 (Int32.toNatClampNeg x2_) (1000000000 : Int32)) fun μ5 => wG (ok_in x2_ 40768) (wLet (wSI μ5 17 (Int32.toNatClampNeg x2_) (0 : Int32)) fun μ7 => wLet (x2_ + 1 : Int32) fun x8 => rec x8 μ7)))
def gX0_goesThrough_2 (N : Nat) (c0 t n : Nat)  (x1_ : Int32) (K : (wMem → Option wMem)) : Nat → (Int32 → wMem → Option wMem)
  | 0 => fun _ _ => none
  | k + 1 => gbX0_goesThrough_2 N c0 t n  x1_ K (gX0_goesThrough_2 N c0 t n  x1_ K k)
set_option maxHeartbeats 4000000 in
set_option maxRecDepth 100000 in
theorem tX0_goesThrough_2 {p : Program} {l : Launch} {e : Env} {s : State} {m : MethodId} {args : Array Value} {below : List Frame} {meth : Method} {c : Code} {D : va_G} {E : List wCell} {q : Nat → Nat} {ca : wCA} {A : Nat → Prop} (C : wC p ({ frames := 5, cells := 0, slots := 0, locals := 114 } : Room) s m args meth c cX0_goesThrough yX0_goesThrough.cls 4 none D vwCl (spX ++ E) q ca A) (hE : wSlots ca (spX ++ E)) (N : Nat) (c0 t n : Nat)   (x1_ : Int32) (hi1 : ok_in x1_ 4 = true) (hb : (spX ++ E)[24 + x1_.toNatClampNeg]? = some (.inl (5, [(2, c0)]))) (hr : wRow (spX ++ E) c0 t n) (K : (wMem → Option wMem)) (r0 : wMem) (hK : ∀  (μ : wMem), K  μ = some r0 → wJ p l e ({ frames := 5, cells := 0, slots := 0, locals := 114 } : Room) s m args below meth c 4 D vwCl (spX ++ E) q ca A (wQv ({ frames := 5, cells := 0, slots := 0, locals := 114 } : Room) D vwCl (spX ++ E) q ca below args s A r0) 0 0 μ 40 [(0, .ref (q 0)), (1, .int x1_)] []) : ∀ (k : Nat) (x2_ : Int32) (μ : wMem), gX0_goesThrough_2 N c0 t n  x1_ K k x2_ μ = some r0 → wJ p l e ({ frames := 5, cells := 0, slots := 0, locals := 114 } : Room) s m args below meth c 4 D vwCl (spX ++ E) q ca A (wQv ({ frames := 5, cells := 0, slots := 0, locals := 114 } : Room) D vwCl (spX ++ E) q ca below args s A r0) 0 0 μ 2 [(0, .ref (q 0)), (1, .int x1_), (2, .int x2_)] [] := by
  intro k
  induction k with
  | zero =>
    intro x2_ μ hf
    cases hf
  | succ k ih =>
    intro x2_ μ hf
    replace hf : gbX0_goesThrough_2 N c0 t n  x1_ K (gX0_goesThrough_2 N c0 t n  x1_ K k) x2_ μ = some r0 := hf
    unfold gbX0_goesThrough_2 at hf
    refine wr_iload_n 2 C dX0_goesThrough_2 2 rfl rfl ?_
    refine wr_aload_n 3 C dX0_goesThrough_3 0 rfl rfl ?_
    refine gespX_0_24_X0 4 C dX0_goesThrough_4 ?_
    refine wr_len 7 C dX0_goesThrough_7 1 spX_15 rfl ?_
    refine wr_icmp_ge 8 40 C dX0_goesThrough_8 (by decide) (fun c1 => ?_) (fun c1 => ?_)
    · replace hf := o_pos c1 hf
      refine wr_sub [(0, .ref (q 0)), (1, .int x1_)] [0, 1] rfl ?_
      exact hK  μ hf
    · replace hf := o_neg c1 hf
      refine wr_aload_n 11 C dX0_goesThrough_11 0 rfl rfl ?_
      refine gespX_0_24_X0 12 C dX0_goesThrough_12 ?_
      refine wr_iload_n 15 C dX0_goesThrough_15 2 rfl rfl ?_
      refine wr_lconst 16 C dX0_goesThrough_16 (v := 0) rfl ?_
      obtain ⟨g2, hf⟩ := o_g hf
      obtain ⟨μ3, eμ3, hf⟩ := o_let hf
      refine wr_last 17 C dX0_goesThrough_17 spX_15 g2 eμ3 ?_
      refine wr_aload_n 18 C dX0_goesThrough_18 0 rfl rfl ?_
      refine gespX_0_25_X0 19 C dX0_goesThrough_19 ?_
      refine wr_iload_n 22 C dX0_goesThrough_22 2 rfl rfl ?_
      refine wr_ldcw 23 C dX0_goesThrough_23 q864 ?_
      obtain ⟨g4, hf⟩ := o_g hf
      obtain ⟨μ5, eμ5, hf⟩ := o_let hf
      refine wr_iast 26 C dX0_goesThrough_26 spX_16 g4 eμ5 ?_
      refine wr_aload_n 27 C dX0_goesThrough_27 0 rfl rfl ?_
      refine gespX_0_26_X0 28 C dX0_goesThrough_28 ?_
      refine wr_iload_n 31 C dX0_goesThrough_31 2 rfl rfl ?_
      refine wr_iconst 32 C dX0_goesThrough_32 (v := 0) rfl ?_
      obtain ⟨g6, hf⟩ := o_g hf
      obtain ⟨μ7, eμ7, hf⟩ := o_let hf
      refine wr_zast 33 C dX0_goesThrough_33 spX_17 g6 rfl eμ7 ?_
      obtain ⟨x8, ex8, hf⟩ := o_let hf
      refine wr_iinc 34 [(2, .int x8), (0, .ref (q 0)), (1, .int x1_)] C dX0_goesThrough_34 2 rfl (ex8.trans rfl) (Nat.le_of_ble_eq_true rfl) rfl ?_
      refine wr_goto 37 C dX0_goesThrough_37 (tgt := 2) (by decide) ?_
      refine wr_sub [(0, .ref (q 0)), (1, .int x1_), (2, .int x8)] [1, 2, 0] rfl ?_
      exact ih x8 μ7 hf
def gbX0_goesThrough_76 (N : Nat) (c0 t n : Nat)  (x1_ : Int32) (x2_ : Int32) (K : (wMem → Option wMem)) (rec : (Int32 → wMem → Option wMem)) (x3_ : Int32) (μ : wMem) : Option wMem :=
  if (3136 : Int32) ≤ x3_ then K  μ else wBind (fX0_spot N  x2_ x3_ μ) fun v26 μ25 => wG (ok_in v26 40768) (if (μ25.2 15 (Int32.toNatClampNeg v26)) ≤ (0 : Int64) then wLet (x3_ + 1 : Int32) fun x29 => rec x29 μ25 else wBindV (fX0_goesOn N c0 t n x1_ x2_ x3_ μ25) fun μ31 => wLet (x3_ + 1 : Int32) fun x32 => rec x32 μ31)
def gX0_goesThrough_76 (N : Nat) (c0 t n : Nat)  (x1_ : Int32) (x2_ : Int32) (K : (wMem → Option wMem)) : Nat → (Int32 → wMem → Option wMem)
  | 0 => fun _ _ => none
  | k + 1 => gbX0_goesThrough_76 N c0 t n  x1_ x2_ K (gX0_goesThrough_76 N c0 t n  x1_ x2_ K k)
set_option maxHeartbeats 4000000 in
set_option maxRecDepth 100000 in
theorem tX0_goesThrough_76 {p : Program} {l : Launch} {e : Env} {s : State} {m : MethodId} {args : Array Value} {below : List Frame} {meth : Method} {c : Code} {D : va_G} {E : List wCell} {q : Nat → Nat} {ca : wCA} {A : Nat → Prop} (C : wC p ({ frames := 5, cells := 0, slots := 0, locals := 114 } : Room) s m args meth c cX0_goesThrough yX0_goesThrough.cls 4 none D vwCl (spX ++ E) q ca A) (hE : wSlots ca (spX ++ E)) (N : Nat) (c0 t n : Nat)   (x1_ : Int32) (x2_ : Int32) (hi1 : ok_in x1_ 4 = true) (hb : (spX ++ E)[24 + x1_.toNatClampNeg]? = some (.inl (5, [(2, c0)]))) (hr : wRow (spX ++ E) c0 t n) (K : (wMem → Option wMem)) (r0 : wMem) (hK : ∀  (μ : wMem), K  μ = some r0 → wJ p l e ({ frames := 5, cells := 0, slots := 0, locals := 114 } : Room) s m args below meth c 4 D vwCl (spX ++ E) q ca A (wQv ({ frames := 5, cells := 0, slots := 0, locals := 114 } : Room) D vwCl (spX ++ E) q ca below args s A r0) 0 0 μ 111 [(0, .ref (q 0)), (1, .int x1_), (2, .int x2_)] []) : ∀ (k : Nat) (x3_ : Int32) (μ : wMem), gX0_goesThrough_76 N c0 t n  x1_ x2_ K k x3_ μ = some r0 → wJ p l e ({ frames := 5, cells := 0, slots := 0, locals := 114 } : Room) s m args below meth c 4 D vwCl (spX ++ E) q ca A (wQv ({ frames := 5, cells := 0, slots := 0, locals := 114 } : Room) D vwCl (spX ++ E) q ca below args s A r0) 0 0 μ 76 [(0, .ref (q 0)), (1, .int x1_), (2, .int x2_), (3, .int x3_)] [] := by
  intro k
  induction k with
  | zero =>
    intro x3_ μ hf
    cases hf
  | succ k ih =>
    intro x3_ μ hf
    replace hf : gbX0_goesThrough_76 N c0 t n  x1_ x2_ K (gX0_goesThrough_76 N c0 t n  x1_ x2_ K k) x3_ μ = some r0 := hf
    unfold gbX0_goesThrough_76 at hf
    refine wr_iload_n 76 C dX0_goesThrough_76 3 rfl rfl ?_
    refine wr_sipush 77 C dX0_goesThrough_77 (v := 3136) rfl ?_
    refine wr_icmp_ge 80 111 C dX0_goesThrough_80 (by decide) (fun c23 => ?_) (fun c23 => ?_)
    · replace hf := o_pos c23 hf
      refine wr_sub [(0, .ref (q 0)), (1, .int x1_), (2, .int x2_)] [0, 1, 2] rfl ?_
      exact hK  μ hf
    · replace hf := o_neg c23 hf
      refine wr_aload_n 83 C dX0_goesThrough_83 0 rfl rfl ?_
      refine gespX_0_24_X0 84 C dX0_goesThrough_84 ?_
      refine wr_iload_n 87 C dX0_goesThrough_87 2 rfl rfl ?_
      refine wr_iload_n 88 C dX0_goesThrough_88 3 rfl rfl ?_
      obtain ⟨v26, μ25, h24, hf⟩ := o_bind hf
      refine wr_Si (kc1 := 0) (ks1 := 0) 89 [.ref (q 15)] C dX0_goesThrough_89 (tX0_spot l N   x2_ x3_ μ (v26, μ25) h24) okX0_spot q1114 ⟨rfl, rfl, Nat.le_of_ble_eq_true rfl, Nat.le_of_ble_eq_true rfl, Nat.zero_le _, Nat.zero_le _⟩ (Nat.le_of_ble_eq_true rfl) rfl ?_
      obtain ⟨g27, hf⟩ := o_g hf
      refine wr_lald 92 C dX0_goesThrough_92 spX_15 g27 ?_
      refine wr_lconst 93 C dX0_goesThrough_93 (v := 0) rfl ?_
      refine wr_lcmp_le 94 105 C dX0_goesThrough_94 dX0_goesThrough_95 (by decide) (fun c28 => ?_) (fun c28 => ?_)
      · replace hf := o_pos c28 hf
        obtain ⟨x29, ex29, hf⟩ := o_let hf
        refine wr_iinc 105 [(3, .int x29), (0, .ref (q 0)), (1, .int x1_), (2, .int x2_)] C dX0_goesThrough_105 3 rfl (ex29.trans rfl) (Nat.le_of_ble_eq_true rfl) rfl ?_
        refine wr_goto 108 C dX0_goesThrough_108 (tgt := 76) (by decide) ?_
        refine wr_sub [(0, .ref (q 0)), (1, .int x1_), (2, .int x2_), (3, .int x29)] [1, 2, 3, 0] rfl ?_
        exact ih x29 μ25 hf
      · replace hf := o_neg c28 hf
        refine wr_aload_n 98 C dX0_goesThrough_98 0 rfl rfl ?_
        refine wr_iload_n 99 C dX0_goesThrough_99 1 rfl rfl ?_
        refine wr_iload_n 100 C dX0_goesThrough_100 2 rfl rfl ?_
        refine wr_iload_n 101 C dX0_goesThrough_101 3 rfl rfl ?_
        obtain ⟨μ31, h30, hf⟩ := o_bindV hf
        refine wr_Vv (kc1 := 0) (ks1 := 0) 102 [] C dX0_goesThrough_102 (tX0_goesOn l hE N c0 t n x1_ x2_ x3_ μ25 μ31 hi1 hb hr h30) okX0_goesOn q1117 (b := 0) spX_0 rfl ⟨rfl, rfl, Nat.le_of_ble_eq_true rfl, Nat.le_of_ble_eq_true rfl, Nat.zero_le _, Nat.zero_le _⟩ (Nat.le_of_ble_eq_true rfl) rfl ?_
        obtain ⟨x32, ex32, hf⟩ := o_let hf
        refine wr_iinc 105 [(3, .int x32), (0, .ref (q 0)), (1, .int x1_), (2, .int x2_)] C dX0_goesThrough_105 3 rfl (ex32.trans rfl) (Nat.le_of_ble_eq_true rfl) rfl ?_
        refine wr_goto 108 C dX0_goesThrough_108 (tgt := 76) (by decide) ?_
        refine wr_sub [(0, .ref (q 0)), (1, .int x1_), (2, .int x2_), (3, .int x32)] [1, 2, 3, 0] rfl ?_
        exact ih x32 μ31 hf
def gbX0_goesThrough_66 (N : Nat) (c0 t n : Nat)  (x1_ : Int32) (K : (wMem → Option wMem)) (rec : (Int32 → wMem → Option wMem)) (x2_ : Int32) (μ : wMem) : Option wMem :=
  if (μ.1 0 28) ≤ x2_ then K  μ else gX0_goesThrough_76 N c0 t n  x1_ x2_ (fun  (μ33 : wMem) => wLet (x2_ + 1 : Int32) fun x34 => rec x34 μ33) N 0 μ
def gX0_goesThrough_66 (N : Nat) (c0 t n : Nat)  (x1_ : Int32) (K : (wMem → Option wMem)) : Nat → (Int32 → wMem → Option wMem)
  | 0 => fun _ _ => none
  | k + 1 => gbX0_goesThrough_66 N c0 t n  x1_ K (gX0_goesThrough_66 N c0 t n  x1_ K k)
set_option maxHeartbeats 4000000 in
set_option maxRecDepth 100000 in
theorem tX0_goesThrough_66 {p : Program} {l : Launch} {e : Env} {s : State} {m : MethodId} {args : Array Value} {below : List Frame} {meth : Method} {c : Code} {D : va_G} {E : List wCell} {q : Nat → Nat} {ca : wCA} {A : Nat → Prop} (C : wC p ({ frames := 5, cells := 0, slots := 0, locals := 114 } : Room) s m args meth c cX0_goesThrough yX0_goesThrough.cls 4 none D vwCl (spX ++ E) q ca A) (hE : wSlots ca (spX ++ E)) (N : Nat) (c0 t n : Nat)   (x1_ : Int32) (hi1 : ok_in x1_ 4 = true) (hb : (spX ++ E)[24 + x1_.toNatClampNeg]? = some (.inl (5, [(2, c0)]))) (hr : wRow (spX ++ E) c0 t n) (K : (wMem → Option wMem)) (r0 : wMem) (hK : ∀  (μ : wMem), K  μ = some r0 → wJ p l e ({ frames := 5, cells := 0, slots := 0, locals := 114 } : Room) s m args below meth c 4 D vwCl (spX ++ E) q ca A (wQv ({ frames := 5, cells := 0, slots := 0, locals := 114 } : Room) D vwCl (spX ++ E) q ca below args s A r0) 0 0 μ 117 [(0, .ref (q 0)), (1, .int x1_)] []) : ∀ (k : Nat) (x2_ : Int32) (μ : wMem), gX0_goesThrough_66 N c0 t n  x1_ K k x2_ μ = some r0 → wJ p l e ({ frames := 5, cells := 0, slots := 0, locals := 114 } : Room) s m args below meth c 4 D vwCl (spX ++ E) q ca A (wQv ({ frames := 5, cells := 0, slots := 0, locals := 114 } : Room) D vwCl (spX ++ E) q ca below args s A r0) 0 0 μ 66 [(0, .ref (q 0)), (1, .int x1_), (2, .int x2_)] [] := by
  intro k
  induction k with
  | zero =>
    intro x2_ μ hf
    cases hf
  | succ k ih =>
    intro x2_ μ hf
    replace hf : gbX0_goesThrough_66 N c0 t n  x1_ K (gX0_goesThrough_66 N c0 t n  x1_ K k) x2_ μ = some r0 := hf
    unfold gbX0_goesThrough_66 at hf
    refine wr_iload_n 66 C dX0_goesThrough_66 2 rfl rfl ?_
    refine wr_aload_n 67 C dX0_goesThrough_67 0 rfl rfl ?_
    refine gespX_0_28_X0 68 C dX0_goesThrough_68 ?_
    refine wr_icmp_ge 71 117 C dX0_goesThrough_71 (by decide) (fun c22 => ?_) (fun c22 => ?_)
    · replace hf := o_pos c22 hf
      refine wr_sub [(0, .ref (q 0)), (1, .int x1_)] [0, 1] rfl ?_
      exact hK  μ hf
    · replace hf := o_neg c22 hf
      refine wr_iconst 74 C dX0_goesThrough_74 (v := 0) rfl ?_
      refine wr_istore_n 75 [(3, .int 0), (0, .ref (q 0)), (1, .int x1_), (2, .int x2_)] C dX0_goesThrough_75 rfl rfl (Nat.le_of_ble_eq_true rfl) rfl ?_
      refine wr_sub [(0, .ref (q 0)), (1, .int x1_), (2, .int x2_), (3, .int 0)] [1, 2, 3, 0] rfl ?_
      refine tX0_goesThrough_76 C hE N c0 t n   x1_ x2_ hi1 hb hr _ r0 (fun  μ33 hf => ?_) N 0 μ hf
      · replace hf := hf
        obtain ⟨x34, ex34, hf⟩ := o_let hf
        refine wr_iinc 111 [(2, .int x34), (0, .ref (q 0)), (1, .int x1_)] C dX0_goesThrough_111 2 rfl (ex34.trans rfl) (Nat.le_of_ble_eq_true rfl) rfl ?_
        refine wr_goto 114 C dX0_goesThrough_114 (tgt := 66) (by decide) ?_
        refine wr_sub [(0, .ref (q 0)), (1, .int x1_), (2, .int x34)] [1, 2, 0] rfl ?_
        exact ih x34 μ33 hf
def gbX0_goesThrough_132 (N : Nat) (c0 t n : Nat)  (x1_ : Int32) (K : (wMem → Option wMem)) (rec : (Int32 → wMem → Option wMem)) (x2_ : Int32) (μ : wMem) : Option wMem :=
  if (3136 : Int32) ≤ x2_ then K  μ else wBind (fX0_spot N  (μ.1 0 28) x2_ μ) fun v44 μ43 => wG (ok_in v44 40768) (if (μ43.2 15 (Int32.toNatClampNeg v44)) = (0 : Int64) then wLet (x2_ + 1 : Int32) fun x55 => rec x55 μ43 else wBind (fX0_spot N  (μ43.1 0 28) x2_ μ43) fun v49 μ48 => wG (ok_in v49 40768) (wLet (wSI μ48 17 (Int32.toNatClampNeg v49) (1 : Int32)) fun μ51 => wLet (wSI μ51 0 29 ((μ51.1 0 29) &&& ((x2_ / (7 : Int32)) / (7 : Int32)))) fun μ52 => wLet (wSI μ52 0 30 ((μ52.1 0 30) ||| ((x2_ / (7 : Int32)) / (7 : Int32)))) fun μ53 => wLet (x2_ + 1 : Int32) fun x54 => rec x54 μ53))
def gX0_goesThrough_132 (N : Nat) (c0 t n : Nat)  (x1_ : Int32) (K : (wMem → Option wMem)) : Nat → (Int32 → wMem → Option wMem)
  | 0 => fun _ _ => none
  | k + 1 => gbX0_goesThrough_132 N c0 t n  x1_ K (gX0_goesThrough_132 N c0 t n  x1_ K k)
set_option maxHeartbeats 4000000 in
set_option maxRecDepth 100000 in
theorem tX0_goesThrough_132 {p : Program} {l : Launch} {e : Env} {s : State} {m : MethodId} {args : Array Value} {below : List Frame} {meth : Method} {c : Code} {D : va_G} {E : List wCell} {q : Nat → Nat} {ca : wCA} {A : Nat → Prop} (C : wC p ({ frames := 5, cells := 0, slots := 0, locals := 114 } : Room) s m args meth c cX0_goesThrough yX0_goesThrough.cls 4 none D vwCl (spX ++ E) q ca A) (hE : wSlots ca (spX ++ E)) (N : Nat) (c0 t n : Nat)   (x1_ : Int32) (hi1 : ok_in x1_ 4 = true) (hb : (spX ++ E)[24 + x1_.toNatClampNeg]? = some (.inl (5, [(2, c0)]))) (hr : wRow (spX ++ E) c0 t n) (K : (wMem → Option wMem)) (r0 : wMem) (hK : ∀  (μ : wMem), K  μ = some r0 → wJ p l e ({ frames := 5, cells := 0, slots := 0, locals := 114 } : Room) s m args below meth c 4 D vwCl (spX ++ E) q ca A (wQv ({ frames := 5, cells := 0, slots := 0, locals := 114 } : Room) D vwCl (spX ++ E) q ca below args s A r0) 0 0 μ 212 [(0, .ref (q 0)), (1, .int x1_)] []) : ∀ (k : Nat) (x2_ : Int32) (μ : wMem), gX0_goesThrough_132 N c0 t n  x1_ K k x2_ μ = some r0 → wJ p l e ({ frames := 5, cells := 0, slots := 0, locals := 114 } : Room) s m args below meth c 4 D vwCl (spX ++ E) q ca A (wQv ({ frames := 5, cells := 0, slots := 0, locals := 114 } : Room) D vwCl (spX ++ E) q ca below args s A r0) 0 0 μ 132 [(0, .ref (q 0)), (1, .int x1_), (2, .int x2_)] [] := by
  intro k
  induction k with
  | zero =>
    intro x2_ μ hf
    cases hf
  | succ k ih =>
    intro x2_ μ hf
    replace hf : gbX0_goesThrough_132 N c0 t n  x1_ K (gX0_goesThrough_132 N c0 t n  x1_ K k) x2_ μ = some r0 := hf
    unfold gbX0_goesThrough_132 at hf
    refine wr_iload_n 132 C dX0_goesThrough_132 2 rfl rfl ?_
    refine wr_sipush 133 C dX0_goesThrough_133 (v := 3136) rfl ?_
    refine wr_icmp_ge 136 212 C dX0_goesThrough_136 (by decide) (fun c41 => ?_) (fun c41 => ?_)
    · replace hf := o_pos c41 hf
      refine wr_sub [(0, .ref (q 0)), (1, .int x1_)] [0, 1] rfl ?_
      exact hK  μ hf
    · replace hf := o_neg c41 hf
      refine wr_aload_n 139 C dX0_goesThrough_139 0 rfl rfl ?_
      refine gespX_0_24_X0 140 C dX0_goesThrough_140 ?_
      refine wr_aload_n 143 C dX0_goesThrough_143 0 rfl rfl ?_
      refine gespX_0_28_X0 144 C dX0_goesThrough_144 ?_
      refine wr_iload_n 147 C dX0_goesThrough_147 2 rfl rfl ?_
      obtain ⟨v44, μ43, h42, hf⟩ := o_bind hf
      refine wr_Si (kc1 := 0) (ks1 := 0) 148 [.ref (q 15)] C dX0_goesThrough_148 (tX0_spot l N   (μ.1 0 28) x2_ μ (v44, μ43) h42) okX0_spot q1114 ⟨rfl, rfl, Nat.le_of_ble_eq_true rfl, Nat.le_of_ble_eq_true rfl, Nat.zero_le _, Nat.zero_le _⟩ (Nat.le_of_ble_eq_true rfl) rfl ?_
      obtain ⟨g45, hf⟩ := o_g hf
      refine wr_lald 151 C dX0_goesThrough_151 spX_15 g45 ?_
      refine wr_lconst 152 C dX0_goesThrough_152 (v := 0) rfl ?_
      refine wr_lcmp_ne 153 160 C dX0_goesThrough_153 dX0_goesThrough_154 (by decide) (fun c46 => ?_) (fun c46 => ?_)
      · replace hf := o_neg c46 hf
        refine wr_aload_n 160 C dX0_goesThrough_160 0 rfl rfl ?_
        refine gespX_0_26_X0 161 C dX0_goesThrough_161 ?_
        refine wr_aload_n 164 C dX0_goesThrough_164 0 rfl rfl ?_
        refine gespX_0_28_X0 165 C dX0_goesThrough_165 ?_
        refine wr_iload_n 168 C dX0_goesThrough_168 2 rfl rfl ?_
        obtain ⟨v49, μ48, h47, hf⟩ := o_bind hf
        refine wr_Si (kc1 := 0) (ks1 := 0) 169 [.ref (q 17)] C dX0_goesThrough_169 (tX0_spot l N   (μ43.1 0 28) x2_ μ43 (v49, μ48) h47) okX0_spot q1114 ⟨rfl, rfl, Nat.le_of_ble_eq_true rfl, Nat.le_of_ble_eq_true rfl, Nat.zero_le _, Nat.zero_le _⟩ (Nat.le_of_ble_eq_true rfl) rfl ?_
        refine wr_iconst 172 C dX0_goesThrough_172 (v := 1) rfl ?_
        obtain ⟨g50, hf⟩ := o_g hf
        obtain ⟨μ51, eμ51, hf⟩ := o_let hf
        refine wr_zast 173 C dX0_goesThrough_173 spX_17 g50 rfl eμ51 ?_
        refine wr_aload_n 174 C dX0_goesThrough_174 0 rfl rfl ?_
        refine wr_dup 175 C dX0_goesThrough_175 rfl ?_
        refine gespX_0_29_X0 176 C dX0_goesThrough_176 ?_
        refine wr_iload_n 179 C dX0_goesThrough_179 2 rfl rfl ?_
        refine wr_bipush 180 C dX0_goesThrough_180 (v := 7) rfl ?_
        refine wr_idiv 182 C dX0_goesThrough_182 (by decide) ?_
        refine wr_bipush 183 C dX0_goesThrough_183 (v := 7) rfl ?_
        refine wr_idiv 185 C dX0_goesThrough_185 (by decide) ?_
        refine wr_iand 186 C dX0_goesThrough_186 ?_
        obtain ⟨μ52, eμ52, hf⟩ := o_let hf
        refine puspX_0_29_X0 187 C dX0_goesThrough_187 eμ52 ?_
        refine wr_aload_n 190 C dX0_goesThrough_190 0 rfl rfl ?_
        refine wr_dup 191 C dX0_goesThrough_191 rfl ?_
        refine gespX_0_30_X0 192 C dX0_goesThrough_192 ?_
        refine wr_iload_n 195 C dX0_goesThrough_195 2 rfl rfl ?_
        refine wr_bipush 196 C dX0_goesThrough_196 (v := 7) rfl ?_
        refine wr_idiv 198 C dX0_goesThrough_198 (by decide) ?_
        refine wr_bipush 199 C dX0_goesThrough_199 (v := 7) rfl ?_
        refine wr_idiv 201 C dX0_goesThrough_201 (by decide) ?_
        refine wr_ior 202 C dX0_goesThrough_202 ?_
        obtain ⟨μ53, eμ53, hf⟩ := o_let hf
        refine puspX_0_30_X0 203 C dX0_goesThrough_203 eμ53 ?_
        obtain ⟨x54, ex54, hf⟩ := o_let hf
        refine wr_iinc 206 [(2, .int x54), (0, .ref (q 0)), (1, .int x1_)] C dX0_goesThrough_206 2 rfl (ex54.trans rfl) (Nat.le_of_ble_eq_true rfl) rfl ?_
        refine wr_goto 209 C dX0_goesThrough_209 (tgt := 132) (by decide) ?_
        refine wr_sub [(0, .ref (q 0)), (1, .int x1_), (2, .int x54)] [1, 2, 0] rfl ?_
        exact ih x54 μ53 hf
      · replace hf := o_pos c46 hf
        refine wr_goto 157 C dX0_goesThrough_157 (tgt := 206) (by decide) ?_
        obtain ⟨x55, ex55, hf⟩ := o_let hf
        refine wr_iinc 206 [(2, .int x55), (0, .ref (q 0)), (1, .int x1_)] C dX0_goesThrough_206 2 rfl (ex55.trans rfl) (Nat.le_of_ble_eq_true rfl) rfl ?_
        refine wr_goto 209 C dX0_goesThrough_209 (tgt := 132) (by decide) ?_
        refine wr_sub [(0, .ref (q 0)), (1, .int x1_), (2, .int x55)] [1, 2, 0] rfl ?_
        exact ih x55 μ43 hf
def gbX0_goesThrough_232 (N : Nat) (c0 t n : Nat)  (x1_ : Int32) (x2_ : Int32) (K : (wMem → Option wMem)) (rec : (Int32 → wMem → Option wMem)) (x3_ : Int32) (μ : wMem) : Option wMem :=
  if (3136 : Int32) ≤ x3_ then K  μ else wBind (fX0_spot N  x2_ x3_ μ) fun v64 μ63 => wG (ok_in v64 40768) (if (μ63.2 15 (Int32.toNatClampNeg v64)) ≤ (0 : Int64) then wLet (x3_ + 1 : Int32) fun x67 => rec x67 μ63 else wBindV (fX0_comesBack N c0 t n x1_ x2_ x3_ μ63) fun μ69 => wLet (x3_ + 1 : Int32) fun x70 => rec x70 μ69)
def gX0_goesThrough_232 (N : Nat) (c0 t n : Nat)  (x1_ : Int32) (x2_ : Int32) (K : (wMem → Option wMem)) : Nat → (Int32 → wMem → Option wMem)
  | 0 => fun _ _ => none
  | k + 1 => gbX0_goesThrough_232 N c0 t n  x1_ x2_ K (gX0_goesThrough_232 N c0 t n  x1_ x2_ K k)
set_option maxHeartbeats 4000000 in
set_option maxRecDepth 100000 in
theorem tX0_goesThrough_232 {p : Program} {l : Launch} {e : Env} {s : State} {m : MethodId} {args : Array Value} {below : List Frame} {meth : Method} {c : Code} {D : va_G} {E : List wCell} {q : Nat → Nat} {ca : wCA} {A : Nat → Prop} (C : wC p ({ frames := 5, cells := 0, slots := 0, locals := 114 } : Room) s m args meth c cX0_goesThrough yX0_goesThrough.cls 4 none D vwCl (spX ++ E) q ca A) (hE : wSlots ca (spX ++ E)) (N : Nat) (c0 t n : Nat)   (x1_ : Int32) (x2_ : Int32) (hi1 : ok_in x1_ 4 = true) (hb : (spX ++ E)[24 + x1_.toNatClampNeg]? = some (.inl (5, [(2, c0)]))) (hr : wRow (spX ++ E) c0 t n) (K : (wMem → Option wMem)) (r0 : wMem) (hK : ∀  (μ : wMem), K  μ = some r0 → wJ p l e ({ frames := 5, cells := 0, slots := 0, locals := 114 } : Room) s m args below meth c 4 D vwCl (spX ++ E) q ca A (wQv ({ frames := 5, cells := 0, slots := 0, locals := 114 } : Room) D vwCl (spX ++ E) q ca below args s A r0) 0 0 μ 267 [(0, .ref (q 0)), (1, .int x1_), (2, .int x2_)] []) : ∀ (k : Nat) (x3_ : Int32) (μ : wMem), gX0_goesThrough_232 N c0 t n  x1_ x2_ K k x3_ μ = some r0 → wJ p l e ({ frames := 5, cells := 0, slots := 0, locals := 114 } : Room) s m args below meth c 4 D vwCl (spX ++ E) q ca A (wQv ({ frames := 5, cells := 0, slots := 0, locals := 114 } : Room) D vwCl (spX ++ E) q ca below args s A r0) 0 0 μ 232 [(0, .ref (q 0)), (1, .int x1_), (2, .int x2_), (3, .int x3_)] [] := by
  intro k
  induction k with
  | zero =>
    intro x3_ μ hf
    cases hf
  | succ k ih =>
    intro x3_ μ hf
    replace hf : gbX0_goesThrough_232 N c0 t n  x1_ x2_ K (gX0_goesThrough_232 N c0 t n  x1_ x2_ K k) x3_ μ = some r0 := hf
    unfold gbX0_goesThrough_232 at hf
    refine wr_iload_n 232 C dX0_goesThrough_232 3 rfl rfl ?_
    refine wr_sipush 233 C dX0_goesThrough_233 (v := 3136) rfl ?_
    refine wr_icmp_ge 236 267 C dX0_goesThrough_236 (by decide) (fun c61 => ?_) (fun c61 => ?_)
    · replace hf := o_pos c61 hf
      refine wr_sub [(0, .ref (q 0)), (1, .int x1_), (2, .int x2_)] [0, 1, 2] rfl ?_
      exact hK  μ hf
    · replace hf := o_neg c61 hf
      refine wr_aload_n 239 C dX0_goesThrough_239 0 rfl rfl ?_
      refine gespX_0_24_X0 240 C dX0_goesThrough_240 ?_
      refine wr_iload_n 243 C dX0_goesThrough_243 2 rfl rfl ?_
      refine wr_iload_n 244 C dX0_goesThrough_244 3 rfl rfl ?_
      obtain ⟨v64, μ63, h62, hf⟩ := o_bind hf
      refine wr_Si (kc1 := 0) (ks1 := 0) 245 [.ref (q 15)] C dX0_goesThrough_245 (tX0_spot l N   x2_ x3_ μ (v64, μ63) h62) okX0_spot q1114 ⟨rfl, rfl, Nat.le_of_ble_eq_true rfl, Nat.le_of_ble_eq_true rfl, Nat.zero_le _, Nat.zero_le _⟩ (Nat.le_of_ble_eq_true rfl) rfl ?_
      obtain ⟨g65, hf⟩ := o_g hf
      refine wr_lald 248 C dX0_goesThrough_248 spX_15 g65 ?_
      refine wr_lconst 249 C dX0_goesThrough_249 (v := 0) rfl ?_
      refine wr_lcmp_le 250 261 C dX0_goesThrough_250 dX0_goesThrough_251 (by decide) (fun c66 => ?_) (fun c66 => ?_)
      · replace hf := o_pos c66 hf
        obtain ⟨x67, ex67, hf⟩ := o_let hf
        refine wr_iinc 261 [(3, .int x67), (0, .ref (q 0)), (1, .int x1_), (2, .int x2_)] C dX0_goesThrough_261 3 rfl (ex67.trans rfl) (Nat.le_of_ble_eq_true rfl) rfl ?_
        refine wr_goto 264 C dX0_goesThrough_264 (tgt := 232) (by decide) ?_
        refine wr_sub [(0, .ref (q 0)), (1, .int x1_), (2, .int x2_), (3, .int x67)] [1, 2, 3, 0] rfl ?_
        exact ih x67 μ63 hf
      · replace hf := o_neg c66 hf
        refine wr_aload_n 254 C dX0_goesThrough_254 0 rfl rfl ?_
        refine wr_iload_n 255 C dX0_goesThrough_255 1 rfl rfl ?_
        refine wr_iload_n 256 C dX0_goesThrough_256 2 rfl rfl ?_
        refine wr_iload_n 257 C dX0_goesThrough_257 3 rfl rfl ?_
        obtain ⟨μ69, h68, hf⟩ := o_bindV hf
        refine wr_Vv (kc1 := 0) (ks1 := 0) 258 [] C dX0_goesThrough_258 (tX0_comesBack l hE N c0 t n x1_ x2_ x3_ μ63 μ69 hi1 hb hr h68) okX0_comesBack q1130 (b := 0) spX_0 rfl ⟨rfl, rfl, Nat.le_of_ble_eq_true rfl, Nat.le_of_ble_eq_true rfl, Nat.zero_le _, Nat.zero_le _⟩ (Nat.le_of_ble_eq_true rfl) rfl ?_
        obtain ⟨x70, ex70, hf⟩ := o_let hf
        refine wr_iinc 261 [(3, .int x70), (0, .ref (q 0)), (1, .int x1_), (2, .int x2_)] C dX0_goesThrough_261 3 rfl (ex70.trans rfl) (Nat.le_of_ble_eq_true rfl) rfl ?_
        refine wr_goto 264 C dX0_goesThrough_264 (tgt := 232) (by decide) ?_
        refine wr_sub [(0, .ref (q 0)), (1, .int x1_), (2, .int x2_), (3, .int x70)] [1, 2, 3, 0] rfl ?_
        exact ih x70 μ69 hf
def gbX0_goesThrough_219 (N : Nat) (c0 t n : Nat)  (x1_ : Int32) (K : (wMem → Option wMem)) (rec : (Int32 → wMem → Option wMem)) (x2_ : Int32) (μ : wMem) : Option wMem :=
  if x2_ < 0 then K  μ else wG (ok_in x2_ 12) (wLet (wSI μ 18 (Int32.toNatClampNeg x2_) (0 : Int32)) fun μ60 => gX0_goesThrough_232 N c0 t n  x1_ x2_ (fun  (μ71 : wMem) => wLet (x2_ + (-1) : Int32) fun x72 => rec x72 μ71) N 0 μ60)
def gX0_goesThrough_219 (N : Nat) (c0 t n : Nat)  (x1_ : Int32) (K : (wMem → Option wMem)) : Nat → (Int32 → wMem → Option wMem)
  | 0 => fun _ _ => none
  | k + 1 => gbX0_goesThrough_219 N c0 t n  x1_ K (gX0_goesThrough_219 N c0 t n  x1_ K k)
set_option maxHeartbeats 4000000 in
set_option maxRecDepth 100000 in
theorem tX0_goesThrough_219 {p : Program} {l : Launch} {e : Env} {s : State} {m : MethodId} {args : Array Value} {below : List Frame} {meth : Method} {c : Code} {D : va_G} {E : List wCell} {q : Nat → Nat} {ca : wCA} {A : Nat → Prop} (C : wC p ({ frames := 5, cells := 0, slots := 0, locals := 114 } : Room) s m args meth c cX0_goesThrough yX0_goesThrough.cls 4 none D vwCl (spX ++ E) q ca A) (hE : wSlots ca (spX ++ E)) (N : Nat) (c0 t n : Nat)   (x1_ : Int32) (hi1 : ok_in x1_ 4 = true) (hb : (spX ++ E)[24 + x1_.toNatClampNeg]? = some (.inl (5, [(2, c0)]))) (hr : wRow (spX ++ E) c0 t n) (K : (wMem → Option wMem)) (r0 : wMem) (hK : ∀  (μ : wMem), K  μ = some r0 → wJ p l e ({ frames := 5, cells := 0, slots := 0, locals := 114 } : Room) s m args below meth c 4 D vwCl (spX ++ E) q ca A (wQv ({ frames := 5, cells := 0, slots := 0, locals := 114 } : Room) D vwCl (spX ++ E) q ca below args s A r0) 0 0 μ 273 [] []) : ∀ (k : Nat) (x2_ : Int32) (μ : wMem), gX0_goesThrough_219 N c0 t n  x1_ K k x2_ μ = some r0 → wJ p l e ({ frames := 5, cells := 0, slots := 0, locals := 114 } : Room) s m args below meth c 4 D vwCl (spX ++ E) q ca A (wQv ({ frames := 5, cells := 0, slots := 0, locals := 114 } : Room) D vwCl (spX ++ E) q ca below args s A r0) 0 0 μ 219 [(0, .ref (q 0)), (1, .int x1_), (2, .int x2_)] [] := by
  intro k
  induction k with
  | zero =>
    intro x2_ μ hf
    cases hf
  | succ k ih =>
    intro x2_ μ hf
    replace hf : gbX0_goesThrough_219 N c0 t n  x1_ K (gX0_goesThrough_219 N c0 t n  x1_ K k) x2_ μ = some r0 := hf
    unfold gbX0_goesThrough_219 at hf
    refine wr_iload_n 219 C dX0_goesThrough_219 2 rfl rfl ?_
    refine wr_if_lt 220 273 C dX0_goesThrough_220 (by decide) (fun c58 => ?_) (fun c58 => ?_)
    · replace hf := o_pos c58 hf
      refine wr_sub [] [] rfl ?_
      exact hK  μ hf
    · replace hf := o_neg c58 hf
      refine wr_aload_n 223 C dX0_goesThrough_223 0 rfl rfl ?_
      refine gespX_0_27_X0 224 C dX0_goesThrough_224 ?_
      refine wr_iload_n 227 C dX0_goesThrough_227 2 rfl rfl ?_
      refine wr_iconst 228 C dX0_goesThrough_228 (v := 0) rfl ?_
      obtain ⟨g59, hf⟩ := o_g hf
      obtain ⟨μ60, eμ60, hf⟩ := o_let hf
      refine wr_iast 229 C dX0_goesThrough_229 spX_18 g59 eμ60 ?_
      refine wr_iconst 230 C dX0_goesThrough_230 (v := 0) rfl ?_
      refine wr_istore_n 231 [(3, .int 0), (0, .ref (q 0)), (1, .int x1_), (2, .int x2_)] C dX0_goesThrough_231 rfl rfl (Nat.le_of_ble_eq_true rfl) rfl ?_
      refine wr_sub [(0, .ref (q 0)), (1, .int x1_), (2, .int x2_), (3, .int 0)] [1, 2, 3, 0] rfl ?_
      refine tX0_goesThrough_232 C hE N c0 t n   x1_ x2_ hi1 hb hr _ r0 (fun  μ71 hf => ?_) N 0 μ60 hf
      · replace hf := hf
        obtain ⟨x72, ex72, hf⟩ := o_let hf
        refine wr_iinc 267 [(2, .int x72), (0, .ref (q 0)), (1, .int x1_)] C dX0_goesThrough_267 2 rfl (ex72.trans rfl) (Nat.le_of_ble_eq_true rfl) rfl ?_
        refine wr_goto 270 C dX0_goesThrough_270 (tgt := 219) (by decide) ?_
        refine wr_sub [(0, .ref (q 0)), (1, .int x1_), (2, .int x72)] [1, 2, 0] rfl ?_
        exact ih x72 μ71 hf
def fX0_goesThrough (N : Nat) (c0 t n : Nat)  (a1 : Int32) (μ : wMem) : Option wMem :=
  gX0_goesThrough_2 N c0 t n  a1 (fun  (μ9 : wMem) => wBindV (fX0_asAtFirst N   μ9) fun μ11 => wBind (fX0_scene N   μ11) fun v14 μ13 => wG (ok_in v14 40768) (wLet (wSL μ13 15 (Int32.toNatClampNeg v14) (1 : Int64)) fun μ16 => wBind (fX0_scene N   μ16) fun v19 μ18 => wG (ok_in v19 40768) (wLet (wSI μ18 16 (Int32.toNatClampNeg v19) (0 : Int32)) fun μ21 => gX0_goesThrough_66 N c0 t n  a1 (fun  (μ35 : wMem) => wBind (fX0_all N   μ35) fun v38 μ37 => wLet (wSI μ37 0 29 v38) fun μ39 => wLet (wSI μ39 0 30 (0 : Int32)) fun μ40 => gX0_goesThrough_132 N c0 t n  a1 (fun  (μ56 : wMem) => wLet ((μ56.1 0 28) - (1 : Int32) : Int32) fun x57 => gX0_goesThrough_219 N c0 t n  a1 (fun  (μ73 : wMem) => some μ73) N x57 μ56) N 0 μ40) N 0 μ21))) N 0 μ
set_option maxHeartbeats 4000000 in
set_option maxRecDepth 100000 in
theorem tX0_goesThrough (l : Launch) {D : va_G} {E : List wCell} {q : Nat → Nat} {ca : wCA} (hE : wSlots ca (spX ++ E)) (N : Nat) (c0 t n : Nat)   (a1 : Int32) (μ : wMem) (r0 : wMem) (hi1 : ok_in a1 4 = true) (hb : (spX ++ E)[24 + a1.toNatClampNeg]? = some (.inl (5, [(2, c0)]))) (hr : wRow (spX ++ E) c0 t n) (hf : fX0_goesThrough N c0 t n  a1 μ = some r0) : wMv l yX0_goesThrough cX0_goesThrough 4 none ({ frames := 5, cells := 0, slots := 0, locals := 114 } : Room) D vwCl (spX ++ E) q ca [.ref (q 0), .int a1] μ r0 := by
  refine wMv_intro (by decide) (Nat.le_of_ble_eq_true rfl) ?_
  intro p e s m args below meth c A C
  unfold fX0_goesThrough at hf
  refine wr_sub [(0, .ref (q 0)), (1, .int a1)] [0, 1] rfl ?_
  refine wr_iconst 0 C dX0_goesThrough_0 (v := 0) rfl ?_
  refine wr_istore_n 1 [(2, .int 0), (0, .ref (q 0)), (1, .int a1)] C dX0_goesThrough_1 rfl rfl (Nat.le_of_ble_eq_true rfl) rfl ?_
  refine wr_sub [(0, .ref (q 0)), (1, .int a1), (2, .int 0)] [1, 2, 0] rfl ?_
  refine tX0_goesThrough_2 C hE N c0 t n   a1 hi1 hb hr _ r0 (fun  μ9 hf => ?_) N 0 μ hf
  · replace hf := hf
    refine wr_aload_n 40 C dX0_goesThrough_40 0 rfl rfl ?_
    obtain ⟨μ11, h10, hf⟩ := o_bindV hf
    refine wr_Vv (kc1 := 0) (ks1 := 0) 41 [] C dX0_goesThrough_41 (tX0_asAtFirst l N    μ9 μ11 h10) okX0_asAtFirst q741 (b := 0) spX_0 rfl ⟨rfl, rfl, Nat.le_of_ble_eq_true rfl, Nat.le_of_ble_eq_true rfl, Nat.zero_le _, Nat.zero_le _⟩ (Nat.le_of_ble_eq_true rfl) rfl ?_
    refine wr_aload_n 44 C dX0_goesThrough_44 0 rfl rfl ?_
    refine gespX_0_24_X0 45 C dX0_goesThrough_45 ?_
    refine wr_aload_n 48 C dX0_goesThrough_48 0 rfl rfl ?_
    obtain ⟨v14, μ13, h12, hf⟩ := o_bind hf
    refine wr_Vi (kc1 := 0) (ks1 := 0) 49 [.ref (q 15)] C dX0_goesThrough_49 (tX0_scene l N    μ11 (v14, μ13) h12) okX0_scene q1110 (b := 0) spX_0 rfl ⟨rfl, rfl, Nat.le_of_ble_eq_true rfl, Nat.le_of_ble_eq_true rfl, Nat.zero_le _, Nat.zero_le _⟩ (Nat.le_of_ble_eq_true rfl) rfl ?_
    refine wr_lconst 52 C dX0_goesThrough_52 (v := 1) rfl ?_
    obtain ⟨g15, hf⟩ := o_g hf
    obtain ⟨μ16, eμ16, hf⟩ := o_let hf
    refine wr_last 53 C dX0_goesThrough_53 spX_15 g15 eμ16 ?_
    refine wr_aload_n 54 C dX0_goesThrough_54 0 rfl rfl ?_
    refine gespX_0_25_X0 55 C dX0_goesThrough_55 ?_
    refine wr_aload_n 58 C dX0_goesThrough_58 0 rfl rfl ?_
    obtain ⟨v19, μ18, h17, hf⟩ := o_bind hf
    refine wr_Vi (kc1 := 0) (ks1 := 0) 59 [.ref (q 16)] C dX0_goesThrough_59 (tX0_scene l N    μ16 (v19, μ18) h17) okX0_scene q1110 (b := 0) spX_0 rfl ⟨rfl, rfl, Nat.le_of_ble_eq_true rfl, Nat.le_of_ble_eq_true rfl, Nat.zero_le _, Nat.zero_le _⟩ (Nat.le_of_ble_eq_true rfl) rfl ?_
    refine wr_iconst 62 C dX0_goesThrough_62 (v := 0) rfl ?_
    obtain ⟨g20, hf⟩ := o_g hf
    obtain ⟨μ21, eμ21, hf⟩ := o_let hf
    refine wr_iast 63 C dX0_goesThrough_63 spX_16 g20 eμ21 ?_
    refine wr_iconst 64 C dX0_goesThrough_64 (v := 0) rfl ?_
    refine wr_istore_n 65 [(2, .int 0), (0, .ref (q 0)), (1, .int a1)] C dX0_goesThrough_65 rfl rfl (Nat.le_of_ble_eq_true rfl) rfl ?_
    refine wr_sub [(0, .ref (q 0)), (1, .int a1), (2, .int 0)] [1, 2, 0] rfl ?_
    refine tX0_goesThrough_66 C hE N c0 t n   a1 hi1 hb hr _ r0 (fun  μ35 hf => ?_) N 0 μ21 hf
    · replace hf := hf
      refine wr_aload_n 117 C dX0_goesThrough_117 0 rfl rfl ?_
      refine wr_aload_n 118 C dX0_goesThrough_118 0 rfl rfl ?_
      obtain ⟨v38, μ37, h36, hf⟩ := o_bind hf
      refine wr_Vi (kc1 := 0) (ks1 := 0) 119 [.ref (q 0)] C dX0_goesThrough_119 (tX0_all l N    μ35 (v38, μ37) h36) okX0_all q912 (b := 0) spX_0 rfl ⟨rfl, rfl, Nat.le_of_ble_eq_true rfl, Nat.le_of_ble_eq_true rfl, Nat.zero_le _, Nat.zero_le _⟩ (Nat.le_of_ble_eq_true rfl) rfl ?_
      obtain ⟨μ39, eμ39, hf⟩ := o_let hf
      refine puspX_0_29_X0 122 C dX0_goesThrough_122 eμ39 ?_
      refine wr_aload_n 125 C dX0_goesThrough_125 0 rfl rfl ?_
      refine wr_iconst 126 C dX0_goesThrough_126 (v := 0) rfl ?_
      obtain ⟨μ40, eμ40, hf⟩ := o_let hf
      refine puspX_0_30_X0 127 C dX0_goesThrough_127 eμ40 ?_
      refine wr_iconst 130 C dX0_goesThrough_130 (v := 0) rfl ?_
      refine wr_istore_n 131 [(2, .int 0), (0, .ref (q 0)), (1, .int a1)] C dX0_goesThrough_131 rfl rfl (Nat.le_of_ble_eq_true rfl) rfl ?_
      refine wr_sub [(0, .ref (q 0)), (1, .int a1), (2, .int 0)] [1, 2, 0] rfl ?_
      refine tX0_goesThrough_132 C hE N c0 t n   a1 hi1 hb hr _ r0 (fun  μ56 hf => ?_) N 0 μ40 hf
      · replace hf := hf
        refine wr_aload_n 212 C dX0_goesThrough_212 0 rfl rfl ?_
        refine gespX_0_28_X0 213 C dX0_goesThrough_213 ?_
        refine wr_iconst 216 C dX0_goesThrough_216 (v := 1) rfl ?_
        refine wr_isub 217 C dX0_goesThrough_217 ?_
        obtain ⟨x57, ex57, hf⟩ := o_let hf
        refine wr_istore_n 218 [(2, .int x57), (0, .ref (q 0)), (1, .int a1)] C dX0_goesThrough_218 ex57 rfl (Nat.le_of_ble_eq_true rfl) rfl ?_
        refine wr_sub [(0, .ref (q 0)), (1, .int a1), (2, .int x57)] [1, 2, 0] rfl ?_
        refine tX0_goesThrough_219 C hE N c0 t n   a1 hi1 hb hr _ r0 (fun  μ73 hf => ?_) N x57 μ56 hf
        · replace hf := hf
          exact wr_vret 273 C dX0_goesThrough_273 ⟨Nat.zero_le _, Nat.zero_le _⟩ (Option.some.inj hf)
