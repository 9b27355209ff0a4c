set_option maxRecDepth 100000
abbrev cX0_asksRow : ByteArray := prog_1_method_86_code
def yX0_asksRow : MethodName := ⟨RX0, "asksRow", "(I)I"⟩
def dkwX0_asksRow_2 : List UInt8 := [182, 1, 18, 154, 0, 6, 16, 254, 172, 132, 3, 1, 167, 255, 228, 3, 172, 77, 16, 250, 172]
abbrev dktX0_asksRow_2 : List UInt8 := dkwX0_asksRow_2 ++ []
def dkwX0_asksRow_1 : List UInt8 := [182, 1, 126, 61, 3, 62, 29, 28, 162, 0, 29, 42, 42, 180, 0, 85, 27, 50, 29, 182, 1, 120]
abbrev dktX0_asksRow_1 : List UInt8 := dkwX0_asksRow_1 ++ dktX0_asksRow_2
def dkwX0_asksRow_0 : List UInt8 := [27, 184, 1, 123, 153, 0, 10, 42, 182, 0, 252, 154, 0, 6, 16, 254, 172, 42, 180, 0, 85, 27, 50]
abbrev dktX0_asksRow_0 : List UInt8 := dkwX0_asksRow_0 ++ dktX0_asksRow_1
theorem dksX0_asksRow_0 : cX0_asksRow.data.toList.drop 0 = dktX0_asksRow_0 := by decide +kernel
theorem dksX0_asksRow_1 : cX0_asksRow.data.toList.drop 23 = dktX0_asksRow_1 := dk_seg dksX0_asksRow_0 23 rfl rfl
theorem dksX0_asksRow_2 : cX0_asksRow.data.toList.drop 45 = dktX0_asksRow_2 := dk_seg dksX0_asksRow_1 22 rfl rfl
theorem dX0_asksRow_0 : decode cX0_asksRow 0 = .ok (.iload_n 1, 1) := dk_27 (dk_at dksX0_asksRow_0 0 rfl rfl)
theorem dX0_asksRow_1 : decode cX0_asksRow 1 = .ok (.invokestatic 379, 3) := dk_184 1 123 (dk_at dksX0_asksRow_0 1 rfl rfl)
theorem dX0_asksRow_4 : decode cX0_asksRow 4 = .ok (.ifCond .eq 10, 3) := dk_153 0 10 (dk_at dksX0_asksRow_0 4 rfl rfl)
theorem dX0_asksRow_7 : decode cX0_asksRow 7 = .ok (.aload_n 0, 1) := dk_42 (dk_at dksX0_asksRow_0 7 rfl rfl)
theorem dX0_asksRow_8 : decode cX0_asksRow 8 = .ok (.invokevirtual 252, 3) := dk_182 0 252 (dk_at dksX0_asksRow_0 8 rfl rfl)
theorem dX0_asksRow_11 : decode cX0_asksRow 11 = .ok (.ifCond .ne 6, 3) := dk_154 0 6 (dk_at dksX0_asksRow_0 11 rfl rfl)
theorem dX0_asksRow_14 : decode cX0_asksRow 14 = .ok (.bipush (-2), 2) := dk_16 254 (dk_at dksX0_asksRow_0 14 rfl rfl)
theorem dX0_asksRow_16 : decode cX0_asksRow 16 = .ok (.ireturn, 1) := dk_172 (dk_at dksX0_asksRow_0 16 rfl rfl)
theorem dX0_asksRow_17 : decode cX0_asksRow 17 = .ok (.aload_n 0, 1) := dk_42 (dk_at dksX0_asksRow_0 17 rfl rfl)
theorem dX0_asksRow_18 : decode cX0_asksRow 18 = .ok (.getfield 85, 3) := dk_180 0 85 (dk_at dksX0_asksRow_0 18 rfl rfl)
theorem dX0_asksRow_21 : decode cX0_asksRow 21 = .ok (.iload_n 1, 1) := dk_27 (dk_at dksX0_asksRow_0 21 rfl rfl)
theorem dX0_asksRow_22 : decode cX0_asksRow 22 = .ok (.aaload, 1) := dk_50 (dk_at dksX0_asksRow_0 22 rfl rfl)
theorem dX0_asksRow_23 : decode cX0_asksRow 23 = .ok (.invokevirtual 382, 3) := dk_182 1 126 (dk_at dksX0_asksRow_1 0 rfl rfl)
theorem dX0_asksRow_26 : decode cX0_asksRow 26 = .ok (.istore_n 2, 1) := dk_61 (dk_at dksX0_asksRow_1 3 rfl rfl)
theorem dX0_asksRow_27 : decode cX0_asksRow 27 = .ok (.iconst 0, 1) := dk_3 (dk_at dksX0_asksRow_1 4 rfl rfl)
theorem dX0_asksRow_28 : decode cX0_asksRow 28 = .ok (.istore_n 3, 1) := dk_62 (dk_at dksX0_asksRow_1 5 rfl rfl)
theorem dX0_asksRow_29 : decode cX0_asksRow 29 = .ok (.iload_n 3, 1) := dk_29 (dk_at dksX0_asksRow_1 6 rfl rfl)
theorem dX0_asksRow_30 : decode cX0_asksRow 30 = .ok (.iload_n 2, 1) := dk_28 (dk_at dksX0_asksRow_1 7 rfl rfl)
theorem dX0_asksRow_31 : decode cX0_asksRow 31 = .ok (.if_icmp .ge 29, 3) := dk_162 0 29 (dk_at dksX0_asksRow_1 8 rfl rfl)
theorem dX0_asksRow_34 : decode cX0_asksRow 34 = .ok (.aload_n 0, 1) := dk_42 (dk_at dksX0_asksRow_1 11 rfl rfl)
theorem dX0_asksRow_35 : decode cX0_asksRow 35 = .ok (.aload_n 0, 1) := dk_42 (dk_at dksX0_asksRow_1 12 rfl rfl)
theorem dX0_asksRow_36 : decode cX0_asksRow 36 = .ok (.getfield 85, 3) := dk_180 0 85 (dk_at dksX0_asksRow_1 13 rfl rfl)
theorem dX0_asksRow_39 : decode cX0_asksRow 39 = .ok (.iload_n 1, 1) := dk_27 (dk_at dksX0_asksRow_1 16 rfl rfl)
theorem dX0_asksRow_40 : decode cX0_asksRow 40 = .ok (.aaload, 1) := dk_50 (dk_at dksX0_asksRow_1 17 rfl rfl)
theorem dX0_asksRow_41 : decode cX0_asksRow 41 = .ok (.iload_n 3, 1) := dk_29 (dk_at dksX0_asksRow_1 18 rfl rfl)
theorem dX0_asksRow_42 : decode cX0_asksRow 42 = .ok (.invokevirtual 376, 3) := dk_182 1 120 (dk_at dksX0_asksRow_1 19 rfl rfl)
theorem dX0_asksRow_45 : decode cX0_asksRow 45 = .ok (.invokevirtual 274, 3) := dk_182 1 18 (dk_at dksX0_asksRow_2 0 rfl rfl)
theorem dX0_asksRow_48 : decode cX0_asksRow 48 = .ok (.ifCond .ne 6, 3) := dk_154 0 6 (dk_at dksX0_asksRow_2 3 rfl rfl)
theorem dX0_asksRow_51 : decode cX0_asksRow 51 = .ok (.bipush (-2), 2) := dk_16 254 (dk_at dksX0_asksRow_2 6 rfl rfl)
theorem dX0_asksRow_53 : decode cX0_asksRow 53 = .ok (.ireturn, 1) := dk_172 (dk_at dksX0_asksRow_2 8 rfl rfl)
theorem dX0_asksRow_54 : decode cX0_asksRow 54 = .ok (.iinc 3 1, 3) := dk_132 3 1 (dk_at dksX0_asksRow_2 9 rfl rfl)
theorem dX0_asksRow_57 : decode cX0_asksRow 57 = .ok (.goto (-28), 3) := dk_167 255 228 (dk_at dksX0_asksRow_2 12 rfl rfl)
theorem dX0_asksRow_60 : decode cX0_asksRow 60 = .ok (.iconst 0, 1) := dk_3 (dk_at dksX0_asksRow_2 15 rfl rfl)
theorem dX0_asksRow_61 : decode cX0_asksRow 61 = .ok (.ireturn, 1) := dk_172 (dk_at dksX0_asksRow_2 16 rfl rfl)
theorem dX0_asksRow_62 : decode cX0_asksRow 62 = .ok (.astore_n 2, 1) := dk_77 (dk_at dksX0_asksRow_2 17 rfl rfl)
theorem dX0_asksRow_63 : decode cX0_asksRow 63 = .ok (.bipush (-6), 2) := dk_16 250 (dk_at dksX0_asksRow_2 18 rfl rfl)
theorem dX0_asksRow_65 : decode cX0_asksRow 65 = .ok (.ireturn, 1) := dk_172 (dk_at dksX0_asksRow_2 20 rfl rfl)

abbrev hhX0_asksRow : List (Nat × Nat × Nat × Nat) := [(17, 53, 62, 385), (54, 61, 62, 385)]
theorem okX0_asksRow : wOkVW yX0_asksRow cX0_asksRow 4 (some .int) hhX0_asksRow 1 := ⟨q1029, qs53, q136, q1030, by decide, by decide, by decide +kernel⟩
def gbX0_asksRow_29 (N : Nat) (c0 t n : Nat)  (x1_ : Int32) (x2_ : Int32) (K : (wMem → Option (Int32 × wMem))) (rec : (Int32 → wMem → Option (Int32 × wMem))) (x3_ : Int32) (μ : wMem) : Option (Int32 × wMem) :=
  if x2_ ≤ x3_ then K  μ else wG (ok_in x3_ n) (wBind (fX0_isAct N  (wAt μ c0 t (Int32.toNatClampNeg x3_)) μ) fun v15 μ14 => if v15 = 0 then some ((-2), μ14) else wLet (x3_ + 1 : Int32) fun x17 => rec x17 μ14)
def gX0_asksRow_29 (N : Nat) (c0 t n : Nat)  (x1_ : Int32) (x2_ : Int32) (K : (wMem → Option (Int32 × wMem))) : Nat → (Int32 → wMem → Option (Int32 × wMem))
  | 0 => fun _ _ => none
  | k + 1 => gbX0_asksRow_29 N c0 t n  x1_ x2_ K (gX0_asksRow_29 N c0 t n  x1_ x2_ K k)
set_option maxHeartbeats 4000000 in
set_option maxRecDepth 100000 in
theorem tX0_asksRow_29 {p : Program} {l : Launch} {e : Env} {s : State} {m : MethodId} {args : Array Value} {below : List Frame} {meth : Method} {c : Code} {D : va_G} {E : List wCell} {q : Nat → Nat} {ca : wCA} {A : Nat → Prop} (C : wC p ({ frames := 4, cells := 0, slots := 0, locals := 89 } : Room) s m args meth c cX0_asksRow yX0_asksRow.cls 4 (some .int) D vwCl (spX ++ E) q ca A) (hE : wSlots ca (spX ++ E)) (N : Nat) (c0 t n : Nat)   (x1_ : Int32) (x2_ : Int32) (hi1 : ok_in x1_ 4 = true) (hb : (spX ++ E)[24 + x1_.toNatClampNeg]? = some (.inl (5, [(2, c0)]))) (hr : wRow (spX ++ E) c0 t n) (K : (wMem → Option (Int32 × wMem))) (r0 : (Int32 × wMem)) (hK : ∀  (μ : wMem), K  μ = some r0 → wJ p l e ({ frames := 4, cells := 0, slots := 0, locals := 89 } : Room) s m args below meth c 4 D vwCl (spX ++ E) q ca A (wQi ({ frames := 4, cells := 0, slots := 0, locals := 89 } : Room) D vwCl (spX ++ E) q ca below args s A r0) 0 0 μ 60 [] []) : ∀ (k : Nat) (x3_ : Int32) (μ : wMem), gX0_asksRow_29 N c0 t n  x1_ x2_ K k x3_ μ = some r0 → wJ p l e ({ frames := 4, cells := 0, slots := 0, locals := 89 } : Room) s m args below meth c 4 D vwCl (spX ++ E) q ca A (wQi ({ frames := 4, cells := 0, slots := 0, locals := 89 } : Room) D vwCl (spX ++ E) q ca below args s A r0) 0 0 μ 29 [(0, .ref (q 0)), (1, .int x1_), (2, .int x2_), (3, .int x3_)] [] := by
  intro k
  induction k with
  | zero =>
    intro x3_ μ hf
    cases hf
  | succ k ih =>
    intro x3_ μ hf
    replace hf : gbX0_asksRow_29 N c0 t n  x1_ x2_ K (gX0_asksRow_29 N c0 t n  x1_ x2_ K k) x3_ μ = some r0 := hf
    unfold gbX0_asksRow_29 at hf
    refine wr_iload_n 29 C dX0_asksRow_29 3 rfl rfl ?_
    refine wr_iload_n 30 C dX0_asksRow_30 2 rfl rfl ?_
    refine wr_icmp_ge 31 60 C dX0_asksRow_31 (by decide) (fun c11 => ?_) (fun c11 => ?_)
    · replace hf := o_pos c11 hf
      refine wr_sub [] [] rfl ?_
      exact hK  μ hf
    · replace hf := o_neg c11 hf
      refine wr_aload_n 34 C dX0_asksRow_34 0 rfl rfl ?_
      refine wr_aload_n 35 C dX0_asksRow_35 0 rfl rfl ?_
      refine geX_slots 36 C dX0_asksRow_36 ?_
      refine wr_iload_n 39 C dX0_asksRow_39 1 rfl rfl ?_
      refine wr_aaldD 40 C dX0_asksRow_40 5 hE.1 wRc_slots hE.2 hi1 (wRd_slots (ok_in4 hi1)) ?_
      refine wr_iload_n 41 C dX0_asksRow_41 3 rfl rfl ?_
      obtain ⟨g12, hf⟩ := o_g hf
      refine wr_Vl (kc1 := 0) (ks1 := 0) (As := [.int x3_]) 42 [.ref (q 0)] C dX0_asksRow_42 (tX5_at l hb hr g12 μ) okX5_at q1070 (b := (24 + x1_.toNatClampNeg)) hb rfl ⟨rfl, rfl, Nat.le_of_ble_eq_true rfl, Nat.le_of_ble_eq_true rfl, Nat.zero_le _, Nat.zero_le _⟩ (Nat.le_of_ble_eq_true rfl) rfl ?_
      obtain ⟨v15, μ14, h13, hf⟩ := o_bind hf
      refine wr_Vi (kc1 := 0) (ks1 := 0) 45 [] C dX0_asksRow_45 (tX0_isAct l N   (wAt μ c0 t (Int32.toNatClampNeg x3_)) μ (v15, μ14) h13) okX0_isAct q838 (b := 0) spX_0 rfl ⟨rfl, rfl, Nat.le_of_ble_eq_true rfl, Nat.le_of_ble_eq_true rfl, Nat.zero_le _, Nat.zero_le _⟩ (Nat.le_of_ble_eq_true rfl) rfl ?_
      refine wr_if_ne 48 54 C dX0_asksRow_48 (by decide) (fun c16 => ?_) (fun c16 => ?_)
      · replace hf := o_neg c16 hf
        obtain ⟨x17, ex17, hf⟩ := o_let hf
        refine wr_iinc 54 [(3, .int x17), (0, .ref (q 0)), (1, .int x1_), (2, .int x2_)] C dX0_asksRow_54 3 rfl (ex17.trans rfl) (Nat.le_of_ble_eq_true rfl) rfl ?_
        refine wr_goto 57 C dX0_asksRow_57 (tgt := 29) (by decide) ?_
        refine wr_sub [(0, .ref (q 0)), (1, .int x1_), (2, .int x2_), (3, .int x17)] [1, 2, 3, 0] rfl ?_
        exact ih x17 μ14 hf
      · replace hf := o_pos c16 hf
        refine wr_bipush 51 C dX0_asksRow_51 (v := (-2)) rfl ?_
        exact wr_iret 53 C dX0_asksRow_53 ⟨Nat.zero_le _, Nat.zero_le _⟩ (Option.some.inj hf)
def fX0_asksRow (N : Nat) (c0 t n : Nat)  (a1 : Int32) (μ : wMem) : Option (Int32 × wMem) :=
  wBind (fX0_isSlot N  a1 μ) fun v3 μ2 => wLet (fun  (μ4 : wMem) => some ((-2), μ4)) fun JasksRow14 => if v3 = 0 then JasksRow14  μ2 else wBind (fX0_isFamily N   μ2) fun v8 μ7 => if v8 = 0 then JasksRow14  μ7 else wLet (Int32.ofNat n : Int32) fun x10 => gX0_asksRow_29 N c0 t n  a1 x10 (fun  (μ18 : wMem) => some (0, μ18)) N 0 μ7
set_option maxHeartbeats 4000000 in
set_option maxRecDepth 100000 in
theorem tX0_asksRow (l : Launch) {D : va_G} {E : List wCell} {q : Nat → Nat} {ca : wCA} (hE : wSlots ca (spX ++ E)) (N : Nat) (c0 t n : Nat)   (a1 : Int32) (μ : wMem) (r0 : (Int32 × wMem)) (hi1 : ok_in a1 4 = true) (hb : (spX ++ E)[24 + a1.toNatClampNeg]? = some (.inl (5, [(2, c0)]))) (hr : wRow (spX ++ E) c0 t n) (hf : fX0_asksRow N c0 t n  a1 μ = some r0) : wMiW l yX0_asksRow cX0_asksRow 4 (some .int) hhX0_asksRow ({ frames := 4, cells := 0, slots := 0, locals := 89 } : Room) D vwCl (spX ++ E) q ca [.ref (q 0), .int a1] μ r0 := by
  refine wMiW_intro (by decide) (Nat.le_of_ble_eq_true rfl) ?_
  intro p e s m args below meth c A C hX
  unfold fX0_asksRow at hf
  refine wr_sub [(0, .ref (q 0)), (1, .int a1)] [0, 1] rfl ?_
  refine wr_iload_n 0 C dX0_asksRow_0 1 rfl rfl ?_
  obtain ⟨v3, μ2, h1, hf⟩ := o_bind hf
  refine wr_Si (kc1 := 0) (ks1 := 0) 1 [] C dX0_asksRow_1 (tX0_isSlot l N   a1 μ (v3, μ2) h1) okX0_isSlot q1058 ⟨rfl, rfl, Nat.le_of_ble_eq_true rfl, Nat.le_of_ble_eq_true rfl, Nat.zero_le _, Nat.zero_le _⟩ (Nat.le_of_ble_eq_true rfl) rfl ?_
  obtain ⟨JasksRow14, eJasksRow14, hf⟩ := o_let hf
  have hJasksRow14 : ∀  (μ4 : wMem), JasksRow14  μ4 = some r0 → wJ p l e ({ frames := 4, cells := 0, slots := 0, locals := 89 } : Room) s m args below meth c 4 D vwCl (spX ++ E) q ca A (wQi ({ frames := 4, cells := 0, slots := 0, locals := 89 } : Room) D vwCl (spX ++ E) q ca below args s A r0) 0 0 μ4 14 [] [] := by
    intro  μ4 hf
    rw [eJasksRow14] at hf
    refine wr_bipush 14 C dX0_asksRow_14 (v := (-2)) rfl ?_
    exact wr_iret 16 C dX0_asksRow_16 ⟨Nat.zero_le _, Nat.zero_le _⟩ (Option.some.inj hf)
  refine wr_if_eq 4 14 C dX0_asksRow_4 (by decide) (fun c5 => ?_) (fun c5 => ?_)
  · replace hf := o_pos c5 hf
    refine wr_sub [] [] rfl ?_
    exact hJasksRow14  μ2 hf
  · replace hf := o_neg c5 hf
    refine wr_aload_n 7 C dX0_asksRow_7 0 rfl rfl ?_
    obtain ⟨v8, μ7, h6, hf⟩ := o_bind hf
    refine wr_Vi (kc1 := 0) (ks1 := 0) 8 [] C dX0_asksRow_8 (tX0_isFamily l N    μ2 (v8, μ7) h6) okX0_isFamily q770 (b := 0) spX_0 rfl ⟨rfl, rfl, Nat.le_of_ble_eq_true rfl, Nat.le_of_ble_eq_true rfl, Nat.zero_le _, Nat.zero_le _⟩ (Nat.le_of_ble_eq_true rfl) rfl ?_
    refine wr_if_ne 11 17 C dX0_asksRow_11 (by decide) (fun c9 => ?_) (fun c9 => ?_)
    · replace hf := o_neg c9 hf
      refine wr_aload_n 17 C dX0_asksRow_17 0 rfl rfl ?_
      refine geX_slots 18 C dX0_asksRow_18 ?_
      refine wr_iload_n 21 C dX0_asksRow_21 1 rfl rfl ?_
      refine wr_aaldD 22 C dX0_asksRow_22 5 hE.1 wRc_slots hE.2 hi1 (wRd_slots (ok_in4 hi1)) ?_
      refine wr_Vi (kc1 := 0) (ks1 := 0) (As := []) 23 [] C dX0_asksRow_23 (tX5_size l hb hr μ7) okX5_size q1062 (b := (24 + a1.toNatClampNeg)) hb rfl ⟨rfl, rfl, Nat.le_of_ble_eq_true rfl, Nat.le_of_ble_eq_true rfl, Nat.zero_le _, Nat.zero_le _⟩ (Nat.le_of_ble_eq_true rfl) rfl ?_
      obtain ⟨x10, ex10, hf⟩ := o_let hf
      refine wr_istore_n 26 [(2, .int x10), (0, .ref (q 0)), (1, .int a1)] C dX0_asksRow_26 ex10 rfl (Nat.le_of_ble_eq_true rfl) rfl ?_
      refine wr_iconst 27 C dX0_asksRow_27 (v := 0) rfl ?_
      refine wr_istore_n 28 [(3, .int 0), (2, .int x10), (0, .ref (q 0)), (1, .int a1)] C dX0_asksRow_28 rfl rfl (Nat.le_of_ble_eq_true rfl) rfl ?_
      refine wr_sub [(0, .ref (q 0)), (1, .int a1), (2, .int x10), (3, .int 0)] [2, 3, 1, 0] rfl ?_
      refine tX0_asksRow_29 C hE N c0 t n   a1 x10 hi1 hb hr _ r0 (fun  μ18 hf => ?_) N 0 μ7 hf
      · replace hf := hf
        refine wr_iconst 60 C dX0_asksRow_60 (v := 0) rfl ?_
        exact wr_iret 61 C dX0_asksRow_61 ⟨Nat.zero_le _, Nat.zero_le _⟩ (Option.some.inj hf)
    · replace hf := o_pos c9 hf
      refine wr_sub [] [] rfl ?_
      exact hJasksRow14  μ7 hf
abbrev cX0_asksStamps : ByteArray := prog_1_method_93_code
def yX0_asksStamps : MethodName := ⟨RX0, "asksStamps", "(IZ)I"⟩
def dkwX0_asksStamps_5 : List UInt8 := [164, 0, 6, 16, 254, 172, 42, 29, 181, 1, 140, 3, 172, 78, 16, 250, 172]
abbrev dktX0_asksStamps_5 : List UInt8 := dkwX0_asksStamps_5 ++ []
def dkwX0_asksStamps_4 : List UInt8 := [182, 1, 131, 16, 10, 112, 4, 164, 0, 6, 16, 254, 172, 132, 4, 1, 167, 255, 182, 29, 16, 12]
abbrev dktX0_asksStamps_4 : List UInt8 := dkwX0_asksStamps_4 ++ dktX0_asksStamps_5
def dkwX0_asksStamps_3 : List UInt8 := [153, 0, 34, 42, 42, 27, 21, 4, 182, 1, 131, 16, 10, 108, 182, 0, 146, 153, 0, 17, 42, 27, 21, 4]
abbrev dktX0_asksStamps_3 : List UInt8 := dkwX0_asksStamps_3 ++ dktX0_asksStamps_4
def dkwX0_asksStamps_2 : List UInt8 := [21, 4, 182, 1, 120, 9, 16, 10, 42, 180, 0, 12, 180, 0, 131, 104, 4, 96, 133, 184, 0, 103]
abbrev dktX0_asksStamps_2 : List UInt8 := dkwX0_asksStamps_2 ++ dktX0_asksStamps_3
def dkwX0_asksStamps_1 : List UInt8 := [180, 0, 85, 27, 50, 182, 1, 126, 62, 3, 54, 4, 21, 4, 29, 162, 0, 74, 42, 180, 0, 85, 27, 50]
abbrev dktX0_asksStamps_1 : List UInt8 := dkwX0_asksStamps_1 ++ dktX0_asksStamps_2
def dkwX0_asksStamps_0 : List UInt8 := [27, 184, 1, 123, 153, 0, 14, 42, 182, 0, 252, 153, 0, 7, 28, 154, 0, 6, 16, 254, 172, 42]
abbrev dktX0_asksStamps_0 : List UInt8 := dkwX0_asksStamps_0 ++ dktX0_asksStamps_1
theorem dksX0_asksStamps_0 : cX0_asksStamps.data.toList.drop 0 = dktX0_asksStamps_0 := by decide +kernel
theorem dksX0_asksStamps_1 : cX0_asksStamps.data.toList.drop 22 = dktX0_asksStamps_1 := dk_seg dksX0_asksStamps_0 22 rfl rfl
theorem dksX0_asksStamps_2 : cX0_asksStamps.data.toList.drop 46 = dktX0_asksStamps_2 := dk_seg dksX0_asksStamps_1 24 rfl rfl
theorem dksX0_asksStamps_3 : cX0_asksStamps.data.toList.drop 68 = dktX0_asksStamps_3 := dk_seg dksX0_asksStamps_2 22 rfl rfl
theorem dksX0_asksStamps_4 : cX0_asksStamps.data.toList.drop 92 = dktX0_asksStamps_4 := dk_seg dksX0_asksStamps_3 24 rfl rfl
theorem dksX0_asksStamps_5 : cX0_asksStamps.data.toList.drop 114 = dktX0_asksStamps_5 := dk_seg dksX0_asksStamps_4 22 rfl rfl
theorem dX0_asksStamps_0 : decode cX0_asksStamps 0 = .ok (.iload_n 1, 1) := dk_27 (dk_at dksX0_asksStamps_0 0 rfl rfl)
theorem dX0_asksStamps_1 : decode cX0_asksStamps 1 = .ok (.invokestatic 379, 3) := dk_184 1 123 (dk_at dksX0_asksStamps_0 1 rfl rfl)
theorem dX0_asksStamps_4 : decode cX0_asksStamps 4 = .ok (.ifCond .eq 14, 3) := dk_153 0 14 (dk_at dksX0_asksStamps_0 4 rfl rfl)
theorem dX0_asksStamps_7 : decode cX0_asksStamps 7 = .ok (.aload_n 0, 1) := dk_42 (dk_at dksX0_asksStamps_0 7 rfl rfl)
theorem dX0_asksStamps_8 : decode cX0_asksStamps 8 = .ok (.invokevirtual 252, 3) := dk_182 0 252 (dk_at dksX0_asksStamps_0 8 rfl rfl)
theorem dX0_asksStamps_11 : decode cX0_asksStamps 11 = .ok (.ifCond .eq 7, 3) := dk_153 0 7 (dk_at dksX0_asksStamps_0 11 rfl rfl)
theorem dX0_asksStamps_14 : decode cX0_asksStamps 14 = .ok (.iload_n 2, 1) := dk_28 (dk_at dksX0_asksStamps_0 14 rfl rfl)
theorem dX0_asksStamps_15 : decode cX0_asksStamps 15 = .ok (.ifCond .ne 6, 3) := dk_154 0 6 (dk_at dksX0_asksStamps_0 15 rfl rfl)
theorem dX0_asksStamps_18 : decode cX0_asksStamps 18 = .ok (.bipush (-2), 2) := dk_16 254 (dk_at dksX0_asksStamps_0 18 rfl rfl)
theorem dX0_asksStamps_20 : decode cX0_asksStamps 20 = .ok (.ireturn, 1) := dk_172 (dk_at dksX0_asksStamps_0 20 rfl rfl)
theorem dX0_asksStamps_21 : decode cX0_asksStamps 21 = .ok (.aload_n 0, 1) := dk_42 (dk_at dksX0_asksStamps_0 21 rfl rfl)
theorem dX0_asksStamps_22 : decode cX0_asksStamps 22 = .ok (.getfield 85, 3) := dk_180 0 85 (dk_at dksX0_asksStamps_1 0 rfl rfl)
theorem dX0_asksStamps_25 : decode cX0_asksStamps 25 = .ok (.iload_n 1, 1) := dk_27 (dk_at dksX0_asksStamps_1 3 rfl rfl)
theorem dX0_asksStamps_26 : decode cX0_asksStamps 26 = .ok (.aaload, 1) := dk_50 (dk_at dksX0_asksStamps_1 4 rfl rfl)
theorem dX0_asksStamps_27 : decode cX0_asksStamps 27 = .ok (.invokevirtual 382, 3) := dk_182 1 126 (dk_at dksX0_asksStamps_1 5 rfl rfl)
theorem dX0_asksStamps_30 : decode cX0_asksStamps 30 = .ok (.istore_n 3, 1) := dk_62 (dk_at dksX0_asksStamps_1 8 rfl rfl)
theorem dX0_asksStamps_31 : decode cX0_asksStamps 31 = .ok (.iconst 0, 1) := dk_3 (dk_at dksX0_asksStamps_1 9 rfl rfl)
theorem dX0_asksStamps_32 : decode cX0_asksStamps 32 = .ok (.istore 4, 2) := dk_54 4 (dk_at dksX0_asksStamps_1 10 rfl rfl)
theorem dX0_asksStamps_34 : decode cX0_asksStamps 34 = .ok (.iload 4, 2) := dk_21 4 (dk_at dksX0_asksStamps_1 12 rfl rfl)
theorem dX0_asksStamps_36 : decode cX0_asksStamps 36 = .ok (.iload_n 3, 1) := dk_29 (dk_at dksX0_asksStamps_1 14 rfl rfl)
theorem dX0_asksStamps_37 : decode cX0_asksStamps 37 = .ok (.if_icmp .ge 74, 3) := dk_162 0 74 (dk_at dksX0_asksStamps_1 15 rfl rfl)
theorem dX0_asksStamps_40 : decode cX0_asksStamps 40 = .ok (.aload_n 0, 1) := dk_42 (dk_at dksX0_asksStamps_1 18 rfl rfl)
theorem dX0_asksStamps_41 : decode cX0_asksStamps 41 = .ok (.getfield 85, 3) := dk_180 0 85 (dk_at dksX0_asksStamps_1 19 rfl rfl)
theorem dX0_asksStamps_44 : decode cX0_asksStamps 44 = .ok (.iload_n 1, 1) := dk_27 (dk_at dksX0_asksStamps_1 22 rfl rfl)
theorem dX0_asksStamps_45 : decode cX0_asksStamps 45 = .ok (.aaload, 1) := dk_50 (dk_at dksX0_asksStamps_1 23 rfl rfl)
theorem dX0_asksStamps_46 : decode cX0_asksStamps 46 = .ok (.iload 4, 2) := dk_21 4 (dk_at dksX0_asksStamps_2 0 rfl rfl)
theorem dX0_asksStamps_48 : decode cX0_asksStamps 48 = .ok (.invokevirtual 376, 3) := dk_182 1 120 (dk_at dksX0_asksStamps_2 2 rfl rfl)
theorem dX0_asksStamps_51 : decode cX0_asksStamps 51 = .ok (.lconst 0, 1) := dk_9 (dk_at dksX0_asksStamps_2 5 rfl rfl)
theorem dX0_asksStamps_52 : decode cX0_asksStamps 52 = .ok (.bipush 10, 2) := dk_16 10 (dk_at dksX0_asksStamps_2 6 rfl rfl)
theorem dX0_asksStamps_54 : decode cX0_asksStamps 54 = .ok (.aload_n 0, 1) := dk_42 (dk_at dksX0_asksStamps_2 8 rfl rfl)
theorem dX0_asksStamps_55 : decode cX0_asksStamps 55 = .ok (.getfield 12, 3) := dk_180 0 12 (dk_at dksX0_asksStamps_2 9 rfl rfl)
theorem dX0_asksStamps_58 : decode cX0_asksStamps 58 = .ok (.getfield 131, 3) := dk_180 0 131 (dk_at dksX0_asksStamps_2 12 rfl rfl)
theorem dX0_asksStamps_61 : decode cX0_asksStamps 61 = .ok (.imul, 1) := dk_104 (dk_at dksX0_asksStamps_2 15 rfl rfl)
theorem dX0_asksStamps_62 : decode cX0_asksStamps 62 = .ok (.iconst 1, 1) := dk_4 (dk_at dksX0_asksStamps_2 16 rfl rfl)
theorem dX0_asksStamps_63 : decode cX0_asksStamps 63 = .ok (.iadd, 1) := dk_96 (dk_at dksX0_asksStamps_2 17 rfl rfl)
theorem dX0_asksStamps_64 : decode cX0_asksStamps 64 = .ok (.i2l, 1) := dk_133 (dk_at dksX0_asksStamps_2 18 rfl rfl)
theorem dX0_asksStamps_65 : decode cX0_asksStamps 65 = .ok (.invokestatic 103, 3) := dk_184 0 103 (dk_at dksX0_asksStamps_2 19 rfl rfl)
theorem dX0_asksStamps_68 : decode cX0_asksStamps 68 = .ok (.ifCond .eq 34, 3) := dk_153 0 34 (dk_at dksX0_asksStamps_3 0 rfl rfl)
theorem dX0_asksStamps_71 : decode cX0_asksStamps 71 = .ok (.aload_n 0, 1) := dk_42 (dk_at dksX0_asksStamps_3 3 rfl rfl)
theorem dX0_asksStamps_72 : decode cX0_asksStamps 72 = .ok (.aload_n 0, 1) := dk_42 (dk_at dksX0_asksStamps_3 4 rfl rfl)
theorem dX0_asksStamps_73 : decode cX0_asksStamps 73 = .ok (.iload_n 1, 1) := dk_27 (dk_at dksX0_asksStamps_3 5 rfl rfl)
theorem dX0_asksStamps_74 : decode cX0_asksStamps 74 = .ok (.iload 4, 2) := dk_21 4 (dk_at dksX0_asksStamps_3 6 rfl rfl)
theorem dX0_asksStamps_76 : decode cX0_asksStamps 76 = .ok (.invokevirtual 387, 3) := dk_182 1 131 (dk_at dksX0_asksStamps_3 8 rfl rfl)
theorem dX0_asksStamps_79 : decode cX0_asksStamps 79 = .ok (.bipush 10, 2) := dk_16 10 (dk_at dksX0_asksStamps_3 11 rfl rfl)
theorem dX0_asksStamps_81 : decode cX0_asksStamps 81 = .ok (.idiv, 1) := dk_108 (dk_at dksX0_asksStamps_3 13 rfl rfl)
theorem dX0_asksStamps_82 : decode cX0_asksStamps 82 = .ok (.invokevirtual 146, 3) := dk_182 0 146 (dk_at dksX0_asksStamps_3 14 rfl rfl)
theorem dX0_asksStamps_85 : decode cX0_asksStamps 85 = .ok (.ifCond .eq 17, 3) := dk_153 0 17 (dk_at dksX0_asksStamps_3 17 rfl rfl)
theorem dX0_asksStamps_88 : decode cX0_asksStamps 88 = .ok (.aload_n 0, 1) := dk_42 (dk_at dksX0_asksStamps_3 20 rfl rfl)
theorem dX0_asksStamps_89 : decode cX0_asksStamps 89 = .ok (.iload_n 1, 1) := dk_27 (dk_at dksX0_asksStamps_3 21 rfl rfl)
theorem dX0_asksStamps_90 : decode cX0_asksStamps 90 = .ok (.iload 4, 2) := dk_21 4 (dk_at dksX0_asksStamps_3 22 rfl rfl)
theorem dX0_asksStamps_92 : decode cX0_asksStamps 92 = .ok (.invokevirtual 387, 3) := dk_182 1 131 (dk_at dksX0_asksStamps_4 0 rfl rfl)
theorem dX0_asksStamps_95 : decode cX0_asksStamps 95 = .ok (.bipush 10, 2) := dk_16 10 (dk_at dksX0_asksStamps_4 3 rfl rfl)
theorem dX0_asksStamps_97 : decode cX0_asksStamps 97 = .ok (.irem, 1) := dk_112 (dk_at dksX0_asksStamps_4 5 rfl rfl)
theorem dX0_asksStamps_98 : decode cX0_asksStamps 98 = .ok (.iconst 1, 1) := dk_4 (dk_at dksX0_asksStamps_4 6 rfl rfl)
theorem dX0_asksStamps_99 : decode cX0_asksStamps 99 = .ok (.if_icmp .le 6, 3) := dk_164 0 6 (dk_at dksX0_asksStamps_4 7 rfl rfl)
theorem dX0_asksStamps_102 : decode cX0_asksStamps 102 = .ok (.bipush (-2), 2) := dk_16 254 (dk_at dksX0_asksStamps_4 10 rfl rfl)
theorem dX0_asksStamps_104 : decode cX0_asksStamps 104 = .ok (.ireturn, 1) := dk_172 (dk_at dksX0_asksStamps_4 12 rfl rfl)
theorem dX0_asksStamps_105 : decode cX0_asksStamps 105 = .ok (.iinc 4 1, 3) := dk_132 4 1 (dk_at dksX0_asksStamps_4 13 rfl rfl)
theorem dX0_asksStamps_108 : decode cX0_asksStamps 108 = .ok (.goto (-74), 3) := dk_167 255 182 (dk_at dksX0_asksStamps_4 16 rfl rfl)
theorem dX0_asksStamps_111 : decode cX0_asksStamps 111 = .ok (.iload_n 3, 1) := dk_29 (dk_at dksX0_asksStamps_4 19 rfl rfl)
theorem dX0_asksStamps_112 : decode cX0_asksStamps 112 = .ok (.bipush 12, 2) := dk_16 12 (dk_at dksX0_asksStamps_4 20 rfl rfl)
theorem dX0_asksStamps_114 : decode cX0_asksStamps 114 = .ok (.if_icmp .le 6, 3) := dk_164 0 6 (dk_at dksX0_asksStamps_5 0 rfl rfl)
theorem dX0_asksStamps_117 : decode cX0_asksStamps 117 = .ok (.bipush (-2), 2) := dk_16 254 (dk_at dksX0_asksStamps_5 3 rfl rfl)
theorem dX0_asksStamps_119 : decode cX0_asksStamps 119 = .ok (.ireturn, 1) := dk_172 (dk_at dksX0_asksStamps_5 5 rfl rfl)
theorem dX0_asksStamps_120 : decode cX0_asksStamps 120 = .ok (.aload_n 0, 1) := dk_42 (dk_at dksX0_asksStamps_5 6 rfl rfl)
theorem dX0_asksStamps_121 : decode cX0_asksStamps 121 = .ok (.iload_n 3, 1) := dk_29 (dk_at dksX0_asksStamps_5 7 rfl rfl)
theorem dX0_asksStamps_122 : decode cX0_asksStamps 122 = .ok (.putfield 396, 3) := dk_181 1 140 (dk_at dksX0_asksStamps_5 8 rfl rfl)
theorem dX0_asksStamps_125 : decode cX0_asksStamps 125 = .ok (.iconst 0, 1) := dk_3 (dk_at dksX0_asksStamps_5 11 rfl rfl)
theorem dX0_asksStamps_126 : decode cX0_asksStamps 126 = .ok (.ireturn, 1) := dk_172 (dk_at dksX0_asksStamps_5 12 rfl rfl)
theorem dX0_asksStamps_127 : decode cX0_asksStamps 127 = .ok (.astore_n 3, 1) := dk_78 (dk_at dksX0_asksStamps_5 13 rfl rfl)
theorem dX0_asksStamps_128 : decode cX0_asksStamps 128 = .ok (.bipush (-6), 2) := dk_16 250 (dk_at dksX0_asksStamps_5 14 rfl rfl)
theorem dX0_asksStamps_130 : decode cX0_asksStamps 130 = .ok (.ireturn, 1) := dk_172 (dk_at dksX0_asksStamps_5 16 rfl rfl)
theorem puspX_0_28_X0 {p : Program} {l : Launch} {e : Env} {R : Room} {s : State} {m : MethodId} {args : Array Value} {below : List Frame} {meth : Method} {c : Code} {cc : ByteArray} {nL : Nat} {ret : Option FieldType} {D : va_G} {E : List wCell} {q : Nat → Nat} {ca : wCA} {A : Nat → Prop} {Q : State → Prop} {kc ks : Nat} {μ : wMem} {lv : List (Nat × Value)} {st : List Value} {v : Int32} {μ1 : wMem} (pc : Nat) (C : wC p R s m args meth c cc "OnePassport" nL ret D vwCl (spX ++ E) q ca A) (hd : decode cc pc = .ok (.putfield 396, 3)) (hμ : μ1 = wSI μ 0 28 v) (k : wJ p l e R s m args below meth c nL D vwCl (spX ++ E) q ca A Q kc ks μ1 (pc + 3) lv st) : wJ p l e R s m args below meth c nL D vwCl (spX ++ E) q ca A Q kc ks μ pc lv (.int v :: .ref (q 0) :: st) := wr_putI pc 28 C hd spX_0 rfl in_X0 tyX0 tyX0_ok nmX0 (by decide) rfl q359 rfl rfl hμ k
abbrev hhX0_asksStamps : List (Nat × Nat × Nat × Nat) := [(21, 104, 127, 385), (105, 119, 127, 385), (120, 126, 127, 385)]
theorem okX0_asksStamps : wOkVW yX0_asksStamps cX0_asksStamps 5 (some .int) hhX0_asksStamps 2 := ⟨q1104, qs56, q136, q1105, by decide, by decide, by decide +kernel⟩
def gbX0_asksStamps_34 (N : Nat) (c0 t n : Nat)  (x1_ : Int32) (x3_ : Int32) (K : (wMem → Option (Int32 × wMem))) (rec : (Int32 → wMem → Option (Int32 × wMem))) (x4_ : Int32) (μ : wMem) : Option (Int32 × wMem) :=
  if x3_ ≤ x4_ then K  μ else wG (ok_in x4_ n) (wBind (fX0_isIn N  (wAt μ c0 t (Int32.toNatClampNeg x4_)) 0 (Int32.toInt64 (((10 : Int32) * (μ.1 1 3)) + (1 : Int32))) μ) fun v16 μ15 => wLet (fun  (μ17 : wMem) => some ((-2), μ17)) fun JasksStamps102 => if v16 = 0 then JasksStamps102  μ15 else wG (ok_in x4_ n) (wBind (fX0_isPost N  ((Int64.toInt32 (wAt μ15 c0 t (Int32.toNatClampNeg x4_))) / (10 : Int32)) μ15) fun v22 μ21 => if v22 = 0 then JasksStamps102  μ21 else wG (ok_in x4_ n) (if ((Int64.toInt32 (wAt μ21 c0 t (Int32.toNatClampNeg x4_))) - (Int64.toInt32 (wAt μ21 c0 t (Int32.toNatClampNeg x4_))) / (10 : Int32) * (10 : Int32)) ≤ (1 : Int32) then wLet (x4_ + 1 : Int32) fun x26 => rec x26 μ21 else JasksStamps102  μ21)))
def gX0_asksStamps_34 (N : Nat) (c0 t n : Nat)  (x1_ : Int32) (x3_ : Int32) (K : (wMem → Option (Int32 × wMem))) : Nat → (Int32 → wMem → Option (Int32 × wMem))
  | 0 => fun _ _ => none
  | k + 1 => gbX0_asksStamps_34 N c0 t n  x1_ x3_ K (gX0_asksStamps_34 N c0 t n  x1_ x3_ K k)
set_option maxHeartbeats 4000000 in
set_option maxRecDepth 100000 in
theorem tX0_asksStamps_34 {p : Program} {l : Launch} {e : Env} {s : State} {m : MethodId} {args : Array Value} {below : List Frame} {meth : Method} {c : Code} {D : va_G} {E : List wCell} {q : Nat → Nat} {ca : wCA} {A : Nat → Prop} (C : wC p ({ frames := 2, cells := 0, slots := 0, locals := 46 } : Room) s m args meth c cX0_asksStamps yX0_asksStamps.cls 5 (some .int) D vwCl (spX ++ E) q ca A) (hE : wSlots ca (spX ++ E)) (N : Nat) (c0 t n : Nat)   (x1_ : Int32) (x3_ : Int32) (hi1 : ok_in x1_ 4 = true) (hb : (spX ++ E)[24 + x1_.toNatClampNeg]? = some (.inl (5, [(2, c0)]))) (hr : wRow (spX ++ E) c0 t n) (K : (wMem → Option (Int32 × wMem))) (r0 : (Int32 × wMem)) (hK : ∀  (μ : wMem), K  μ = some r0 → wJ p l e ({ frames := 2, cells := 0, slots := 0, locals := 46 } : Room) s m args below meth c 5 D vwCl (spX ++ E) q ca A (wQi ({ frames := 2, cells := 0, slots := 0, locals := 46 } : Room) D vwCl (spX ++ E) q ca below args s A r0) 0 0 μ 111 [(0, .ref (q 0)), (3, .int x3_)] []) : ∀ (k : Nat) (x4_ : Int32) (μ : wMem), gX0_asksStamps_34 N c0 t n  x1_ x3_ K k x4_ μ = some r0 → wJ p l e ({ frames := 2, cells := 0, slots := 0, locals := 46 } : Room) s m args below meth c 5 D vwCl (spX ++ E) q ca A (wQi ({ frames := 2, cells := 0, slots := 0, locals := 46 } : Room) D vwCl (spX ++ E) q ca below args s A r0) 0 0 μ 34 [(0, .ref (q 0)), (1, .int x1_), (3, .int x3_), (4, .int x4_)] [] := by
  intro k
  induction k with
  | zero =>
    intro x4_ μ hf
    cases hf
  | succ k ih =>
    intro x4_ μ hf
    replace hf : gbX0_asksStamps_34 N c0 t n  x1_ x3_ K (gX0_asksStamps_34 N c0 t n  x1_ x3_ K k) x4_ μ = some r0 := hf
    unfold gbX0_asksStamps_34 at hf
    refine wr_iload 34 C dX0_asksStamps_34 3 rfl ?_
    refine wr_iload_n 36 C dX0_asksStamps_36 2 rfl rfl ?_
    refine wr_icmp_ge 37 111 C dX0_asksStamps_37 (by decide) (fun c12 => ?_) (fun c12 => ?_)
    · replace hf := o_pos c12 hf
      refine wr_sub [(0, .ref (q 0)), (3, .int x3_)] [0, 2] rfl ?_
      exact hK  μ hf
    · replace hf := o_neg c12 hf
      refine wr_aload_n 40 C dX0_asksStamps_40 0 rfl rfl ?_
      refine geX_slots 41 C dX0_asksStamps_41 ?_
      refine wr_iload_n 44 C dX0_asksStamps_44 1 rfl rfl ?_
      refine wr_aaldD 45 C dX0_asksStamps_45 5 hE.1 wRc_slots hE.2 hi1 (wRd_slots (ok_in4 hi1)) ?_
      refine wr_iload 46 C dX0_asksStamps_46 3 rfl ?_
      obtain ⟨g13, hf⟩ := o_g hf
      refine wr_Vl (kc1 := 0) (ks1 := 0) (As := [.int x4_]) 48 [] C dX0_asksStamps_48 (tX5_at l hb hr g13 μ) okX5_at q1070 (b := (24 + x1_.toNatClampNeg)) hb rfl ⟨rfl, rfl, Nat.le_of_ble_eq_true rfl, Nat.le_of_ble_eq_true rfl, Nat.zero_le _, Nat.zero_le _⟩ (Nat.le_of_ble_eq_true rfl) rfl ?_
      refine wr_lconst 51 C dX0_asksStamps_51 (v := 0) rfl ?_
      refine wr_bipush 52 C dX0_asksStamps_52 (v := 10) rfl ?_
      refine wr_aload_n 54 C dX0_asksStamps_54 0 rfl rfl ?_
      refine gespX_0_0_X0 55 C dX0_asksStamps_55 ?_
      refine gespX_1_3_X0 58 C dX0_asksStamps_58 ?_
      refine wr_imul 61 C dX0_asksStamps_61 ?_
      refine wr_iconst 62 C dX0_asksStamps_62 (v := 1) rfl ?_
      refine wr_iadd 63 C dX0_asksStamps_63 ?_
      refine wr_i2l 64 C dX0_asksStamps_64 ?_
      obtain ⟨v16, μ15, h14, hf⟩ := o_bind hf
      refine wr_Si (kc1 := 0) (ks1 := 0) 65 [] C dX0_asksStamps_65 (tX0_isIn l N   (wAt μ c0 t (Int32.toNatClampNeg x4_)) 0 (Int32.toInt64 (((10 : Int32) * (μ.1 1 3)) + (1 : Int32))) μ (v16, μ15) h14) okX0_isIn q446 ⟨rfl, rfl, Nat.le_of_ble_eq_true rfl, Nat.le_of_ble_eq_true rfl, Nat.zero_le _, Nat.zero_le _⟩ (Nat.le_of_ble_eq_true rfl) rfl ?_
      obtain ⟨JasksStamps102, eJasksStamps102, hf⟩ := o_let hf
      have hJasksStamps102 : ∀  (μ17 : wMem), JasksStamps102  μ17 = some r0 → wJ p l e ({ frames := 2, cells := 0, slots := 0, locals := 46 } : Room) s m args below meth c 5 D vwCl (spX ++ E) q ca A (wQi ({ frames := 2, cells := 0, slots := 0, locals := 46 } : Room) D vwCl (spX ++ E) q ca below args s A r0) 0 0 μ17 102 [] [] := by
        intro  μ17 hf
        rw [eJasksStamps102] at hf
        refine wr_bipush 102 C dX0_asksStamps_102 (v := (-2)) rfl ?_
        exact wr_iret 104 C dX0_asksStamps_104 ⟨Nat.zero_le _, Nat.zero_le _⟩ (Option.some.inj hf)
      refine wr_if_eq 68 102 C dX0_asksStamps_68 (by decide) (fun c18 => ?_) (fun c18 => ?_)
      · replace hf := o_pos c18 hf
        refine wr_sub [] [] rfl ?_
        exact hJasksStamps102  μ15 hf
      · replace hf := o_neg c18 hf
        refine wr_aload_n 71 C dX0_asksStamps_71 0 rfl rfl ?_
        refine wr_aload_n 72 C dX0_asksStamps_72 0 rfl rfl ?_
        refine wr_iload_n 73 C dX0_asksStamps_73 1 rfl rfl ?_
        refine wr_iload 74 C dX0_asksStamps_74 3 rfl ?_
        obtain ⟨g19, hf⟩ := o_g hf
        refine wr_Vi (kc1 := 0) (ks1 := 0) (As := [.int x1_, .int x4_]) 76 [.ref (q 0)] C dX0_asksStamps_76 (tX0_number l hE hi1 hb hr g19 μ15) okX0_number q1078 (b := 0) spX_0 rfl ⟨rfl, rfl, Nat.le_of_ble_eq_true rfl, Nat.le_of_ble_eq_true rfl, Nat.zero_le _, Nat.zero_le _⟩ (Nat.le_of_ble_eq_true rfl) rfl ?_
        refine wr_bipush 79 C dX0_asksStamps_79 (v := 10) rfl ?_
        refine wr_idiv 81 C dX0_asksStamps_81 (by decide) ?_
        obtain ⟨v22, μ21, h20, hf⟩ := o_bind hf
        refine wr_Vi (kc1 := 0) (ks1 := 0) 82 [] C dX0_asksStamps_82 (tX0_isPost l N   ((Int64.toInt32 (wAt μ15 c0 t (Int32.toNatClampNeg x4_))) / (10 : Int32)) μ15 (v22, μ21) h20) okX0_isPost q706 (b := 0) spX_0 rfl ⟨rfl, rfl, Nat.le_of_ble_eq_true rfl, Nat.le_of_ble_eq_true rfl, Nat.zero_le _, Nat.zero_le _⟩ (Nat.le_of_ble_eq_true rfl) rfl ?_
        refine wr_if_eq 85 102 C dX0_asksStamps_85 (by decide) (fun c23 => ?_) (fun c23 => ?_)
        · replace hf := o_pos c23 hf
          refine wr_sub [] [] rfl ?_
          exact hJasksStamps102  μ21 hf
        · replace hf := o_neg c23 hf
          refine wr_aload_n 88 C dX0_asksStamps_88 0 rfl rfl ?_
          refine wr_iload_n 89 C dX0_asksStamps_89 1 rfl rfl ?_
          refine wr_iload 90 C dX0_asksStamps_90 3 rfl ?_
          obtain ⟨g24, hf⟩ := o_g hf
          refine wr_Vi (kc1 := 0) (ks1 := 0) (As := [.int x1_, .int x4_]) 92 [] C dX0_asksStamps_92 (tX0_number l hE hi1 hb hr g24 μ21) okX0_number q1078 (b := 0) spX_0 rfl ⟨rfl, rfl, Nat.le_of_ble_eq_true rfl, Nat.le_of_ble_eq_true rfl, Nat.zero_le _, Nat.zero_le _⟩ (Nat.le_of_ble_eq_true rfl) rfl ?_
          refine wr_bipush 95 C dX0_asksStamps_95 (v := 10) rfl ?_
          refine wr_irem 97 C dX0_asksStamps_97 (by decide) ?_
          refine wr_iconst 98 C dX0_asksStamps_98 (v := 1) rfl ?_
          refine wr_icmp_le 99 105 C dX0_asksStamps_99 (by decide) (fun c25 => ?_) (fun c25 => ?_)
          · replace hf := o_pos c25 hf
            obtain ⟨x26, ex26, hf⟩ := o_let hf
            refine wr_iinc 105 [(4, .int x26), (0, .ref (q 0)), (1, .int x1_), (3, .int x3_)] C dX0_asksStamps_105 3 rfl (ex26.trans rfl) (Nat.le_of_ble_eq_true rfl) rfl ?_
            refine wr_goto 108 C dX0_asksStamps_108 (tgt := 34) (by decide) ?_
            refine wr_sub [(0, .ref (q 0)), (1, .int x1_), (3, .int x3_), (4, .int x26)] [1, 2, 3, 0] rfl ?_
            exact ih x26 μ21 hf
          · replace hf := o_neg c25 hf
            refine wr_sub [] [] rfl ?_
            exact hJasksStamps102  μ21 hf
def fX0_asksStamps (N : Nat) (c0 t n : Nat)  (a1 : Int32) (a2 : Int32) (μ : wMem) : Option (Int32 × wMem) :=
  wBind (fX0_isSlot N  a1 μ) fun v3 μ2 => wLet (fun  (μ4 : wMem) => some ((-2), μ4)) fun JasksStamps18 => if v3 = 0 then JasksStamps18  μ2 else wBind (fX0_isFamily N   μ2) fun v8 μ7 => if v8 = 0 then JasksStamps18  μ7 else if a2 = 0 then JasksStamps18  μ7 else wLet (Int32.ofNat n : Int32) fun x11 => gX0_asksStamps_34 N c0 t n  a1 x11 (fun  (μ27 : wMem) => if x11 ≤ (12 : Int32) then wLet (wSI μ27 0 28 x11) fun μ29 => some (0, μ29) else some ((-2), μ27)) N 0 μ7
set_option maxHeartbeats 4000000 in
set_option maxRecDepth 100000 in
theorem tX0_asksStamps (l : Launch) {D : va_G} {E : List wCell} {q : Nat → Nat} {ca : wCA} (hE : wSlots ca (spX ++ E)) (N : Nat) (c0 t n : Nat)   (a1 : Int32) (a2 : Int32) (μ : wMem) (r0 : (Int32 × wMem)) (hi1 : ok_in a1 4 = true) (hb : (spX ++ E)[24 + a1.toNatClampNeg]? = some (.inl (5, [(2, c0)]))) (hr : wRow (spX ++ E) c0 t n) (hf : fX0_asksStamps N c0 t n  a1 a2 μ = some r0) : wMiW l yX0_asksStamps cX0_asksStamps 5 (some .int) hhX0_asksStamps ({ frames := 2, cells := 0, slots := 0, locals := 46 } : Room) D vwCl (spX ++ E) q ca [.ref (q 0), .int a1, .int a2] μ r0 := by
  refine wMiW_intro (by decide) (Nat.le_of_ble_eq_true rfl) ?_
  intro p e s m args below meth c A C hX
  unfold fX0_asksStamps at hf
  refine wr_sub [(0, .ref (q 0)), (1, .int a1), (2, .int a2)] [0, 1, 2] rfl ?_
  refine wr_iload_n 0 C dX0_asksStamps_0 1 rfl rfl ?_
  obtain ⟨v3, μ2, h1, hf⟩ := o_bind hf
  refine wr_Si (kc1 := 0) (ks1 := 0) 1 [] C dX0_asksStamps_1 (tX0_isSlot l N   a1 μ (v3, μ2) h1) okX0_isSlot q1058 ⟨rfl, rfl, Nat.le_of_ble_eq_true rfl, Nat.le_of_ble_eq_true rfl, Nat.zero_le _, Nat.zero_le _⟩ (Nat.le_of_ble_eq_true rfl) rfl ?_
  obtain ⟨JasksStamps18, eJasksStamps18, hf⟩ := o_let hf
  have hJasksStamps18 : ∀  (μ4 : wMem), JasksStamps18  μ4 = some r0 → wJ p l e ({ frames := 2, cells := 0, slots := 0, locals := 46 } : Room) s m args below meth c 5 D vwCl (spX ++ E) q ca A (wQi ({ frames := 2, cells := 0, slots := 0, locals := 46 } : Room) D vwCl (spX ++ E) q ca below args s A r0) 0 0 μ4 18 [] [] := by
    intro  μ4 hf
    rw [eJasksStamps18] at hf
    refine wr_bipush 18 C dX0_asksStamps_18 (v := (-2)) rfl ?_
    exact wr_iret 20 C dX0_asksStamps_20 ⟨Nat.zero_le _, Nat.zero_le _⟩ (Option.some.inj hf)
  refine wr_if_eq 4 18 C dX0_asksStamps_4 (by decide) (fun c5 => ?_) (fun c5 => ?_)
  · replace hf := o_pos c5 hf
    refine wr_sub [] [] rfl ?_
    exact hJasksStamps18  μ2 hf
  · replace hf := o_neg c5 hf
    refine wr_aload_n 7 C dX0_asksStamps_7 0 rfl rfl ?_
    obtain ⟨v8, μ7, h6, hf⟩ := o_bind hf
    refine wr_Vi (kc1 := 0) (ks1 := 0) 8 [] C dX0_asksStamps_8 (tX0_isFamily l N    μ2 (v8, μ7) h6) okX0_isFamily q770 (b := 0) spX_0 rfl ⟨rfl, rfl, Nat.le_of_ble_eq_true rfl, Nat.le_of_ble_eq_true rfl, Nat.zero_le _, Nat.zero_le _⟩ (Nat.le_of_ble_eq_true rfl) rfl ?_
    refine wr_if_eq 11 18 C dX0_asksStamps_11 (by decide) (fun c9 => ?_) (fun c9 => ?_)
    · replace hf := o_pos c9 hf
      refine wr_sub [] [] rfl ?_
      exact hJasksStamps18  μ7 hf
    · replace hf := o_neg c9 hf
      refine wr_iload_n 14 C dX0_asksStamps_14 2 rfl rfl ?_
      refine wr_if_ne 15 21 C dX0_asksStamps_15 (by decide) (fun c10 => ?_) (fun c10 => ?_)
      · replace hf := o_neg c10 hf
        refine wr_aload_n 21 C dX0_asksStamps_21 0 rfl rfl ?_
        refine geX_slots 22 C dX0_asksStamps_22 ?_
        refine wr_iload_n 25 C dX0_asksStamps_25 1 rfl rfl ?_
        refine wr_aaldD 26 C dX0_asksStamps_26 5 hE.1 wRc_slots hE.2 hi1 (wRd_slots (ok_in4 hi1)) ?_
        refine wr_Vi (kc1 := 0) (ks1 := 0) (As := []) 27 [] C dX0_asksStamps_27 (tX5_size l hb hr μ7) okX5_size q1062 (b := (24 + a1.toNatClampNeg)) hb rfl ⟨rfl, rfl, Nat.le_of_ble_eq_true rfl, Nat.le_of_ble_eq_true rfl, Nat.zero_le _, Nat.zero_le _⟩ (Nat.le_of_ble_eq_true rfl) rfl ?_
        obtain ⟨x11, ex11, hf⟩ := o_let hf
        refine wr_istore_n 30 [(3, .int x11), (0, .ref (q 0)), (1, .int a1), (2, .int a2)] C dX0_asksStamps_30 ex11 rfl (Nat.le_of_ble_eq_true rfl) rfl ?_
        refine wr_iconst 31 C dX0_asksStamps_31 (v := 0) rfl ?_
        refine wr_istore 32 [(4, .int 0), (3, .int x11), (0, .ref (q 0)), (1, .int a1), (2, .int a2)] C dX0_asksStamps_32 rfl (Nat.le_of_ble_eq_true rfl) rfl ?_
        refine wr_sub [(0, .ref (q 0)), (1, .int a1), (3, .int x11), (4, .int 0)] [2, 3, 1, 0] rfl ?_
        refine tX0_asksStamps_34 C hE N c0 t n   a1 x11 hi1 hb hr _ r0 (fun  μ27 hf => ?_) N 0 μ7 hf
        · replace hf := hf
          refine wr_iload_n 111 C dX0_asksStamps_111 1 rfl rfl ?_
          refine wr_bipush 112 C dX0_asksStamps_112 (v := 12) rfl ?_
          refine wr_icmp_le 114 120 C dX0_asksStamps_114 (by decide) (fun c28 => ?_) (fun c28 => ?_)
          · replace hf := o_pos c28 hf
            refine wr_aload_n 120 C dX0_asksStamps_120 0 rfl rfl ?_
            refine wr_iload_n 121 C dX0_asksStamps_121 1 rfl rfl ?_
            obtain ⟨μ29, eμ29, hf⟩ := o_let hf
            refine puspX_0_28_X0 122 C dX0_asksStamps_122 eμ29 ?_
            refine wr_iconst 125 C dX0_asksStamps_125 (v := 0) rfl ?_
            exact wr_iret 126 C dX0_asksStamps_126 ⟨Nat.zero_le _, Nat.zero_le _⟩ (Option.some.inj hf)
          · replace hf := o_neg c28 hf
            refine wr_bipush 117 C dX0_asksStamps_117 (v := (-2)) rfl ?_
            exact wr_iret 119 C dX0_asksStamps_119 ⟨Nat.zero_le _, Nat.zero_le _⟩ (Option.some.inj hf)
      · replace hf := o_pos c10 hf
        refine wr_sub [] [] rfl ?_
        exact hJasksStamps18  μ7 hf
abbrev cX0_judge : ByteArray := prog_1_method_88_code
def yX0_judge : MethodName := ⟨RX0, "judge", "(I)I"⟩
def dkwX0_judge_0 : List UInt8 := [42, 27, 182, 1, 134, 61, 28, 156, 0, 7, 28, 167, 0, 8, 42, 27, 182, 1, 137, 172]
abbrev dktX0_judge_0 : List UInt8 := dkwX0_judge_0 ++ []
theorem dksX0_judge_0 : cX0_judge.data.toList.drop 0 = dktX0_judge_0 := by decide +kernel
theorem dX0_judge_0 : decode cX0_judge 0 = .ok (.aload_n 0, 1) := dk_42 (dk_at dksX0_judge_0 0 rfl rfl)
theorem dX0_judge_1 : decode cX0_judge 1 = .ok (.iload_n 1, 1) := dk_27 (dk_at dksX0_judge_0 1 rfl rfl)
theorem dX0_judge_2 : decode cX0_judge 2 = .ok (.invokevirtual 390, 3) := dk_182 1 134 (dk_at dksX0_judge_0 2 rfl rfl)
theorem dX0_judge_5 : decode cX0_judge 5 = .ok (.istore_n 2, 1) := dk_61 (dk_at dksX0_judge_0 5 rfl rfl)
theorem dX0_judge_6 : decode cX0_judge 6 = .ok (.iload_n 2, 1) := dk_28 (dk_at dksX0_judge_0 6 rfl rfl)
theorem dX0_judge_7 : decode cX0_judge 7 = .ok (.ifCond .ge 7, 3) := dk_156 0 7 (dk_at dksX0_judge_0 7 rfl rfl)
theorem dX0_judge_10 : decode cX0_judge 10 = .ok (.iload_n 2, 1) := dk_28 (dk_at dksX0_judge_0 10 rfl rfl)
theorem dX0_judge_11 : decode cX0_judge 11 = .ok (.goto 8, 3) := dk_167 0 8 (dk_at dksX0_judge_0 11 rfl rfl)
theorem dX0_judge_14 : decode cX0_judge 14 = .ok (.aload_n 0, 1) := dk_42 (dk_at dksX0_judge_0 14 rfl rfl)
theorem dX0_judge_15 : decode cX0_judge 15 = .ok (.iload_n 1, 1) := dk_27 (dk_at dksX0_judge_0 15 rfl rfl)
theorem dX0_judge_16 : decode cX0_judge 16 = .ok (.invokevirtual 393, 3) := dk_182 1 137 (dk_at dksX0_judge_0 16 rfl rfl)
theorem dX0_judge_19 : decode cX0_judge 19 = .ok (.ireturn, 1) := dk_172 (dk_at dksX0_judge_0 19 rfl rfl)

theorem okX0_judge : wOkV yX0_judge cX0_judge 3 (some .int) 1 := ⟨q1024, q1025, q136, q1026, by decide, by decide, by decide +kernel⟩
def fX0_judge (N : Nat) (c0 t n : Nat)  (a1 : Int32) (μ : wMem) : Option (Int32 × wMem) :=
  wBind (fX0_asksRow N c0 t n a1 μ) fun v3 μ2 => if 0 ≤ v3 then wBind (fX0_goesBy N c0 t n a1 μ2) fun v7 μ6 => some (v7, μ6) else some (v3, μ2)
set_option maxHeartbeats 4000000 in
set_option maxRecDepth 100000 in
theorem tX0_judge (l : Launch) {D : va_G} {E : List wCell} {q : Nat → Nat} {ca : wCA} (hE : wSlots ca (spX ++ E)) (N : Nat) (c0 t n : Nat)   (a1 : Int32) (μ : wMem) (r0 : (Int32 × wMem)) (hi1 : ok_in a1 4 = true) (hb : (spX ++ E)[24 + a1.toNatClampNeg]? = some (.inl (5, [(2, c0)]))) (hr : wRow (spX ++ E) c0 t n) (hf : fX0_judge N c0 t n  a1 μ = some r0) : wMi l yX0_judge cX0_judge 3 (some .int) ({ frames := 5, cells := 0, slots := 0, locals := 112 } : Room) D vwCl (spX ++ E) q ca [.ref (q 0), .int a1] μ r0 := by
  refine wMi_intro (by decide) (Nat.le_of_ble_eq_true rfl) ?_
  intro p e s m args below meth c A C
  unfold fX0_judge at hf
  refine wr_sub [(0, .ref (q 0)), (1, .int a1)] [0, 1] rfl ?_
  refine wr_aload_n 0 C dX0_judge_0 0 rfl rfl ?_
  refine wr_iload_n 1 C dX0_judge_1 1 rfl rfl ?_
  obtain ⟨v3, μ2, h1, hf⟩ := o_bind hf
  refine wr_VWi (kc1 := 0) (ks1 := 0) 2 [] C dX0_judge_2 (tX0_asksRow l hE N c0 t n a1 μ (v3, μ2) hi1 hb hr h1) okX0_asksRow q1027 (b := 0) spX_0 rfl ⟨rfl, rfl, Nat.le_of_ble_eq_true rfl, Nat.le_of_ble_eq_true rfl, Nat.zero_le _, Nat.zero_le _⟩ (Nat.le_of_ble_eq_true rfl) rfl ?_
  refine wr_istore_n 5 [(2, .int v3), (0, .ref (q 0)), (1, .int a1)] C dX0_judge_5 rfl rfl (Nat.le_of_ble_eq_true rfl) rfl ?_
  refine wr_iload_n 6 C dX0_judge_6 0 rfl rfl ?_
  refine wr_if_ge 7 14 C dX0_judge_7 (by decide) (fun c4 => ?_) (fun c4 => ?_)
  · replace hf := o_pos c4 hf
    refine wr_aload_n 14 C dX0_judge_14 1 rfl rfl ?_
    refine wr_iload_n 15 C dX0_judge_15 2 rfl rfl ?_
    obtain ⟨v7, μ6, h5, hf⟩ := o_bind hf
    refine wr_Vi (kc1 := 0) (ks1 := 0) 16 [] C dX0_judge_16 (tX0_goesBy l hE N c0 t n a1 μ2 (v7, μ6) hi1 hb hr h5) okX0_goesBy q1074 (b := 0) spX_0 rfl ⟨rfl, rfl, Nat.le_of_ble_eq_true rfl, Nat.le_of_ble_eq_true rfl, Nat.zero_le _, Nat.zero_le _⟩ (Nat.le_of_ble_eq_true rfl) rfl ?_
    exact wr_iret 19 C dX0_judge_19 ⟨Nat.zero_le _, Nat.zero_le _⟩ (Option.some.inj hf)
  · replace hf := o_neg c4 hf
    refine wr_iload_n 10 C dX0_judge_10 0 rfl rfl ?_
    refine wr_goto 11 C dX0_judge_11 (tgt := 19) (by decide) ?_
    exact wr_iret 19 C dX0_judge_19 ⟨Nat.zero_le _, Nat.zero_le _⟩ (Option.some.inj hf)
abbrev cX0_there : ByteArray := prog_1_method_89_code
def yX0_there : MethodName := ⟨RX0, "there", "(I)I"⟩
def dkwX0_there_0 : List UInt8 := [42, 27, 182, 1, 134, 61, 28, 156, 0, 5, 28, 172, 42, 27, 182, 1, 137, 87, 42, 180, 0, 179, 172]
abbrev dktX0_there_0 : List UInt8 := dkwX0_there_0 ++ []
theorem dksX0_there_0 : cX0_there.data.toList.drop 0 = dktX0_there_0 := by decide +kernel
theorem dX0_there_0 : decode cX0_there 0 = .ok (.aload_n 0, 1) := dk_42 (dk_at dksX0_there_0 0 rfl rfl)
theorem dX0_there_1 : decode cX0_there 1 = .ok (.iload_n 1, 1) := dk_27 (dk_at dksX0_there_0 1 rfl rfl)
theorem dX0_there_2 : decode cX0_there 2 = .ok (.invokevirtual 390, 3) := dk_182 1 134 (dk_at dksX0_there_0 2 rfl rfl)
theorem dX0_there_5 : decode cX0_there 5 = .ok (.istore_n 2, 1) := dk_61 (dk_at dksX0_there_0 5 rfl rfl)
theorem dX0_there_6 : decode cX0_there 6 = .ok (.iload_n 2, 1) := dk_28 (dk_at dksX0_there_0 6 rfl rfl)
theorem dX0_there_7 : decode cX0_there 7 = .ok (.ifCond .ge 5, 3) := dk_156 0 5 (dk_at dksX0_there_0 7 rfl rfl)
theorem dX0_there_10 : decode cX0_there 10 = .ok (.iload_n 2, 1) := dk_28 (dk_at dksX0_there_0 10 rfl rfl)
theorem dX0_there_11 : decode cX0_there 11 = .ok (.ireturn, 1) := dk_172 (dk_at dksX0_there_0 11 rfl rfl)
theorem dX0_there_12 : decode cX0_there 12 = .ok (.aload_n 0, 1) := dk_42 (dk_at dksX0_there_0 12 rfl rfl)
theorem dX0_there_13 : decode cX0_there 13 = .ok (.iload_n 1, 1) := dk_27 (dk_at dksX0_there_0 13 rfl rfl)
theorem dX0_there_14 : decode cX0_there 14 = .ok (.invokevirtual 393, 3) := dk_182 1 137 (dk_at dksX0_there_0 14 rfl rfl)
theorem dX0_there_17 : decode cX0_there 17 = .ok (.pop, 1) := dk_87 (dk_at dksX0_there_0 17 rfl rfl)
theorem dX0_there_18 : decode cX0_there 18 = .ok (.aload_n 0, 1) := dk_42 (dk_at dksX0_there_0 18 rfl rfl)
theorem dX0_there_19 : decode cX0_there 19 = .ok (.getfield 179, 3) := dk_180 0 179 (dk_at dksX0_there_0 19 rfl rfl)
theorem dX0_there_22 : decode cX0_there 22 = .ok (.ireturn, 1) := dk_172 (dk_at dksX0_there_0 22 rfl rfl)

theorem okX0_there : wOkV yX0_there cX0_there 3 (some .int) 1 := ⟨q1083, q1084, q136, q1085, by decide, by decide, by decide +kernel⟩
def fX0_there (N : Nat) (c0 t n : Nat)  (a1 : Int32) (μ : wMem) : Option (Int32 × wMem) :=
  wBind (fX0_asksRow N c0 t n a1 μ) fun v3 μ2 => if 0 ≤ v3 then wBind (fX0_goesBy N c0 t n a1 μ2) fun v7 μ6 => some (μ6.1 0 5, μ6) else some (v3, μ2)
set_option maxHeartbeats 4000000 in
set_option maxRecDepth 100000 in
theorem tX0_there (l : Launch) {D : va_G} {E : List wCell} {q : Nat → Nat} {ca : wCA} (hE : wSlots ca (spX ++ E)) (N : Nat) (c0 t n : Nat)   (a1 : Int32) (μ : wMem) (r0 : (Int32 × wMem)) (hi1 : ok_in a1 4 = true) (hb : (spX ++ E)[24 + a1.toNatClampNeg]? = some (.inl (5, [(2, c0)]))) (hr : wRow (spX ++ E) c0 t n) (hf : fX0_there N c0 t n  a1 μ = some r0) : wMi l yX0_there cX0_there 3 (some .int) ({ frames := 5, cells := 0, slots := 0, locals := 112 } : Room) D vwCl (spX ++ E) q ca [.ref (q 0), .int a1] μ r0 := by
  refine wMi_intro (by decide) (Nat.le_of_ble_eq_true rfl) ?_
  intro p e s m args below meth c A C
  unfold fX0_there at hf
  refine wr_sub [(0, .ref (q 0)), (1, .int a1)] [0, 1] rfl ?_
  refine wr_aload_n 0 C dX0_there_0 0 rfl rfl ?_
  refine wr_iload_n 1 C dX0_there_1 1 rfl rfl ?_
  obtain ⟨v3, μ2, h1, hf⟩ := o_bind hf
  refine wr_VWi (kc1 := 0) (ks1 := 0) 2 [] C dX0_there_2 (tX0_asksRow l hE N c0 t n a1 μ (v3, μ2) hi1 hb hr h1) okX0_asksRow q1027 (b := 0) spX_0 rfl ⟨rfl, rfl, Nat.le_of_ble_eq_true rfl, Nat.le_of_ble_eq_true rfl, Nat.zero_le _, Nat.zero_le _⟩ (Nat.le_of_ble_eq_true rfl) rfl ?_
  refine wr_istore_n 5 [(2, .int v3), (0, .ref (q 0)), (1, .int a1)] C dX0_there_5 rfl rfl (Nat.le_of_ble_eq_true rfl) rfl ?_
  refine wr_iload_n 6 C dX0_there_6 0 rfl rfl ?_
  refine wr_if_ge 7 12 C dX0_there_7 (by decide) (fun c4 => ?_) (fun c4 => ?_)
  · replace hf := o_pos c4 hf
    refine wr_aload_n 12 C dX0_there_12 1 rfl rfl ?_
    refine wr_iload_n 13 C dX0_there_13 2 rfl rfl ?_
    obtain ⟨v7, μ6, h5, hf⟩ := o_bind hf
    refine wr_Vi (kc1 := 0) (ks1 := 0) 14 [] C dX0_there_14 (tX0_goesBy l hE N c0 t n a1 μ2 (v7, μ6) hi1 hb hr h5) okX0_goesBy q1074 (b := 0) spX_0 rfl ⟨rfl, rfl, Nat.le_of_ble_eq_true rfl, Nat.le_of_ble_eq_true rfl, Nat.zero_le _, Nat.zero_le _⟩ (Nat.le_of_ble_eq_true rfl) rfl ?_
    refine wr_pop 17 C dX0_there_17 rfl ?_
    refine wr_aload_n 18 C dX0_there_18 1 rfl rfl ?_
    refine gespX_0_5_X0 19 C dX0_there_19 ?_
    exact wr_iret 22 C dX0_there_22 ⟨Nat.zero_le _, Nat.zero_le _⟩ (Option.some.inj hf)
  · replace hf := o_neg c4 hf
    refine wr_iload_n 10 C dX0_there_10 0 rfl rfl ?_
    exact wr_iret 11 C dX0_there_11 ⟨Nat.zero_le _, Nat.zero_le _⟩ (Option.some.inj hf)
abbrev cX0_takes : ByteArray := prog_1_method_90_code
def yX0_takes : MethodName := ⟨RX0, "takes", "(I)I"⟩
def dkwX0_takes_0 : List UInt8 := [42, 27, 182, 1, 134, 61, 28, 156, 0, 5, 28, 172, 42, 27, 182, 1, 137, 87, 42, 180, 0, 225, 172]
abbrev dktX0_takes_0 : List UInt8 := dkwX0_takes_0 ++ []
theorem dksX0_takes_0 : cX0_takes.data.toList.drop 0 = dktX0_takes_0 := by decide +kernel
theorem dX0_takes_0 : decode cX0_takes 0 = .ok (.aload_n 0, 1) := dk_42 (dk_at dksX0_takes_0 0 rfl rfl)
theorem dX0_takes_1 : decode cX0_takes 1 = .ok (.iload_n 1, 1) := dk_27 (dk_at dksX0_takes_0 1 rfl rfl)
theorem dX0_takes_2 : decode cX0_takes 2 = .ok (.invokevirtual 390, 3) := dk_182 1 134 (dk_at dksX0_takes_0 2 rfl rfl)
theorem dX0_takes_5 : decode cX0_takes 5 = .ok (.istore_n 2, 1) := dk_61 (dk_at dksX0_takes_0 5 rfl rfl)
theorem dX0_takes_6 : decode cX0_takes 6 = .ok (.iload_n 2, 1) := dk_28 (dk_at dksX0_takes_0 6 rfl rfl)
theorem dX0_takes_7 : decode cX0_takes 7 = .ok (.ifCond .ge 5, 3) := dk_156 0 5 (dk_at dksX0_takes_0 7 rfl rfl)
theorem dX0_takes_10 : decode cX0_takes 10 = .ok (.iload_n 2, 1) := dk_28 (dk_at dksX0_takes_0 10 rfl rfl)
theorem dX0_takes_11 : decode cX0_takes 11 = .ok (.ireturn, 1) := dk_172 (dk_at dksX0_takes_0 11 rfl rfl)
theorem dX0_takes_12 : decode cX0_takes 12 = .ok (.aload_n 0, 1) := dk_42 (dk_at dksX0_takes_0 12 rfl rfl)
theorem dX0_takes_13 : decode cX0_takes 13 = .ok (.iload_n 1, 1) := dk_27 (dk_at dksX0_takes_0 13 rfl rfl)
theorem dX0_takes_14 : decode cX0_takes 14 = .ok (.invokevirtual 393, 3) := dk_182 1 137 (dk_at dksX0_takes_0 14 rfl rfl)
theorem dX0_takes_17 : decode cX0_takes 17 = .ok (.pop, 1) := dk_87 (dk_at dksX0_takes_0 17 rfl rfl)
theorem dX0_takes_18 : decode cX0_takes 18 = .ok (.aload_n 0, 1) := dk_42 (dk_at dksX0_takes_0 18 rfl rfl)
theorem dX0_takes_19 : decode cX0_takes 19 = .ok (.getfield 225, 3) := dk_180 0 225 (dk_at dksX0_takes_0 19 rfl rfl)
theorem dX0_takes_22 : decode cX0_takes 22 = .ok (.ireturn, 1) := dk_172 (dk_at dksX0_takes_0 22 rfl rfl)

theorem okX0_takes : wOkV yX0_takes cX0_takes 3 (some .int) 1 := ⟨q1087, q1088, q136, q1089, by decide, by decide, by decide +kernel⟩
def fX0_takes (N : Nat) (c0 t n : Nat)  (a1 : Int32) (μ : wMem) : Option (Int32 × wMem) :=
  wBind (fX0_asksRow N c0 t n a1 μ) fun v3 μ2 => if 0 ≤ v3 then wBind (fX0_goesBy N c0 t n a1 μ2) fun v7 μ6 => some (μ6.1 0 9, μ6) else some (v3, μ2)
set_option maxHeartbeats 4000000 in
set_option maxRecDepth 100000 in
theorem tX0_takes (l : Launch) {D : va_G} {E : List wCell} {q : Nat → Nat} {ca : wCA} (hE : wSlots ca (spX ++ E)) (N : Nat) (c0 t n : Nat)   (a1 : Int32) (μ : wMem) (r0 : (Int32 × wMem)) (hi1 : ok_in a1 4 = true) (hb : (spX ++ E)[24 + a1.toNatClampNeg]? = some (.inl (5, [(2, c0)]))) (hr : wRow (spX ++ E) c0 t n) (hf : fX0_takes N c0 t n  a1 μ = some r0) : wMi l yX0_takes cX0_takes 3 (some .int) ({ frames := 5, cells := 0, slots := 0, locals := 112 } : Room) D vwCl (spX ++ E) q ca [.ref (q 0), .int a1] μ r0 := by
  refine wMi_intro (by decide) (Nat.le_of_ble_eq_true rfl) ?_
  intro p e s m args below meth c A C
  unfold fX0_takes at hf
  refine wr_sub [(0, .ref (q 0)), (1, .int a1)] [0, 1] rfl ?_
  refine wr_aload_n 0 C dX0_takes_0 0 rfl rfl ?_
  refine wr_iload_n 1 C dX0_takes_1 1 rfl rfl ?_
  obtain ⟨v3, μ2, h1, hf⟩ := o_bind hf
  refine wr_VWi (kc1 := 0) (ks1 := 0) 2 [] C dX0_takes_2 (tX0_asksRow l hE N c0 t n a1 μ (v3, μ2) hi1 hb hr h1) okX0_asksRow q1027 (b := 0) spX_0 rfl ⟨rfl, rfl, Nat.le_of_ble_eq_true rfl, Nat.le_of_ble_eq_true rfl, Nat.zero_le _, Nat.zero_le _⟩ (Nat.le_of_ble_eq_true rfl) rfl ?_
  refine wr_istore_n 5 [(2, .int v3), (0, .ref (q 0)), (1, .int a1)] C dX0_takes_5 rfl rfl (Nat.le_of_ble_eq_true rfl) rfl ?_
  refine wr_iload_n 6 C dX0_takes_6 0 rfl rfl ?_
  refine wr_if_ge 7 12 C dX0_takes_7 (by decide) (fun c4 => ?_) (fun c4 => ?_)
  · replace hf := o_pos c4 hf
    refine wr_aload_n 12 C dX0_takes_12 1 rfl rfl ?_
    refine wr_iload_n 13 C dX0_takes_13 2 rfl rfl ?_
    obtain ⟨v7, μ6, h5, hf⟩ := o_bind hf
    refine wr_Vi (kc1 := 0) (ks1 := 0) 14 [] C dX0_takes_14 (tX0_goesBy l hE N c0 t n a1 μ2 (v7, μ6) hi1 hb hr h5) okX0_goesBy q1074 (b := 0) spX_0 rfl ⟨rfl, rfl, Nat.le_of_ble_eq_true rfl, Nat.le_of_ble_eq_true rfl, Nat.zero_le _, Nat.zero_le _⟩ (Nat.le_of_ble_eq_true rfl) rfl ?_
    refine wr_pop 17 C dX0_takes_17 rfl ?_
    refine wr_aload_n 18 C dX0_takes_18 1 rfl rfl ?_
    refine gespX_0_9_X0 19 C dX0_takes_19 ?_
    exact wr_iret 22 C dX0_takes_22 ⟨Nat.zero_le _, Nat.zero_le _⟩ (Option.some.inj hf)
  · replace hf := o_neg c4 hf
    refine wr_iload_n 10 C dX0_takes_10 0 rfl rfl ?_
    exact wr_iret 11 C dX0_takes_11 ⟨Nat.zero_le _, Nat.zero_le _⟩ (Option.some.inj hf)
abbrev cX0_dares : ByteArray := prog_1_method_91_code
def yX0_dares : MethodName := ⟨RX0, "dares", "(I)I"⟩
def dkwX0_dares_0 : List UInt8 := [42, 27, 182, 1, 134, 61, 28, 156, 0, 5, 28, 172, 42, 27, 182, 1, 137, 87, 42, 180, 0, 228, 172]
abbrev dktX0_dares_0 : List UInt8 := dkwX0_dares_0 ++ []
theorem dksX0_dares_0 : cX0_dares.data.toList.drop 0 = dktX0_dares_0 := by decide +kernel
theorem dX0_dares_0 : decode cX0_dares 0 = .ok (.aload_n 0, 1) := dk_42 (dk_at dksX0_dares_0 0 rfl rfl)
theorem dX0_dares_1 : decode cX0_dares 1 = .ok (.iload_n 1, 1) := dk_27 (dk_at dksX0_dares_0 1 rfl rfl)
theorem dX0_dares_2 : decode cX0_dares 2 = .ok (.invokevirtual 390, 3) := dk_182 1 134 (dk_at dksX0_dares_0 2 rfl rfl)
theorem dX0_dares_5 : decode cX0_dares 5 = .ok (.istore_n 2, 1) := dk_61 (dk_at dksX0_dares_0 5 rfl rfl)
theorem dX0_dares_6 : decode cX0_dares 6 = .ok (.iload_n 2, 1) := dk_28 (dk_at dksX0_dares_0 6 rfl rfl)
theorem dX0_dares_7 : decode cX0_dares 7 = .ok (.ifCond .ge 5, 3) := dk_156 0 5 (dk_at dksX0_dares_0 7 rfl rfl)
theorem dX0_dares_10 : decode cX0_dares 10 = .ok (.iload_n 2, 1) := dk_28 (dk_at dksX0_dares_0 10 rfl rfl)
theorem dX0_dares_11 : decode cX0_dares 11 = .ok (.ireturn, 1) := dk_172 (dk_at dksX0_dares_0 11 rfl rfl)
theorem dX0_dares_12 : decode cX0_dares 12 = .ok (.aload_n 0, 1) := dk_42 (dk_at dksX0_dares_0 12 rfl rfl)
theorem dX0_dares_13 : decode cX0_dares 13 = .ok (.iload_n 1, 1) := dk_27 (dk_at dksX0_dares_0 13 rfl rfl)
theorem dX0_dares_14 : decode cX0_dares 14 = .ok (.invokevirtual 393, 3) := dk_182 1 137 (dk_at dksX0_dares_0 14 rfl rfl)
theorem dX0_dares_17 : decode cX0_dares 17 = .ok (.pop, 1) := dk_87 (dk_at dksX0_dares_0 17 rfl rfl)
theorem dX0_dares_18 : decode cX0_dares 18 = .ok (.aload_n 0, 1) := dk_42 (dk_at dksX0_dares_0 18 rfl rfl)
theorem dX0_dares_19 : decode cX0_dares 19 = .ok (.getfield 228, 3) := dk_180 0 228 (dk_at dksX0_dares_0 19 rfl rfl)
theorem dX0_dares_22 : decode cX0_dares 22 = .ok (.ireturn, 1) := dk_172 (dk_at dksX0_dares_0 22 rfl rfl)

theorem okX0_dares : wOkV yX0_dares cX0_dares 3 (some .int) 1 := ⟨q1091, q1092, q136, q1093, by decide, by decide, by decide +kernel⟩
def fX0_dares (N : Nat) (c0 t n : Nat)  (a1 : Int32) (μ : wMem) : Option (Int32 × wMem) :=
  wBind (fX0_asksRow N c0 t n a1 μ) fun v3 μ2 => if 0 ≤ v3 then wBind (fX0_goesBy N c0 t n a1 μ2) fun v7 μ6 => some (μ6.1 0 10, μ6) else some (v3, μ2)
set_option maxHeartbeats 4000000 in
set_option maxRecDepth 100000 in
theorem tX0_dares (l : Launch) {D : va_G} {E : List wCell} {q : Nat → Nat} {ca : wCA} (hE : wSlots ca (spX ++ E)) (N : Nat) (c0 t n : Nat)   (a1 : Int32) (μ : wMem) (r0 : (Int32 × wMem)) (hi1 : ok_in a1 4 = true) (hb : (spX ++ E)[24 + a1.toNatClampNeg]? = some (.inl (5, [(2, c0)]))) (hr : wRow (spX ++ E) c0 t n) (hf : fX0_dares N c0 t n  a1 μ = some r0) : wMi l yX0_dares cX0_dares 3 (some .int) ({ frames := 5, cells := 0, slots := 0, locals := 112 } : Room) D vwCl (spX ++ E) q ca [.ref (q 0), .int a1] μ r0 := by
  refine wMi_intro (by decide) (Nat.le_of_ble_eq_true rfl) ?_
  intro p e s m args below meth c A C
  unfold fX0_dares at hf
  refine wr_sub [(0, .ref (q 0)), (1, .int a1)] [0, 1] rfl ?_
  refine wr_aload_n 0 C dX0_dares_0 0 rfl rfl ?_
  refine wr_iload_n 1 C dX0_dares_1 1 rfl rfl ?_
  obtain ⟨v3, μ2, h1, hf⟩ := o_bind hf
  refine wr_VWi (kc1 := 0) (ks1 := 0) 2 [] C dX0_dares_2 (tX0_asksRow l hE N c0 t n a1 μ (v3, μ2) hi1 hb hr h1) okX0_asksRow q1027 (b := 0) spX_0 rfl ⟨rfl, rfl, Nat.le_of_ble_eq_true rfl, Nat.le_of_ble_eq_true rfl, Nat.zero_le _, Nat.zero_le _⟩ (Nat.le_of_ble_eq_true rfl) rfl ?_
  refine wr_istore_n 5 [(2, .int v3), (0, .ref (q 0)), (1, .int a1)] C dX0_dares_5 rfl rfl (Nat.le_of_ble_eq_true rfl) rfl ?_
  refine wr_iload_n 6 C dX0_dares_6 0 rfl rfl ?_
  refine wr_if_ge 7 12 C dX0_dares_7 (by decide) (fun c4 => ?_) (fun c4 => ?_)
  · replace hf := o_pos c4 hf
    refine wr_aload_n 12 C dX0_dares_12 1 rfl rfl ?_
    refine wr_iload_n 13 C dX0_dares_13 2 rfl rfl ?_
    obtain ⟨v7, μ6, h5, hf⟩ := o_bind hf
    refine wr_Vi (kc1 := 0) (ks1 := 0) 14 [] C dX0_dares_14 (tX0_goesBy l hE N c0 t n a1 μ2 (v7, μ6) hi1 hb hr h5) okX0_goesBy q1074 (b := 0) spX_0 rfl ⟨rfl, rfl, Nat.le_of_ble_eq_true rfl, Nat.le_of_ble_eq_true rfl, Nat.zero_le _, Nat.zero_le _⟩ (Nat.le_of_ble_eq_true rfl) rfl ?_
    refine wr_pop 17 C dX0_dares_17 rfl ?_
    refine wr_aload_n 18 C dX0_dares_18 1 rfl rfl ?_
    refine gespX_0_10_X0 19 C dX0_dares_19 ?_
    exact wr_iret 22 C dX0_dares_22 ⟨Nat.zero_le _, Nat.zero_le _⟩ (Option.some.inj hf)
  · replace hf := o_neg c4 hf
    refine wr_iload_n 10 C dX0_dares_10 0 rfl rfl ?_
    exact wr_iret 11 C dX0_dares_11 ⟨Nat.zero_le _, Nat.zero_le _⟩ (Option.some.inj hf)
abbrev cX0_lied : ByteArray := prog_1_method_92_code
def yX0_lied : MethodName := ⟨RX0, "lied", "(I)I"⟩
def dkwX0_lied_0 : List UInt8 := [42, 27, 182, 1, 134, 61, 28, 156, 0, 5, 28, 172, 42, 27, 182, 1, 137, 87, 42, 180, 1, 3, 172]
abbrev dktX0_lied_0 : List UInt8 := dkwX0_lied_0 ++ []
theorem dksX0_lied_0 : cX0_lied.data.toList.drop 0 = dktX0_lied_0 := by decide +kernel
theorem dX0_lied_0 : decode cX0_lied 0 = .ok (.aload_n 0, 1) := dk_42 (dk_at dksX0_lied_0 0 rfl rfl)
theorem dX0_lied_1 : decode cX0_lied 1 = .ok (.iload_n 1, 1) := dk_27 (dk_at dksX0_lied_0 1 rfl rfl)
theorem dX0_lied_2 : decode cX0_lied 2 = .ok (.invokevirtual 390, 3) := dk_182 1 134 (dk_at dksX0_lied_0 2 rfl rfl)
theorem dX0_lied_5 : decode cX0_lied 5 = .ok (.istore_n 2, 1) := dk_61 (dk_at dksX0_lied_0 5 rfl rfl)
theorem dX0_lied_6 : decode cX0_lied 6 = .ok (.iload_n 2, 1) := dk_28 (dk_at dksX0_lied_0 6 rfl rfl)
theorem dX0_lied_7 : decode cX0_lied 7 = .ok (.ifCond .ge 5, 3) := dk_156 0 5 (dk_at dksX0_lied_0 7 rfl rfl)
theorem dX0_lied_10 : decode cX0_lied 10 = .ok (.iload_n 2, 1) := dk_28 (dk_at dksX0_lied_0 10 rfl rfl)
theorem dX0_lied_11 : decode cX0_lied 11 = .ok (.ireturn, 1) := dk_172 (dk_at dksX0_lied_0 11 rfl rfl)
theorem dX0_lied_12 : decode cX0_lied 12 = .ok (.aload_n 0, 1) := dk_42 (dk_at dksX0_lied_0 12 rfl rfl)
theorem dX0_lied_13 : decode cX0_lied 13 = .ok (.iload_n 1, 1) := dk_27 (dk_at dksX0_lied_0 13 rfl rfl)
theorem dX0_lied_14 : decode cX0_lied 14 = .ok (.invokevirtual 393, 3) := dk_182 1 137 (dk_at dksX0_lied_0 14 rfl rfl)
theorem dX0_lied_17 : decode cX0_lied 17 = .ok (.pop, 1) := dk_87 (dk_at dksX0_lied_0 17 rfl rfl)
theorem dX0_lied_18 : decode cX0_lied 18 = .ok (.aload_n 0, 1) := dk_42 (dk_at dksX0_lied_0 18 rfl rfl)
theorem dX0_lied_19 : decode cX0_lied 19 = .ok (.getfield 259, 3) := dk_180 1 3 (dk_at dksX0_lied_0 19 rfl rfl)
theorem dX0_lied_22 : decode cX0_lied 22 = .ok (.ireturn, 1) := dk_172 (dk_at dksX0_lied_0 22 rfl rfl)

theorem okX0_lied : wOkV yX0_lied cX0_lied 3 (some .int) 1 := ⟨q1095, q1096, q136, q1097, by decide, by decide, by decide +kernel⟩
def fX0_lied (N : Nat) (c0 t n : Nat)  (a1 : Int32) (μ : wMem) : Option (Int32 × wMem) :=
  wBind (fX0_asksRow N c0 t n a1 μ) fun v3 μ2 => if 0 ≤ v3 then wBind (fX0_goesBy N c0 t n a1 μ2) fun v7 μ6 => some (μ6.1 0 11, μ6) else some (v3, μ2)
set_option maxHeartbeats 4000000 in
set_option maxRecDepth 100000 in
theorem tX0_lied (l : Launch) {D : va_G} {E : List wCell} {q : Nat → Nat} {ca : wCA} (hE : wSlots ca (spX ++ E)) (N : Nat) (c0 t n : Nat)   (a1 : Int32) (μ : wMem) (r0 : (Int32 × wMem)) (hi1 : ok_in a1 4 = true) (hb : (spX ++ E)[24 + a1.toNatClampNeg]? = some (.inl (5, [(2, c0)]))) (hr : wRow (spX ++ E) c0 t n) (hf : fX0_lied N c0 t n  a1 μ = some r0) : wMi l yX0_lied cX0_lied 3 (some .int) ({ frames := 5, cells := 0, slots := 0, locals := 112 } : Room) D vwCl (spX ++ E) q ca [.ref (q 0), .int a1] μ r0 := by
  refine wMi_intro (by decide) (Nat.le_of_ble_eq_true rfl) ?_
  intro p e s m args below meth c A C
  unfold fX0_lied at hf
  refine wr_sub [(0, .ref (q 0)), (1, .int a1)] [0, 1] rfl ?_
  refine wr_aload_n 0 C dX0_lied_0 0 rfl rfl ?_
  refine wr_iload_n 1 C dX0_lied_1 1 rfl rfl ?_
  obtain ⟨v3, μ2, h1, hf⟩ := o_bind hf
  refine wr_VWi (kc1 := 0) (ks1 := 0) 2 [] C dX0_lied_2 (tX0_asksRow l hE N c0 t n a1 μ (v3, μ2) hi1 hb hr h1) okX0_asksRow q1027 (b := 0) spX_0 rfl ⟨rfl, rfl, Nat.le_of_ble_eq_true rfl, Nat.le_of_ble_eq_true rfl, Nat.zero_le _, Nat.zero_le _⟩ (Nat.le_of_ble_eq_true rfl) rfl ?_
  refine wr_istore_n 5 [(2, .int v3), (0, .ref (q 0)), (1, .int a1)] C dX0_lied_5 rfl rfl (Nat.le_of_ble_eq_true rfl) rfl ?_
  refine wr_iload_n 6 C dX0_lied_6 0 rfl rfl ?_
  refine wr_if_ge 7 12 C dX0_lied_7 (by decide) (fun c4 => ?_) (fun c4 => ?_)
  · replace hf := o_pos c4 hf
    refine wr_aload_n 12 C dX0_lied_12 1 rfl rfl ?_
    refine wr_iload_n 13 C dX0_lied_13 2 rfl rfl ?_
    obtain ⟨v7, μ6, h5, hf⟩ := o_bind hf
    refine wr_Vi (kc1 := 0) (ks1 := 0) 14 [] C dX0_lied_14 (tX0_goesBy l hE N c0 t n a1 μ2 (v7, μ6) hi1 hb hr h5) okX0_goesBy q1074 (b := 0) spX_0 rfl ⟨rfl, rfl, Nat.le_of_ble_eq_true rfl, Nat.le_of_ble_eq_true rfl, Nat.zero_le _, Nat.zero_le _⟩ (Nat.le_of_ble_eq_true rfl) rfl ?_
    refine wr_pop 17 C dX0_lied_17 rfl ?_
    refine wr_aload_n 18 C dX0_lied_18 1 rfl rfl ?_
    refine gespX_0_11_X0 19 C dX0_lied_19 ?_
    exact wr_iret 22 C dX0_lied_22 ⟨Nat.zero_le _, Nat.zero_le _⟩ (Option.some.inj hf)
  · replace hf := o_neg c4 hf
    refine wr_iload_n 10 C dX0_lied_10 0 rfl rfl ?_
    exact wr_iret 11 C dX0_lied_11 ⟨Nat.zero_le _, Nat.zero_le _⟩ (Option.some.inj hf)
abbrev cX0_stamped : ByteArray := prog_1_method_101_code
def yX0_stamped : MethodName := ⟨RX0, "stamped", "(I)J"⟩
def dkwX0_stamped_2 : List UInt8 := [66, 132, 5, 1, 167, 255, 228, 33, 173]
abbrev dktX0_stamped_2 : List UInt8 := dkwX0_stamped_2 ++ []
def dkwX0_stamped_1 : List UInt8 := [21, 5, 17, 12, 64, 162, 0, 26, 33, 42, 180, 0, 69, 42, 180, 1, 140, 21, 5, 184, 1, 146, 47, 97]
abbrev dktX0_stamped_1 : List UInt8 := dkwX0_stamped_1 ++ dktX0_stamped_2
def dkwX0_stamped_0 : List UInt8 := [42, 27, 4, 182, 1, 171, 61, 28, 156, 0, 6, 28, 133, 173, 42, 27, 182, 1, 175, 9, 66, 3, 54, 5]
abbrev dktX0_stamped_0 : List UInt8 := dkwX0_stamped_0 ++ dktX0_stamped_1
theorem dksX0_stamped_0 : cX0_stamped.data.toList.drop 0 = dktX0_stamped_0 := by decide +kernel
theorem dksX0_stamped_1 : cX0_stamped.data.toList.drop 24 = dktX0_stamped_1 := dk_seg dksX0_stamped_0 24 rfl rfl
theorem dksX0_stamped_2 : cX0_stamped.data.toList.drop 48 = dktX0_stamped_2 := dk_seg dksX0_stamped_1 24 rfl rfl
theorem dX0_stamped_0 : decode cX0_stamped 0 = .ok (.aload_n 0, 1) := dk_42 (dk_at dksX0_stamped_0 0 rfl rfl)
theorem dX0_stamped_1 : decode cX0_stamped 1 = .ok (.iload_n 1, 1) := dk_27 (dk_at dksX0_stamped_0 1 rfl rfl)
theorem dX0_stamped_2 : decode cX0_stamped 2 = .ok (.iconst 1, 1) := dk_4 (dk_at dksX0_stamped_0 2 rfl rfl)
theorem dX0_stamped_3 : decode cX0_stamped 3 = .ok (.invokevirtual 427, 3) := dk_182 1 171 (dk_at dksX0_stamped_0 3 rfl rfl)
theorem dX0_stamped_6 : decode cX0_stamped 6 = .ok (.istore_n 2, 1) := dk_61 (dk_at dksX0_stamped_0 6 rfl rfl)
theorem dX0_stamped_7 : decode cX0_stamped 7 = .ok (.iload_n 2, 1) := dk_28 (dk_at dksX0_stamped_0 7 rfl rfl)
theorem dX0_stamped_8 : decode cX0_stamped 8 = .ok (.ifCond .ge 6, 3) := dk_156 0 6 (dk_at dksX0_stamped_0 8 rfl rfl)
theorem dX0_stamped_11 : decode cX0_stamped 11 = .ok (.iload_n 2, 1) := dk_28 (dk_at dksX0_stamped_0 11 rfl rfl)
theorem dX0_stamped_12 : decode cX0_stamped 12 = .ok (.i2l, 1) := dk_133 (dk_at dksX0_stamped_0 12 rfl rfl)
theorem dX0_stamped_13 : decode cX0_stamped 13 = .ok (.lreturn, 1) := dk_173 (dk_at dksX0_stamped_0 13 rfl rfl)
theorem dX0_stamped_14 : decode cX0_stamped 14 = .ok (.aload_n 0, 1) := dk_42 (dk_at dksX0_stamped_0 14 rfl rfl)
theorem dX0_stamped_15 : decode cX0_stamped 15 = .ok (.iload_n 1, 1) := dk_27 (dk_at dksX0_stamped_0 15 rfl rfl)
theorem dX0_stamped_16 : decode cX0_stamped 16 = .ok (.invokevirtual 431, 3) := dk_182 1 175 (dk_at dksX0_stamped_0 16 rfl rfl)
theorem dX0_stamped_19 : decode cX0_stamped 19 = .ok (.lconst 0, 1) := dk_9 (dk_at dksX0_stamped_0 19 rfl rfl)
theorem dX0_stamped_20 : decode cX0_stamped 20 = .ok (.lstore_n 3, 1) := dk_66 (dk_at dksX0_stamped_0 20 rfl rfl)
theorem dX0_stamped_21 : decode cX0_stamped 21 = .ok (.iconst 0, 1) := dk_3 (dk_at dksX0_stamped_0 21 rfl rfl)
theorem dX0_stamped_22 : decode cX0_stamped 22 = .ok (.istore 5, 2) := dk_54 5 (dk_at dksX0_stamped_0 22 rfl rfl)
theorem dX0_stamped_24 : decode cX0_stamped 24 = .ok (.iload 5, 2) := dk_21 5 (dk_at dksX0_stamped_1 0 rfl rfl)
theorem dX0_stamped_26 : decode cX0_stamped 26 = .ok (.sipush 3136, 3) := dk_17 12 64 (dk_at dksX0_stamped_1 2 rfl rfl)
theorem dX0_stamped_29 : decode cX0_stamped 29 = .ok (.if_icmp .ge 26, 3) := dk_162 0 26 (dk_at dksX0_stamped_1 5 rfl rfl)
theorem dX0_stamped_32 : decode cX0_stamped 32 = .ok (.lload_n 3, 1) := dk_33 (dk_at dksX0_stamped_1 8 rfl rfl)
theorem dX0_stamped_33 : decode cX0_stamped 33 = .ok (.aload_n 0, 1) := dk_42 (dk_at dksX0_stamped_1 9 rfl rfl)
theorem dX0_stamped_34 : decode cX0_stamped 34 = .ok (.getfield 69, 3) := dk_180 0 69 (dk_at dksX0_stamped_1 10 rfl rfl)
theorem dX0_stamped_37 : decode cX0_stamped 37 = .ok (.aload_n 0, 1) := dk_42 (dk_at dksX0_stamped_1 13 rfl rfl)
theorem dX0_stamped_38 : decode cX0_stamped 38 = .ok (.getfield 396, 3) := dk_180 1 140 (dk_at dksX0_stamped_1 14 rfl rfl)
theorem dX0_stamped_41 : decode cX0_stamped 41 = .ok (.iload 5, 2) := dk_21 5 (dk_at dksX0_stamped_1 17 rfl rfl)
theorem dX0_stamped_43 : decode cX0_stamped 43 = .ok (.invokestatic 402, 3) := dk_184 1 146 (dk_at dksX0_stamped_1 19 rfl rfl)
theorem dX0_stamped_46 : decode cX0_stamped 46 = .ok (.laload, 1) := dk_47 (dk_at dksX0_stamped_1 22 rfl rfl)
theorem dX0_stamped_47 : decode cX0_stamped 47 = .ok (.ladd, 1) := dk_97 (dk_at dksX0_stamped_1 23 rfl rfl)
theorem dX0_stamped_48 : decode cX0_stamped 48 = .ok (.lstore_n 3, 1) := dk_66 (dk_at dksX0_stamped_2 0 rfl rfl)
theorem dX0_stamped_49 : decode cX0_stamped 49 = .ok (.iinc 5 1, 3) := dk_132 5 1 (dk_at dksX0_stamped_2 1 rfl rfl)
theorem dX0_stamped_52 : decode cX0_stamped 52 = .ok (.goto (-28), 3) := dk_167 255 228 (dk_at dksX0_stamped_2 4 rfl rfl)
theorem dX0_stamped_55 : decode cX0_stamped 55 = .ok (.lload_n 3, 1) := dk_33 (dk_at dksX0_stamped_2 7 rfl rfl)
theorem dX0_stamped_56 : decode cX0_stamped 56 = .ok (.lreturn, 1) := dk_173 (dk_at dksX0_stamped_2 8 rfl rfl)

theorem okX0_stamped : wOkV yX0_stamped cX0_stamped 6 (some .long) 1 := ⟨q1099, q1100, q136, q1101, by decide, by decide, by decide +kernel⟩
def gbX0_stamped_24 (N : Nat)   (K : (Int64 → wMem → Option (Int64 × wMem))) (rec : (Int64 → Int32 → wMem → Option (Int64 × wMem))) (x3_ : Int64) (x5_ : Int32) (μ : wMem) : Option (Int64 × wMem) :=
  if (3136 : Int32) ≤ x5_ then K x3_ μ else wBind (fX0_spot N  (μ.1 0 28) x5_ μ) fun v10 μ9 => wG (ok_in v10 40768) (wLet (x3_ + (μ9.2 15 (Int32.toNatClampNeg v10)) : Int64) fun x12 => wLet (x5_ + 1 : Int32) fun x13 => rec x12 x13 μ9)
def gX0_stamped_24 (N : Nat)   (K : (Int64 → wMem → Option (Int64 × wMem))) : Nat → (Int64 → Int32 → wMem → Option (Int64 × wMem))
  | 0 => fun _ _ _ => none
  | k + 1 => gbX0_stamped_24 N   K (gX0_stamped_24 N   K k)
set_option maxHeartbeats 4000000 in
set_option maxRecDepth 100000 in
theorem tX0_stamped_24 {p : Program} {l : Launch} {e : Env} {s : State} {m : MethodId} {args : Array Value} {below : List Frame} {meth : Method} {c : Code} {D : va_G} {E : List wCell} {q : Nat → Nat} {ca : wCA} {A : Nat → Prop} (C : wC p ({ frames := 6, cells := 0, slots := 0, locals := 137 } : Room) s m args meth c cX0_stamped yX0_stamped.cls 6 (some .long) D vwCl (spX ++ E) q ca A) (N : Nat)    (K : (Int64 → wMem → Option (Int64 × wMem))) (r0 : (Int64 × wMem)) (hK : ∀ (y3_ : Int64) (μ : wMem), K y3_ μ = some r0 → wJ p l e ({ frames := 6, cells := 0, slots := 0, locals := 137 } : Room) s m args below meth c 6 D vwCl (spX ++ E) q ca A (wQl ({ frames := 6, cells := 0, slots := 0, locals := 137 } : Room) D vwCl (spX ++ E) q ca below args s A r0) 0 0 μ 55 [(3, .long y3_)] []) : ∀ (k : Nat) (x3_ : Int64) (x5_ : Int32) (μ : wMem), gX0_stamped_24 N   K k x3_ x5_ μ = some r0 → wJ p l e ({ frames := 6, cells := 0, slots := 0, locals := 137 } : Room) s m args below meth c 6 D vwCl (spX ++ E) q ca A (wQl ({ frames := 6, cells := 0, slots := 0, locals := 137 } : Room) D vwCl (spX ++ E) q ca below args s A r0) 0 0 μ 24 [(0, .ref (q 0)), (3, .long x3_), (5, .int x5_)] [] := by
  intro k
  induction k with
  | zero =>
    intro x3_ x5_ μ hf
    cases hf
  | succ k ih =>
    intro x3_ x5_ μ hf
    replace hf : gbX0_stamped_24 N   K (gX0_stamped_24 N   K k) x3_ x5_ μ = some r0 := hf
    unfold gbX0_stamped_24 at hf
    refine wr_iload 24 C dX0_stamped_24 2 rfl ?_
    refine wr_sipush 26 C dX0_stamped_26 (v := 3136) rfl ?_
    refine wr_icmp_ge 29 55 C dX0_stamped_29 (by decide) (fun c7 => ?_) (fun c7 => ?_)
    · replace hf := o_pos c7 hf
      refine wr_sub [(3, .long x3_)] [1] rfl ?_
      exact hK x3_ μ hf
    · replace hf := o_neg c7 hf
      refine wr_lload_n 32 C dX0_stamped_32 1 rfl rfl ?_
      refine wr_aload_n 33 C dX0_stamped_33 0 rfl rfl ?_
      refine gespX_0_24_X0 34 C dX0_stamped_34 ?_
      refine wr_aload_n 37 C dX0_stamped_37 0 rfl rfl ?_
      refine gespX_0_28_X0 38 C dX0_stamped_38 ?_
      refine wr_iload 41 C dX0_stamped_41 2 rfl ?_
      obtain ⟨v10, μ9, h8, hf⟩ := o_bind hf
      refine wr_Si (kc1 := 0) (ks1 := 0) 43 [.ref (q 15), .long x3_] C dX0_stamped_43 (tX0_spot l N   (μ.1 0 28) x5_ μ (v10, μ9) h8) okX0_spot q1114 ⟨rfl, rfl, Nat.le_of_ble_eq_true rfl, Nat.le_of_ble_eq_true rfl, Nat.zero_le _, Nat.zero_le _⟩ (Nat.le_of_ble_eq_true rfl) rfl ?_
      obtain ⟨g11, hf⟩ := o_g hf
      refine wr_lald 46 C dX0_stamped_46 spX_15 g11 ?_
      refine wr_ladd 47 C dX0_stamped_47 ?_
      obtain ⟨x12, ex12, hf⟩ := o_let hf
      refine wr_lstore_n 48 [(3, .long x12), (0, .ref (q 0)), (5, .int x5_)] C dX0_stamped_48 ex12 rfl (Nat.le_of_ble_eq_true rfl) rfl ?_
      obtain ⟨x13, ex13, hf⟩ := o_let hf
      refine wr_iinc 49 [(5, .int x13), (3, .long x12), (0, .ref (q 0))] C dX0_stamped_49 2 rfl (ex13.trans rfl) (Nat.le_of_ble_eq_true rfl) rfl ?_
      refine wr_goto 52 C dX0_stamped_52 (tgt := 24) (by decide) ?_
      refine wr_sub [(0, .ref (q 0)), (3, .long x12), (5, .int x13)] [2, 1, 0] rfl ?_
      exact ih x12 x13 μ9 hf
def fX0_stamped (N : Nat) (c0 t n : Nat)  (a1 : Int32) (μ : wMem) : Option (Int64 × wMem) :=
  wBind (fX0_asksStamps N c0 t n a1 1 μ) fun v3 μ2 => if 0 ≤ v3 then wBindV (fX0_goesThrough N c0 t n a1 μ2) fun μ6 => gX0_stamped_24 N   (fun (x15 : Int64) (μ14 : wMem) => some (x15, μ14)) N 0 0 μ6 else some (Int32.toInt64 v3, μ2)
set_option maxHeartbeats 4000000 in
set_option maxRecDepth 100000 in
theorem tX0_stamped (l : Launch) {D : va_G} {E : List wCell} {q : Nat → Nat} {ca : wCA} (hE : wSlots ca (spX ++ E)) (N : Nat) (c0 t n : Nat)   (a1 : Int32) (μ : wMem) (r0 : (Int64 × wMem)) (hi1 : ok_in a1 4 = true) (hb : (spX ++ E)[24 + a1.toNatClampNeg]? = some (.inl (5, [(2, c0)]))) (hr : wRow (spX ++ E) c0 t n) (hf : fX0_stamped N c0 t n  a1 μ = some r0) : wMl l yX0_stamped cX0_stamped 6 (some .long) ({ frames := 6, cells := 0, slots := 0, locals := 137 } : Room) D vwCl (spX ++ E) q ca [.ref (q 0), .int a1] μ r0 := by
  refine wMl_intro (by decide) (Nat.le_of_ble_eq_true rfl) ?_
  intro p e s m args below meth c A C
  unfold fX0_stamped at hf
  refine wr_sub [(0, .ref (q 0)), (1, .int a1)] [0, 1] rfl ?_
  refine wr_aload_n 0 C dX0_stamped_0 0 rfl rfl ?_
  refine wr_iload_n 1 C dX0_stamped_1 1 rfl rfl ?_
  refine wr_iconst 2 C dX0_stamped_2 (v := 1) rfl ?_
  obtain ⟨v3, μ2, h1, hf⟩ := o_bind hf
  refine wr_VWi (kc1 := 0) (ks1 := 0) 3 [] C dX0_stamped_3 (tX0_asksStamps l hE N c0 t n a1 1 μ (v3, μ2) hi1 hb hr h1) okX0_asksStamps q1102 (b := 0) spX_0 rfl ⟨rfl, rfl, Nat.le_of_ble_eq_true rfl, Nat.le_of_ble_eq_true rfl, Nat.zero_le _, Nat.zero_le _⟩ (Nat.le_of_ble_eq_true rfl) rfl ?_
  refine wr_istore_n 6 [(2, .int v3), (0, .ref (q 0)), (1, .int a1)] C dX0_stamped_6 rfl rfl (Nat.le_of_ble_eq_true rfl) rfl ?_
  refine wr_iload_n 7 C dX0_stamped_7 0 rfl rfl ?_
  refine wr_if_ge 8 14 C dX0_stamped_8 (by decide) (fun c4 => ?_) (fun c4 => ?_)
  · replace hf := o_pos c4 hf
    refine wr_aload_n 14 C dX0_stamped_14 1 rfl rfl ?_
    refine wr_iload_n 15 C dX0_stamped_15 2 rfl rfl ?_
    obtain ⟨μ6, h5, hf⟩ := o_bindV hf
    refine wr_Vv (kc1 := 0) (ks1 := 0) 16 [] C dX0_stamped_16 (tX0_goesThrough l hE N c0 t n a1 μ2 μ6 hi1 hb hr h5) okX0_goesThrough q1106 (b := 0) spX_0 rfl ⟨rfl, rfl, Nat.le_of_ble_eq_true rfl, Nat.le_of_ble_eq_true rfl, Nat.zero_le _, Nat.zero_le _⟩ (Nat.le_of_ble_eq_true rfl) rfl ?_
    refine wr_lconst 19 C dX0_stamped_19 (v := 0) rfl ?_
    refine wr_lstore_n 20 [(3, .long 0), (2, .int v3), (0, .ref (q 0)), (1, .int a1)] C dX0_stamped_20 rfl rfl (Nat.le_of_ble_eq_true rfl) rfl ?_
    refine wr_iconst 21 C dX0_stamped_21 (v := 0) rfl ?_
    refine wr_istore 22 [(5, .int 0), (3, .long 0), (2, .int v3), (0, .ref (q 0)), (1, .int a1)] C dX0_stamped_22 rfl (Nat.le_of_ble_eq_true rfl) rfl ?_
    refine wr_sub [(0, .ref (q 0)), (3, .long 0), (5, .int 0)] [3, 1, 0] rfl ?_
    refine tX0_stamped_24 C N    _ r0 (fun x15 μ14 hf => ?_) N 0 0 μ6 hf
    · replace hf := hf
      refine wr_lload_n 55 C dX0_stamped_55 0 rfl rfl ?_
      exact wr_lret 56 C dX0_stamped_56 ⟨Nat.zero_le _, Nat.zero_le _⟩ (Option.some.inj hf)
  · replace hf := o_neg c4 hf
    refine wr_iload_n 11 C dX0_stamped_11 0 rfl rfl ?_
    refine wr_i2l 12 C dX0_stamped_12 ?_
    exact wr_lret 13 C dX0_stamped_13 ⟨Nat.zero_le _, Nat.zero_le _⟩ (Option.some.inj hf)
abbrev cX0_had : ByteArray := prog_1_method_102_code
def yX0_had : MethodName := ⟨RX0, "had", "(II)I"⟩
def dkwX0_had_1 : List UInt8 := [182, 1, 175, 28, 42, 180, 1, 140, 162, 0, 12, 42, 180, 0, 79, 28, 46, 167, 0, 4, 3, 172]
abbrev dktX0_had_1 : List UInt8 := dkwX0_had_1 ++ []
def dkwX0_had_0 : List UInt8 := [42, 27, 28, 155, 0, 7, 4, 167, 0, 4, 3, 182, 1, 171, 62, 29, 156, 0, 5, 29, 172, 42, 27]
abbrev dktX0_had_0 : List UInt8 := dkwX0_had_0 ++ dktX0_had_1
theorem dksX0_had_0 : cX0_had.data.toList.drop 0 = dktX0_had_0 := by decide +kernel
theorem dksX0_had_1 : cX0_had.data.toList.drop 23 = dktX0_had_1 := dk_seg dksX0_had_0 23 rfl rfl
theorem dX0_had_0 : decode cX0_had 0 = .ok (.aload_n 0, 1) := dk_42 (dk_at dksX0_had_0 0 rfl rfl)
theorem dX0_had_1 : decode cX0_had 1 = .ok (.iload_n 1, 1) := dk_27 (dk_at dksX0_had_0 1 rfl rfl)
theorem dX0_had_2 : decode cX0_had 2 = .ok (.iload_n 2, 1) := dk_28 (dk_at dksX0_had_0 2 rfl rfl)
theorem dX0_had_3 : decode cX0_had 3 = .ok (.ifCond .lt 7, 3) := dk_155 0 7 (dk_at dksX0_had_0 3 rfl rfl)
theorem dX0_had_6 : decode cX0_had 6 = .ok (.iconst 1, 1) := dk_4 (dk_at dksX0_had_0 6 rfl rfl)
theorem dX0_had_7 : decode cX0_had 7 = .ok (.goto 4, 3) := dk_167 0 4 (dk_at dksX0_had_0 7 rfl rfl)
theorem dX0_had_10 : decode cX0_had 10 = .ok (.iconst 0, 1) := dk_3 (dk_at dksX0_had_0 10 rfl rfl)
theorem dX0_had_11 : decode cX0_had 11 = .ok (.invokevirtual 427, 3) := dk_182 1 171 (dk_at dksX0_had_0 11 rfl rfl)
theorem dX0_had_14 : decode cX0_had 14 = .ok (.istore_n 3, 1) := dk_62 (dk_at dksX0_had_0 14 rfl rfl)
theorem dX0_had_15 : decode cX0_had 15 = .ok (.iload_n 3, 1) := dk_29 (dk_at dksX0_had_0 15 rfl rfl)
theorem dX0_had_16 : decode cX0_had 16 = .ok (.ifCond .ge 5, 3) := dk_156 0 5 (dk_at dksX0_had_0 16 rfl rfl)
theorem dX0_had_19 : decode cX0_had 19 = .ok (.iload_n 3, 1) := dk_29 (dk_at dksX0_had_0 19 rfl rfl)
theorem dX0_had_20 : decode cX0_had 20 = .ok (.ireturn, 1) := dk_172 (dk_at dksX0_had_0 20 rfl rfl)
theorem dX0_had_21 : decode cX0_had 21 = .ok (.aload_n 0, 1) := dk_42 (dk_at dksX0_had_0 21 rfl rfl)
theorem dX0_had_22 : decode cX0_had 22 = .ok (.iload_n 1, 1) := dk_27 (dk_at dksX0_had_0 22 rfl rfl)
theorem dX0_had_23 : decode cX0_had 23 = .ok (.invokevirtual 431, 3) := dk_182 1 175 (dk_at dksX0_had_1 0 rfl rfl)
theorem dX0_had_26 : decode cX0_had 26 = .ok (.iload_n 2, 1) := dk_28 (dk_at dksX0_had_1 3 rfl rfl)
theorem dX0_had_27 : decode cX0_had 27 = .ok (.aload_n 0, 1) := dk_42 (dk_at dksX0_had_1 4 rfl rfl)
theorem dX0_had_28 : decode cX0_had 28 = .ok (.getfield 396, 3) := dk_180 1 140 (dk_at dksX0_had_1 5 rfl rfl)
theorem dX0_had_31 : decode cX0_had 31 = .ok (.if_icmp .ge 12, 3) := dk_162 0 12 (dk_at dksX0_had_1 8 rfl rfl)
theorem dX0_had_34 : decode cX0_had 34 = .ok (.aload_n 0, 1) := dk_42 (dk_at dksX0_had_1 11 rfl rfl)
theorem dX0_had_35 : decode cX0_had 35 = .ok (.getfield 79, 3) := dk_180 0 79 (dk_at dksX0_had_1 12 rfl rfl)
theorem dX0_had_38 : decode cX0_had 38 = .ok (.iload_n 2, 1) := dk_28 (dk_at dksX0_had_1 15 rfl rfl)
theorem dX0_had_39 : decode cX0_had 39 = .ok (.iaload, 1) := dk_46 (dk_at dksX0_had_1 16 rfl rfl)
theorem dX0_had_40 : decode cX0_had 40 = .ok (.goto 4, 3) := dk_167 0 4 (dk_at dksX0_had_1 17 rfl rfl)
theorem dX0_had_43 : decode cX0_had 43 = .ok (.iconst 0, 1) := dk_3 (dk_at dksX0_had_1 20 rfl rfl)
theorem dX0_had_44 : decode cX0_had 44 = .ok (.ireturn, 1) := dk_172 (dk_at dksX0_had_1 21 rfl rfl)

theorem okX0_had : wOkV yX0_had cX0_had 4 (some .int) 2 := ⟨q1135, q1136, q136, q1137, by decide, by decide, by decide +kernel⟩
def fX0_had (N : Nat) (c0 t n : Nat)  (a1 : Int32) (a2 : Int32) (μ : wMem) : Option (Int32 × wMem) :=
  wLet (fun (v2 : Int32) (μ1 : wMem) => wBind (fX0_asksStamps N c0 t n a1 v2 μ1) fun v5 μ4 => if 0 ≤ v5 then wBindV (fX0_goesThrough N c0 t n a1 μ4) fun μ8 => if (μ8.1 0 28) ≤ a2 then some (0, μ8) else wG (ok_in a2 12) (some (μ8.1 18 (Int32.toNatClampNeg a2), μ8)) else some (v5, μ4)) fun Jhad11 => if a2 < 0 then Jhad11 0 μ else Jhad11 1 μ
set_option maxHeartbeats 4000000 in
set_option maxRecDepth 100000 in
theorem tX0_had (l : Launch) {D : va_G} {E : List wCell} {q : Nat → Nat} {ca : wCA} (hE : wSlots ca (spX ++ E)) (N : Nat) (c0 t n : Nat)   (a1 : Int32) (a2 : Int32) (μ : wMem) (r0 : (Int32 × wMem)) (hi1 : ok_in a1 4 = true) (hb : (spX ++ E)[24 + a1.toNatClampNeg]? = some (.inl (5, [(2, c0)]))) (hr : wRow (spX ++ E) c0 t n) (hf : fX0_had N c0 t n  a1 a2 μ = some r0) : wMi l yX0_had cX0_had 4 (some .int) ({ frames := 6, cells := 0, slots := 0, locals := 137 } : Room) D vwCl (spX ++ E) q ca [.ref (q 0), .int a1, .int a2] μ r0 := by
  refine wMi_intro (by decide) (Nat.le_of_ble_eq_true rfl) ?_
  intro p e s m args below meth c A C
  unfold fX0_had at hf
  refine wr_sub [(0, .ref (q 0)), (1, .int a1), (2, .int a2)] [0, 1, 2] rfl ?_
  refine wr_aload_n 0 C dX0_had_0 0 rfl rfl ?_
  refine wr_iload_n 1 C dX0_had_1 1 rfl rfl ?_
  refine wr_iload_n 2 C dX0_had_2 2 rfl rfl ?_
  obtain ⟨Jhad11, eJhad11, hf⟩ := o_let hf
  have hJhad11 : ∀ (v2 : Int32) (μ1 : wMem), Jhad11 v2 μ1 = some r0 → wJ p l e ({ frames := 6, cells := 0, slots := 0, locals := 137 } : Room) s m args below meth c 4 D vwCl (spX ++ E) q ca A (wQi ({ frames := 6, cells := 0, slots := 0, locals := 137 } : Room) D vwCl (spX ++ E) q ca below args s A r0) 0 0 μ1 11 [(0, .ref (q 0)), (1, .int a1), (2, .int a2)] [.int v2, .int a1, .ref (q 0)] := by
    intro v2 μ1 hf
    rw [eJhad11] at hf
    obtain ⟨v5, μ4, h3, hf⟩ := o_bind hf
    refine wr_VWi (kc1 := 0) (ks1 := 0) 11 [] C dX0_had_11 (tX0_asksStamps l hE N c0 t n a1 v2 μ1 (v5, μ4) hi1 hb hr h3) okX0_asksStamps q1102 (b := 0) spX_0 rfl ⟨rfl, rfl, Nat.le_of_ble_eq_true rfl, Nat.le_of_ble_eq_true rfl, Nat.zero_le _, Nat.zero_le _⟩ (Nat.le_of_ble_eq_true rfl) rfl ?_
    refine wr_istore_n 14 [(3, .int v5), (0, .ref (q 0)), (1, .int a1), (2, .int a2)] C dX0_had_14 rfl rfl (Nat.le_of_ble_eq_true rfl) rfl ?_
    refine wr_iload_n 15 C dX0_had_15 0 rfl rfl ?_
    refine wr_if_ge 16 21 C dX0_had_16 (by decide) (fun c6 => ?_) (fun c6 => ?_)
    · replace hf := o_pos c6 hf
      refine wr_aload_n 21 C dX0_had_21 1 rfl rfl ?_
      refine wr_iload_n 22 C dX0_had_22 2 rfl rfl ?_
      obtain ⟨μ8, h7, hf⟩ := o_bindV hf
      refine wr_Vv (kc1 := 0) (ks1 := 0) 23 [] C dX0_had_23 (tX0_goesThrough l hE N c0 t n a1 μ4 μ8 hi1 hb hr h7) okX0_goesThrough q1106 (b := 0) spX_0 rfl ⟨rfl, rfl, Nat.le_of_ble_eq_true rfl, Nat.le_of_ble_eq_true rfl, Nat.zero_le _, Nat.zero_le _⟩ (Nat.le_of_ble_eq_true rfl) rfl ?_
      refine wr_iload_n 26 C dX0_had_26 3 rfl rfl ?_
      refine wr_aload_n 27 C dX0_had_27 1 rfl rfl ?_
      refine gespX_0_28_X0 28 C dX0_had_28 ?_
      refine wr_icmp_ge 31 43 C dX0_had_31 (by decide) (fun c9 => ?_) (fun c9 => ?_)
      · replace hf := o_pos c9 hf
        refine wr_iconst 43 C dX0_had_43 (v := 0) rfl ?_
        exact wr_iret 44 C dX0_had_44 ⟨Nat.zero_le _, Nat.zero_le _⟩ (Option.some.inj hf)
      · replace hf := o_neg c9 hf
        refine wr_aload_n 34 C dX0_had_34 1 rfl rfl ?_
        refine gespX_0_27_X0 35 C dX0_had_35 ?_
        refine wr_iload_n 38 C dX0_had_38 3 rfl rfl ?_
        obtain ⟨g10, hf⟩ := o_g hf
        refine wr_iald 39 C dX0_had_39 spX_18 g10 ?_
        refine wr_goto 40 C dX0_had_40 (tgt := 44) (by decide) ?_
        exact wr_iret 44 C dX0_had_44 ⟨Nat.zero_le _, Nat.zero_le _⟩ (Option.some.inj hf)
    · replace hf := o_neg c6 hf
      refine wr_iload_n 19 C dX0_had_19 0 rfl rfl ?_
      exact wr_iret 20 C dX0_had_20 ⟨Nat.zero_le _, Nat.zero_le _⟩ (Option.some.inj hf)
  refine wr_if_lt 3 10 C dX0_had_3 (by decide) (fun c11 => ?_) (fun c11 => ?_)
  · replace hf := o_pos c11 hf
    refine wr_iconst 10 C dX0_had_10 (v := 0) rfl ?_
    exact hJhad11 0 μ hf
  · replace hf := o_neg c11 hf
    refine wr_iconst 6 C dX0_had_6 (v := 1) rfl ?_
    refine wr_goto 7 C dX0_had_7 (tgt := 11) (by decide) ?_
    exact hJhad11 1 μ hf
abbrev cX0_sure : ByteArray := prog_1_method_103_code
def yX0_sure : MethodName := ⟨RX0, "sure", "(II)I"⟩
def dkwX0_sure_4 : List UInt8 := [180, 1, 156, 172]
abbrev dktX0_sure_4 : List UInt8 := dkwX0_sure_4 ++ []
def dkwX0_sure_3 : List UInt8 := [167, 255, 214, 21, 4, 154, 0, 7, 3, 167, 0, 18, 28, 154, 0, 10, 42, 180, 1, 153, 167, 0, 7, 42]
abbrev dktX0_sure_3 : List UInt8 := dkwX0_sure_3 ++ dktX0_sure_4
def dkwX0_sure_2 : List UInt8 := [180, 1, 140, 21, 5, 184, 1, 146, 47, 9, 148, 158, 0, 7, 4, 167, 0, 4, 3, 54, 4, 132, 5, 1]
abbrev dktX0_sure_2 : List UInt8 := dkwX0_sure_2 ++ dktX0_sure_3
def dkwX0_sure_1 : List UInt8 := [54, 4, 3, 54, 5, 21, 5, 17, 12, 64, 162, 0, 40, 21, 4, 154, 0, 22, 42, 180, 0, 69, 42]
abbrev dktX0_sure_1 : List UInt8 := dkwX0_sure_1 ++ dktX0_sure_2
def dkwX0_sure_0 : List UInt8 := [42, 27, 28, 5, 184, 0, 246, 182, 1, 171, 62, 29, 156, 0, 5, 29, 172, 42, 27, 182, 1, 175, 3]
abbrev dktX0_sure_0 : List UInt8 := dkwX0_sure_0 ++ dktX0_sure_1
theorem dksX0_sure_0 : cX0_sure.data.toList.drop 0 = dktX0_sure_0 := by decide +kernel
theorem dksX0_sure_1 : cX0_sure.data.toList.drop 23 = dktX0_sure_1 := dk_seg dksX0_sure_0 23 rfl rfl
theorem dksX0_sure_2 : cX0_sure.data.toList.drop 46 = dktX0_sure_2 := dk_seg dksX0_sure_1 23 rfl rfl
theorem dksX0_sure_3 : cX0_sure.data.toList.drop 70 = dktX0_sure_3 := dk_seg dksX0_sure_2 24 rfl rfl
theorem dksX0_sure_4 : cX0_sure.data.toList.drop 94 = dktX0_sure_4 := dk_seg dksX0_sure_3 24 rfl rfl
theorem dX0_sure_0 : decode cX0_sure 0 = .ok (.aload_n 0, 1) := dk_42 (dk_at dksX0_sure_0 0 rfl rfl)
theorem dX0_sure_1 : decode cX0_sure 1 = .ok (.iload_n 1, 1) := dk_27 (dk_at dksX0_sure_0 1 rfl rfl)
theorem dX0_sure_2 : decode cX0_sure 2 = .ok (.iload_n 2, 1) := dk_28 (dk_at dksX0_sure_0 2 rfl rfl)
theorem dX0_sure_3 : decode cX0_sure 3 = .ok (.iconst 2, 1) := dk_5 (dk_at dksX0_sure_0 3 rfl rfl)
theorem dX0_sure_4 : decode cX0_sure 4 = .ok (.invokestatic 246, 3) := dk_184 0 246 (dk_at dksX0_sure_0 4 rfl rfl)
theorem dX0_sure_7 : decode cX0_sure 7 = .ok (.invokevirtual 427, 3) := dk_182 1 171 (dk_at dksX0_sure_0 7 rfl rfl)
theorem dX0_sure_10 : decode cX0_sure 10 = .ok (.istore_n 3, 1) := dk_62 (dk_at dksX0_sure_0 10 rfl rfl)
theorem dX0_sure_11 : decode cX0_sure 11 = .ok (.iload_n 3, 1) := dk_29 (dk_at dksX0_sure_0 11 rfl rfl)
theorem dX0_sure_12 : decode cX0_sure 12 = .ok (.ifCond .ge 5, 3) := dk_156 0 5 (dk_at dksX0_sure_0 12 rfl rfl)
theorem dX0_sure_15 : decode cX0_sure 15 = .ok (.iload_n 3, 1) := dk_29 (dk_at dksX0_sure_0 15 rfl rfl)
theorem dX0_sure_16 : decode cX0_sure 16 = .ok (.ireturn, 1) := dk_172 (dk_at dksX0_sure_0 16 rfl rfl)
theorem dX0_sure_17 : decode cX0_sure 17 = .ok (.aload_n 0, 1) := dk_42 (dk_at dksX0_sure_0 17 rfl rfl)
theorem dX0_sure_18 : decode cX0_sure 18 = .ok (.iload_n 1, 1) := dk_27 (dk_at dksX0_sure_0 18 rfl rfl)
theorem dX0_sure_19 : decode cX0_sure 19 = .ok (.invokevirtual 431, 3) := dk_182 1 175 (dk_at dksX0_sure_0 19 rfl rfl)
theorem dX0_sure_22 : decode cX0_sure 22 = .ok (.iconst 0, 1) := dk_3 (dk_at dksX0_sure_0 22 rfl rfl)
theorem dX0_sure_23 : decode cX0_sure 23 = .ok (.istore 4, 2) := dk_54 4 (dk_at dksX0_sure_1 0 rfl rfl)
theorem dX0_sure_25 : decode cX0_sure 25 = .ok (.iconst 0, 1) := dk_3 (dk_at dksX0_sure_1 2 rfl rfl)
theorem dX0_sure_26 : decode cX0_sure 26 = .ok (.istore 5, 2) := dk_54 5 (dk_at dksX0_sure_1 3 rfl rfl)
theorem dX0_sure_28 : decode cX0_sure 28 = .ok (.iload 5, 2) := dk_21 5 (dk_at dksX0_sure_1 5 rfl rfl)
theorem dX0_sure_30 : decode cX0_sure 30 = .ok (.sipush 3136, 3) := dk_17 12 64 (dk_at dksX0_sure_1 7 rfl rfl)
theorem dX0_sure_33 : decode cX0_sure 33 = .ok (.if_icmp .ge 40, 3) := dk_162 0 40 (dk_at dksX0_sure_1 10 rfl rfl)
theorem dX0_sure_36 : decode cX0_sure 36 = .ok (.iload 4, 2) := dk_21 4 (dk_at dksX0_sure_1 13 rfl rfl)
theorem dX0_sure_38 : decode cX0_sure 38 = .ok (.ifCond .ne 22, 3) := dk_154 0 22 (dk_at dksX0_sure_1 15 rfl rfl)
theorem dX0_sure_41 : decode cX0_sure 41 = .ok (.aload_n 0, 1) := dk_42 (dk_at dksX0_sure_1 18 rfl rfl)
theorem dX0_sure_42 : decode cX0_sure 42 = .ok (.getfield 69, 3) := dk_180 0 69 (dk_at dksX0_sure_1 19 rfl rfl)
theorem dX0_sure_45 : decode cX0_sure 45 = .ok (.aload_n 0, 1) := dk_42 (dk_at dksX0_sure_1 22 rfl rfl)
theorem dX0_sure_46 : decode cX0_sure 46 = .ok (.getfield 396, 3) := dk_180 1 140 (dk_at dksX0_sure_2 0 rfl rfl)
theorem dX0_sure_49 : decode cX0_sure 49 = .ok (.iload 5, 2) := dk_21 5 (dk_at dksX0_sure_2 3 rfl rfl)
theorem dX0_sure_51 : decode cX0_sure 51 = .ok (.invokestatic 402, 3) := dk_184 1 146 (dk_at dksX0_sure_2 5 rfl rfl)
theorem dX0_sure_54 : decode cX0_sure 54 = .ok (.laload, 1) := dk_47 (dk_at dksX0_sure_2 8 rfl rfl)
theorem dX0_sure_55 : decode cX0_sure 55 = .ok (.lconst 0, 1) := dk_9 (dk_at dksX0_sure_2 9 rfl rfl)
theorem dX0_sure_56 : decode cX0_sure 56 = .ok (.lcmp, 1) := dk_148 (dk_at dksX0_sure_2 10 rfl rfl)
theorem dX0_sure_57 : decode cX0_sure 57 = .ok (.ifCond .le 7, 3) := dk_158 0 7 (dk_at dksX0_sure_2 11 rfl rfl)
theorem dX0_sure_60 : decode cX0_sure 60 = .ok (.iconst 1, 1) := dk_4 (dk_at dksX0_sure_2 14 rfl rfl)
theorem dX0_sure_61 : decode cX0_sure 61 = .ok (.goto 4, 3) := dk_167 0 4 (dk_at dksX0_sure_2 15 rfl rfl)
theorem dX0_sure_64 : decode cX0_sure 64 = .ok (.iconst 0, 1) := dk_3 (dk_at dksX0_sure_2 18 rfl rfl)
theorem dX0_sure_65 : decode cX0_sure 65 = .ok (.istore 4, 2) := dk_54 4 (dk_at dksX0_sure_2 19 rfl rfl)
theorem dX0_sure_67 : decode cX0_sure 67 = .ok (.iinc 5 1, 3) := dk_132 5 1 (dk_at dksX0_sure_2 21 rfl rfl)
theorem dX0_sure_70 : decode cX0_sure 70 = .ok (.goto (-42), 3) := dk_167 255 214 (dk_at dksX0_sure_3 0 rfl rfl)
theorem dX0_sure_73 : decode cX0_sure 73 = .ok (.iload 4, 2) := dk_21 4 (dk_at dksX0_sure_3 3 rfl rfl)
theorem dX0_sure_75 : decode cX0_sure 75 = .ok (.ifCond .ne 7, 3) := dk_154 0 7 (dk_at dksX0_sure_3 5 rfl rfl)
theorem dX0_sure_78 : decode cX0_sure 78 = .ok (.iconst 0, 1) := dk_3 (dk_at dksX0_sure_3 8 rfl rfl)
theorem dX0_sure_79 : decode cX0_sure 79 = .ok (.goto 18, 3) := dk_167 0 18 (dk_at dksX0_sure_3 9 rfl rfl)
theorem dX0_sure_82 : decode cX0_sure 82 = .ok (.iload_n 2, 1) := dk_28 (dk_at dksX0_sure_3 12 rfl rfl)
theorem dX0_sure_83 : decode cX0_sure 83 = .ok (.ifCond .ne 10, 3) := dk_154 0 10 (dk_at dksX0_sure_3 13 rfl rfl)
theorem dX0_sure_86 : decode cX0_sure 86 = .ok (.aload_n 0, 1) := dk_42 (dk_at dksX0_sure_3 16 rfl rfl)
theorem dX0_sure_87 : decode cX0_sure 87 = .ok (.getfield 409, 3) := dk_180 1 153 (dk_at dksX0_sure_3 17 rfl rfl)
theorem dX0_sure_90 : decode cX0_sure 90 = .ok (.goto 7, 3) := dk_167 0 7 (dk_at dksX0_sure_3 20 rfl rfl)
theorem dX0_sure_93 : decode cX0_sure 93 = .ok (.aload_n 0, 1) := dk_42 (dk_at dksX0_sure_3 23 rfl rfl)
theorem dX0_sure_94 : decode cX0_sure 94 = .ok (.getfield 412, 3) := dk_180 1 156 (dk_at dksX0_sure_4 0 rfl rfl)
theorem dX0_sure_97 : decode cX0_sure 97 = .ok (.ireturn, 1) := dk_172 (dk_at dksX0_sure_4 3 rfl rfl)

theorem okX0_sure : wOkV yX0_sure cX0_sure 6 (some .int) 2 := ⟨q1139, q1140, q136, q1141, by decide, by decide, by decide +kernel⟩
def gbX0_sure_28 (N : Nat)  (x2_ : Int32) (K : (Int32 → wMem → Option (Int32 × wMem))) (rec : (Int32 → Int32 → wMem → Option (Int32 × wMem))) (x4_ : Int32) (x5_ : Int32) (μ : wMem) : Option (Int32 × wMem) :=
  if (3136 : Int32) ≤ x5_ then K x4_ μ else wLet (fun (v12 : Int32) (μ11 : wMem) => wLet (x5_ + 1 : Int32) fun x13 => rec v12 x13 μ11) fun Jsure65 => wLet (fun  (μ14 : wMem) => Jsure65 1 μ14) fun Jsure60 => if x4_ = 0 then wBind (fX0_spot N  (μ.1 0 28) x5_ μ) fun v18 μ17 => wG (ok_in v18 40768) (if (μ17.2 15 (Int32.toNatClampNeg v18)) ≤ (0 : Int64) then Jsure65 0 μ17 else Jsure60  μ17) else Jsure60  μ
def gX0_sure_28 (N : Nat)  (x2_ : Int32) (K : (Int32 → wMem → Option (Int32 × wMem))) : Nat → (Int32 → Int32 → wMem → Option (Int32 × wMem))
  | 0 => fun _ _ _ => none
  | k + 1 => gbX0_sure_28 N  x2_ K (gX0_sure_28 N  x2_ K k)
set_option maxHeartbeats 4000000 in
set_option maxRecDepth 100000 in
theorem tX0_sure_28 {p : Program} {l : Launch} {e : Env} {s : State} {m : MethodId} {args : Array Value} {below : List Frame} {meth : Method} {c : Code} {D : va_G} {E : List wCell} {q : Nat → Nat} {ca : wCA} {A : Nat → Prop} (C : wC p ({ frames := 6, cells := 0, slots := 0, locals := 137 } : Room) s m args meth c cX0_sure yX0_sure.cls 6 (some .int) D vwCl (spX ++ E) q ca A) (N : Nat)   (x2_ : Int32) (K : (Int32 → wMem → Option (Int32 × wMem))) (r0 : (Int32 × wMem)) (hK : ∀ (y4_ : Int32) (μ : wMem), K y4_ μ = some r0 → wJ p l e ({ frames := 6, cells := 0, slots := 0, locals := 137 } : Room) s m args below meth c 6 D vwCl (spX ++ E) q ca A (wQi ({ frames := 6, cells := 0, slots := 0, locals := 137 } : Room) D vwCl (spX ++ E) q ca below args s A r0) 0 0 μ 73 [(0, .ref (q 0)), (2, .int x2_), (4, .int y4_)] []) : ∀ (k : Nat) (x4_ : Int32) (x5_ : Int32) (μ : wMem), gX0_sure_28 N  x2_ K k x4_ x5_ μ = some r0 → wJ p l e ({ frames := 6, cells := 0, slots := 0, locals := 137 } : Room) s m args below meth c 6 D vwCl (spX ++ E) q ca A (wQi ({ frames := 6, cells := 0, slots := 0, locals := 137 } : Room) D vwCl (spX ++ E) q ca below args s A r0) 0 0 μ 28 [(0, .ref (q 0)), (2, .int x2_), (4, .int x4_), (5, .int x5_)] [] := by
  intro k
  induction k with
  | zero =>
    intro x4_ x5_ μ hf
    cases hf
  | succ k ih =>
    intro x4_ x5_ μ hf
    replace hf : gbX0_sure_28 N  x2_ K (gX0_sure_28 N  x2_ K k) x4_ x5_ μ = some r0 := hf
    unfold gbX0_sure_28 at hf
    refine wr_iload 28 C dX0_sure_28 3 rfl ?_
    refine wr_sipush 30 C dX0_sure_30 (v := 3136) rfl ?_
    refine wr_icmp_ge 33 73 C dX0_sure_33 (by decide) (fun c10 => ?_) (fun c10 => ?_)
    · replace hf := o_pos c10 hf
      refine wr_sub [(0, .ref (q 0)), (2, .int x2_), (4, .int x4_)] [0, 1, 2] rfl ?_
      exact hK x4_ μ hf
    · replace hf := o_neg c10 hf
      refine wr_iload 36 C dX0_sure_36 2 rfl ?_
      obtain ⟨Jsure65, eJsure65, hf⟩ := o_let hf
      have hJsure65 : ∀ (v12 : Int32) (μ11 : wMem), Jsure65 v12 μ11 = some r0 → wJ p l e ({ frames := 6, cells := 0, slots := 0, locals := 137 } : Room) s m args below meth c 6 D vwCl (spX ++ E) q ca A (wQi ({ frames := 6, cells := 0, slots := 0, locals := 137 } : Room) D vwCl (spX ++ E) q ca below args s A r0) 0 0 μ11 65 [(0, .ref (q 0)), (2, .int x2_), (5, .int x5_)] [.int v12] := by
        intro v12 μ11 hf
        rw [eJsure65] at hf
        refine wr_istore 65 [(4, .int v12), (0, .ref (q 0)), (2, .int x2_), (5, .int x5_)] C dX0_sure_65 rfl (Nat.le_of_ble_eq_true rfl) rfl ?_
        obtain ⟨x13, ex13, hf⟩ := o_let hf
        refine wr_iinc 67 [(5, .int x13), (4, .int v12), (0, .ref (q 0)), (2, .int x2_)] C dX0_sure_67 3 rfl (ex13.trans rfl) (Nat.le_of_ble_eq_true rfl) rfl ?_
        refine wr_goto 70 C dX0_sure_70 (tgt := 28) (by decide) ?_
        refine wr_sub [(0, .ref (q 0)), (2, .int x2_), (4, .int v12), (5, .int x13)] [2, 3, 1, 0] rfl ?_
        exact ih v12 x13 μ11 hf
      obtain ⟨Jsure60, eJsure60, hf⟩ := o_let hf
      have hJsure60 : ∀  (μ14 : wMem), Jsure60  μ14 = some r0 → wJ p l e ({ frames := 6, cells := 0, slots := 0, locals := 137 } : Room) s m args below meth c 6 D vwCl (spX ++ E) q ca A (wQi ({ frames := 6, cells := 0, slots := 0, locals := 137 } : Room) D vwCl (spX ++ E) q ca below args s A r0) 0 0 μ14 60 [(0, .ref (q 0)), (2, .int x2_), (5, .int x5_)] [] := by
        intro  μ14 hf
        rw [eJsure60] at hf
        refine wr_iconst 60 C dX0_sure_60 (v := 1) rfl ?_
        refine wr_goto 61 C dX0_sure_61 (tgt := 65) (by decide) ?_
        exact hJsure65 1 μ14 hf
      refine wr_if_ne 38 60 C dX0_sure_38 (by decide) (fun c15 => ?_) (fun c15 => ?_)
      · replace hf := o_neg c15 hf
        refine wr_sub [(0, .ref (q 0)), (2, .int x2_), (5, .int x5_)] [0, 1, 3] rfl ?_
        exact hJsure60  μ hf
      · replace hf := o_pos c15 hf
        refine wr_aload_n 41 C dX0_sure_41 0 rfl rfl ?_
        refine gespX_0_24_X0 42 C dX0_sure_42 ?_
        refine wr_aload_n 45 C dX0_sure_45 0 rfl rfl ?_
        refine gespX_0_28_X0 46 C dX0_sure_46 ?_
        refine wr_iload 49 C dX0_sure_49 3 rfl ?_
        obtain ⟨v18, μ17, h16, hf⟩ := o_bind hf
        refine wr_Si (kc1 := 0) (ks1 := 0) 51 [.ref (q 15)] C dX0_sure_51 (tX0_spot l N   (μ.1 0 28) x5_ μ (v18, μ17) h16) okX0_spot q1114 ⟨rfl, rfl, Nat.le_of_ble_eq_true rfl, Nat.le_of_ble_eq_true rfl, Nat.zero_le _, Nat.zero_le _⟩ (Nat.le_of_ble_eq_true rfl) rfl ?_
        obtain ⟨g19, hf⟩ := o_g hf
        refine wr_lald 54 C dX0_sure_54 spX_15 g19 ?_
        refine wr_lconst 55 C dX0_sure_55 (v := 0) rfl ?_
        refine wr_lcmp_le 56 64 C dX0_sure_56 dX0_sure_57 (by decide) (fun c20 => ?_) (fun c20 => ?_)
        · replace hf := o_pos c20 hf
          refine wr_iconst 64 C dX0_sure_64 (v := 0) rfl ?_
          refine wr_sub [(0, .ref (q 0)), (2, .int x2_), (5, .int x5_)] [0, 1, 3] rfl ?_
          exact hJsure65 0 μ17 hf
        · replace hf := o_neg c20 hf
          refine wr_sub [(0, .ref (q 0)), (2, .int x2_), (5, .int x5_)] [0, 1, 3] rfl ?_
          exact hJsure60  μ17 hf
def fX0_sure (N : Nat) (c0 t n : Nat)  (a1 : Int32) (a2 : Int32) (μ : wMem) : Option (Int32 × wMem) :=
  wBind (fX0_isOneOf N  a2 2 μ) fun v3 μ2 => wBind (fX0_asksStamps N c0 t n a1 v3 μ2) fun v6 μ5 => if 0 ≤ v6 then wBindV (fX0_goesThrough N c0 t n a1 μ5) fun μ9 => gX0_sure_28 N  a2 (fun (x22 : Int32) (μ21 : wMem) => if x22 = 0 then some (0, μ21) else if a2 = 0 then some (μ21.1 0 29, μ21) else some (μ21.1 0 30, μ21)) N 0 0 μ9 else some (v6, μ5)
set_option maxHeartbeats 4000000 in
set_option maxRecDepth 100000 in
theorem tX0_sure (l : Launch) {D : va_G} {E : List wCell} {q : Nat → Nat} {ca : wCA} (hE : wSlots ca (spX ++ E)) (N : Nat) (c0 t n : Nat)   (a1 : Int32) (a2 : Int32) (μ : wMem) (r0 : (Int32 × wMem)) (hi1 : ok_in a1 4 = true) (hb : (spX ++ E)[24 + a1.toNatClampNeg]? = some (.inl (5, [(2, c0)]))) (hr : wRow (spX ++ E) c0 t n) (hf : fX0_sure N c0 t n  a1 a2 μ = some r0) : wMi l yX0_sure cX0_sure 6 (some .int) ({ frames := 6, cells := 0, slots := 0, locals := 137 } : Room) D vwCl (spX ++ E) q ca [.ref (q 0), .int a1, .int a2] μ r0 := by
  refine wMi_intro (by decide) (Nat.le_of_ble_eq_true rfl) ?_
  intro p e s m args below meth c A C
  unfold fX0_sure at hf
  refine wr_sub [(0, .ref (q 0)), (1, .int a1), (2, .int a2)] [0, 1, 2] rfl ?_
  refine wr_aload_n 0 C dX0_sure_0 0 rfl rfl ?_
  refine wr_iload_n 1 C dX0_sure_1 1 rfl rfl ?_
  refine wr_iload_n 2 C dX0_sure_2 2 rfl rfl ?_
  refine wr_iconst 3 C dX0_sure_3 (v := 2) rfl ?_
  obtain ⟨v3, μ2, h1, hf⟩ := o_bind hf
  refine wr_Si (kc1 := 0) (ks1 := 0) 4 [.int a1, .ref (q 0)] C dX0_sure_4 (tX0_isOneOf l N   a2 2 μ (v3, μ2) h1) okX0_isOneOf q734 ⟨rfl, rfl, Nat.le_of_ble_eq_true rfl, Nat.le_of_ble_eq_true rfl, Nat.zero_le _, Nat.zero_le _⟩ (Nat.le_of_ble_eq_true rfl) rfl ?_
  obtain ⟨v6, μ5, h4, hf⟩ := o_bind hf
  refine wr_VWi (kc1 := 0) (ks1 := 0) 7 [] C dX0_sure_7 (tX0_asksStamps l hE N c0 t n a1 v3 μ2 (v6, μ5) hi1 hb hr h4) okX0_asksStamps q1102 (b := 0) spX_0 rfl ⟨rfl, rfl, Nat.le_of_ble_eq_true rfl, Nat.le_of_ble_eq_true rfl, Nat.zero_le _, Nat.zero_le _⟩ (Nat.le_of_ble_eq_true rfl) rfl ?_
  refine wr_istore_n 10 [(3, .int v6), (0, .ref (q 0)), (1, .int a1), (2, .int a2)] C dX0_sure_10 rfl rfl (Nat.le_of_ble_eq_true rfl) rfl ?_
  refine wr_iload_n 11 C dX0_sure_11 0 rfl rfl ?_
  refine wr_if_ge 12 17 C dX0_sure_12 (by decide) (fun c7 => ?_) (fun c7 => ?_)
  · replace hf := o_pos c7 hf
    refine wr_aload_n 17 C dX0_sure_17 1 rfl rfl ?_
    refine wr_iload_n 18 C dX0_sure_18 2 rfl rfl ?_
    obtain ⟨μ9, h8, hf⟩ := o_bindV hf
    refine wr_Vv (kc1 := 0) (ks1 := 0) 19 [] C dX0_sure_19 (tX0_goesThrough l hE N c0 t n a1 μ5 μ9 hi1 hb hr h8) okX0_goesThrough q1106 (b := 0) spX_0 rfl ⟨rfl, rfl, Nat.le_of_ble_eq_true rfl, Nat.le_of_ble_eq_true rfl, Nat.zero_le _, Nat.zero_le _⟩ (Nat.le_of_ble_eq_true rfl) rfl ?_
    refine wr_iconst 22 C dX0_sure_22 (v := 0) rfl ?_
    refine wr_istore 23 [(4, .int 0), (3, .int v6), (0, .ref (q 0)), (1, .int a1), (2, .int a2)] C dX0_sure_23 rfl (Nat.le_of_ble_eq_true rfl) rfl ?_
    refine wr_iconst 25 C dX0_sure_25 (v := 0) rfl ?_
    refine wr_istore 26 [(5, .int 0), (4, .int 0), (3, .int v6), (0, .ref (q 0)), (1, .int a1), (2, .int a2)] C dX0_sure_26 rfl (Nat.le_of_ble_eq_true rfl) rfl ?_
    refine wr_sub [(0, .ref (q 0)), (2, .int a2), (4, .int 0), (5, .int 0)] [3, 5, 1, 0] rfl ?_
    refine tX0_sure_28 C N   a2 _ r0 (fun x22 μ21 hf => ?_) N 0 0 μ9 hf
    · replace hf := hf
      refine wr_iload 73 C dX0_sure_73 2 rfl ?_
      refine wr_if_ne 75 82 C dX0_sure_75 (by decide) (fun c23 => ?_) (fun c23 => ?_)
      · replace hf := o_neg c23 hf
        refine wr_iload_n 82 C dX0_sure_82 1 rfl rfl ?_
        refine wr_if_ne 83 93 C dX0_sure_83 (by decide) (fun c24 => ?_) (fun c24 => ?_)
        · replace hf := o_neg c24 hf
          refine wr_aload_n 93 C dX0_sure_93 0 rfl rfl ?_
          refine gespX_0_30_X0 94 C dX0_sure_94 ?_
          exact wr_iret 97 C dX0_sure_97 ⟨Nat.zero_le _, Nat.zero_le _⟩ (Option.some.inj hf)
        · replace hf := o_pos c24 hf
          refine wr_aload_n 86 C dX0_sure_86 0 rfl rfl ?_
          refine gespX_0_29_X0 87 C dX0_sure_87 ?_
          refine wr_goto 90 C dX0_sure_90 (tgt := 97) (by decide) ?_
          exact wr_iret 97 C dX0_sure_97 ⟨Nat.zero_le _, Nat.zero_le _⟩ (Option.some.inj hf)
      · replace hf := o_pos c23 hf
        refine wr_iconst 78 C dX0_sure_78 (v := 0) rfl ?_
        refine wr_goto 79 C dX0_sure_79 (tgt := 97) (by decide) ?_
        exact wr_iret 97 C dX0_sure_97 ⟨Nat.zero_le _, Nat.zero_le _⟩ (Option.some.inj hf)
  · replace hf := o_neg c7 hf
    refine wr_iload_n 15 C dX0_sure_15 0 rfl rfl ?_
    exact wr_iret 16 C dX0_sure_16 ⟨Nat.zero_le _, Nat.zero_le _⟩ (Option.some.inj hf)
abbrev cX0_dared : ByteArray := prog_1_method_104_code
def yX0_dared : MethodName := ⟨RX0, "dared", "(I)I"⟩
def dkwX0_dared_2 : List UInt8 := [46, 184, 1, 168, 62, 132, 4, 1, 167, 255, 226, 29, 184, 1, 83, 172]
abbrev dktX0_dared_2 : List UInt8 := dkwX0_dared_2 ++ []
def dkwX0_dared_1 : List UInt8 := [54, 4, 21, 4, 17, 12, 64, 162, 0, 28, 29, 42, 180, 0, 73, 42, 180, 1, 140, 21, 4, 184, 1, 146]
abbrev dktX0_dared_1 : List UInt8 := dkwX0_dared_1 ++ dktX0_dared_2
def dkwX0_dared_0 : List UInt8 := [42, 27, 4, 182, 1, 171, 61, 28, 156, 0, 5, 28, 172, 42, 27, 182, 1, 175, 19, 1, 35, 62, 3]
abbrev dktX0_dared_0 : List UInt8 := dkwX0_dared_0 ++ dktX0_dared_1
theorem dksX0_dared_0 : cX0_dared.data.toList.drop 0 = dktX0_dared_0 := by decide +kernel
theorem dksX0_dared_1 : cX0_dared.data.toList.drop 23 = dktX0_dared_1 := dk_seg dksX0_dared_0 23 rfl rfl
theorem dksX0_dared_2 : cX0_dared.data.toList.drop 47 = dktX0_dared_2 := dk_seg dksX0_dared_1 24 rfl rfl
theorem dX0_dared_0 : decode cX0_dared 0 = .ok (.aload_n 0, 1) := dk_42 (dk_at dksX0_dared_0 0 rfl rfl)
theorem dX0_dared_1 : decode cX0_dared 1 = .ok (.iload_n 1, 1) := dk_27 (dk_at dksX0_dared_0 1 rfl rfl)
theorem dX0_dared_2 : decode cX0_dared 2 = .ok (.iconst 1, 1) := dk_4 (dk_at dksX0_dared_0 2 rfl rfl)
theorem dX0_dared_3 : decode cX0_dared 3 = .ok (.invokevirtual 427, 3) := dk_182 1 171 (dk_at dksX0_dared_0 3 rfl rfl)
theorem dX0_dared_6 : decode cX0_dared 6 = .ok (.istore_n 2, 1) := dk_61 (dk_at dksX0_dared_0 6 rfl rfl)
theorem dX0_dared_7 : decode cX0_dared 7 = .ok (.iload_n 2, 1) := dk_28 (dk_at dksX0_dared_0 7 rfl rfl)
theorem dX0_dared_8 : decode cX0_dared 8 = .ok (.ifCond .ge 5, 3) := dk_156 0 5 (dk_at dksX0_dared_0 8 rfl rfl)
theorem dX0_dared_11 : decode cX0_dared 11 = .ok (.iload_n 2, 1) := dk_28 (dk_at dksX0_dared_0 11 rfl rfl)
theorem dX0_dared_12 : decode cX0_dared 12 = .ok (.ireturn, 1) := dk_172 (dk_at dksX0_dared_0 12 rfl rfl)
theorem dX0_dared_13 : decode cX0_dared 13 = .ok (.aload_n 0, 1) := dk_42 (dk_at dksX0_dared_0 13 rfl rfl)
theorem dX0_dared_14 : decode cX0_dared 14 = .ok (.iload_n 1, 1) := dk_27 (dk_at dksX0_dared_0 14 rfl rfl)
theorem dX0_dared_15 : decode cX0_dared 15 = .ok (.invokevirtual 431, 3) := dk_182 1 175 (dk_at dksX0_dared_0 15 rfl rfl)
theorem dX0_dared_18 : decode cX0_dared 18 = .ok (.ldc_w 291, 3) := dk_19 1 35 (dk_at dksX0_dared_0 18 rfl rfl)
theorem dX0_dared_21 : decode cX0_dared 21 = .ok (.istore_n 3, 1) := dk_62 (dk_at dksX0_dared_0 21 rfl rfl)
theorem dX0_dared_22 : decode cX0_dared 22 = .ok (.iconst 0, 1) := dk_3 (dk_at dksX0_dared_0 22 rfl rfl)
theorem dX0_dared_23 : decode cX0_dared 23 = .ok (.istore 4, 2) := dk_54 4 (dk_at dksX0_dared_1 0 rfl rfl)
theorem dX0_dared_25 : decode cX0_dared 25 = .ok (.iload 4, 2) := dk_21 4 (dk_at dksX0_dared_1 2 rfl rfl)
theorem dX0_dared_27 : decode cX0_dared 27 = .ok (.sipush 3136, 3) := dk_17 12 64 (dk_at dksX0_dared_1 4 rfl rfl)
theorem dX0_dared_30 : decode cX0_dared 30 = .ok (.if_icmp .ge 28, 3) := dk_162 0 28 (dk_at dksX0_dared_1 7 rfl rfl)
theorem dX0_dared_33 : decode cX0_dared 33 = .ok (.iload_n 3, 1) := dk_29 (dk_at dksX0_dared_1 10 rfl rfl)
theorem dX0_dared_34 : decode cX0_dared 34 = .ok (.aload_n 0, 1) := dk_42 (dk_at dksX0_dared_1 11 rfl rfl)
theorem dX0_dared_35 : decode cX0_dared 35 = .ok (.getfield 73, 3) := dk_180 0 73 (dk_at dksX0_dared_1 12 rfl rfl)
theorem dX0_dared_38 : decode cX0_dared 38 = .ok (.aload_n 0, 1) := dk_42 (dk_at dksX0_dared_1 15 rfl rfl)
theorem dX0_dared_39 : decode cX0_dared 39 = .ok (.getfield 396, 3) := dk_180 1 140 (dk_at dksX0_dared_1 16 rfl rfl)
theorem dX0_dared_42 : decode cX0_dared 42 = .ok (.iload 4, 2) := dk_21 4 (dk_at dksX0_dared_1 19 rfl rfl)
theorem dX0_dared_44 : decode cX0_dared 44 = .ok (.invokestatic 402, 3) := dk_184 1 146 (dk_at dksX0_dared_1 21 rfl rfl)
theorem dX0_dared_47 : decode cX0_dared 47 = .ok (.iaload, 1) := dk_46 (dk_at dksX0_dared_2 0 rfl rfl)
theorem dX0_dared_48 : decode cX0_dared 48 = .ok (.invokestatic 424, 3) := dk_184 1 168 (dk_at dksX0_dared_2 1 rfl rfl)
theorem dX0_dared_51 : decode cX0_dared 51 = .ok (.istore_n 3, 1) := dk_62 (dk_at dksX0_dared_2 4 rfl rfl)
theorem dX0_dared_52 : decode cX0_dared 52 = .ok (.iinc 4 1, 3) := dk_132 4 1 (dk_at dksX0_dared_2 5 rfl rfl)
theorem dX0_dared_55 : decode cX0_dared 55 = .ok (.goto (-30), 3) := dk_167 255 226 (dk_at dksX0_dared_2 8 rfl rfl)
theorem dX0_dared_58 : decode cX0_dared 58 = .ok (.iload_n 3, 1) := dk_29 (dk_at dksX0_dared_2 11 rfl rfl)
theorem dX0_dared_59 : decode cX0_dared 59 = .ok (.invokestatic 339, 3) := dk_184 1 83 (dk_at dksX0_dared_2 12 rfl rfl)
theorem dX0_dared_62 : decode cX0_dared 62 = .ok (.ireturn, 1) := dk_172 (dk_at dksX0_dared_2 15 rfl rfl)

theorem okX0_dared : wOkV yX0_dared cX0_dared 5 (some .int) 1 := ⟨q1143, q1144, q136, q1145, by decide, by decide, by decide +kernel⟩
def gbX0_dared_25 (N : Nat)   (K : (Int32 → wMem → Option (Int32 × wMem))) (rec : (Int32 → Int32 → wMem → Option (Int32 × wMem))) (x3_ : Int32) (x4_ : Int32) (μ : wMem) : Option (Int32 × wMem) :=
  if (3136 : Int32) ≤ x4_ then K x3_ μ else wBind (fX0_spot N  (μ.1 0 28) x4_ μ) fun v10 μ9 => wG (ok_in v10 40768) (wLet (if (μ9.1 16 (Int32.toNatClampNeg v10)) < x3_ then (μ9.1 16 (Int32.toNatClampNeg v10)) else x3_ : Int32) fun x12 => wLet (x4_ + 1 : Int32) fun x13 => rec x12 x13 μ9)
def gX0_dared_25 (N : Nat)   (K : (Int32 → wMem → Option (Int32 × wMem))) : Nat → (Int32 → Int32 → wMem → Option (Int32 × wMem))
  | 0 => fun _ _ _ => none
  | k + 1 => gbX0_dared_25 N   K (gX0_dared_25 N   K k)
set_option maxHeartbeats 4000000 in
set_option maxRecDepth 100000 in
theorem tX0_dared_25 {p : Program} {l : Launch} {e : Env} {s : State} {m : MethodId} {args : Array Value} {below : List Frame} {meth : Method} {c : Code} {D : va_G} {E : List wCell} {q : Nat → Nat} {ca : wCA} {A : Nat → Prop} (C : wC p ({ frames := 6, cells := 0, slots := 0, locals := 137 } : Room) s m args meth c cX0_dared yX0_dared.cls 5 (some .int) D vwCl (spX ++ E) q ca A) (N : Nat)    (K : (Int32 → wMem → Option (Int32 × wMem))) (r0 : (Int32 × wMem)) (hK : ∀ (y3_ : Int32) (μ : wMem), K y3_ μ = some r0 → wJ p l e ({ frames := 6, cells := 0, slots := 0, locals := 137 } : Room) s m args below meth c 5 D vwCl (spX ++ E) q ca A (wQi ({ frames := 6, cells := 0, slots := 0, locals := 137 } : Room) D vwCl (spX ++ E) q ca below args s A r0) 0 0 μ 58 [(3, .int y3_)] []) : ∀ (k : Nat) (x3_ : Int32) (x4_ : Int32) (μ : wMem), gX0_dared_25 N   K k x3_ x4_ μ = some r0 → wJ p l e ({ frames := 6, cells := 0, slots := 0, locals := 137 } : Room) s m args below meth c 5 D vwCl (spX ++ E) q ca A (wQi ({ frames := 6, cells := 0, slots := 0, locals := 137 } : Room) D vwCl (spX ++ E) q ca below args s A r0) 0 0 μ 25 [(0, .ref (q 0)), (3, .int x3_), (4, .int x4_)] [] := by
  intro k
  induction k with
  | zero =>
    intro x3_ x4_ μ hf
    cases hf
  | succ k ih =>
    intro x3_ x4_ μ hf
    replace hf : gbX0_dared_25 N   K (gX0_dared_25 N   K k) x3_ x4_ μ = some r0 := hf
    unfold gbX0_dared_25 at hf
    refine wr_iload 25 C dX0_dared_25 2 rfl ?_
    refine wr_sipush 27 C dX0_dared_27 (v := 3136) rfl ?_
    refine wr_icmp_ge 30 58 C dX0_dared_30 (by decide) (fun c7 => ?_) (fun c7 => ?_)
    · replace hf := o_pos c7 hf
      refine wr_sub [(3, .int x3_)] [1] rfl ?_
      exact hK x3_ μ hf
    · replace hf := o_neg c7 hf
      refine wr_iload_n 33 C dX0_dared_33 1 rfl rfl ?_
      refine wr_aload_n 34 C dX0_dared_34 0 rfl rfl ?_
      refine gespX_0_25_X0 35 C dX0_dared_35 ?_
      refine wr_aload_n 38 C dX0_dared_38 0 rfl rfl ?_
      refine gespX_0_28_X0 39 C dX0_dared_39 ?_
      refine wr_iload 42 C dX0_dared_42 2 rfl ?_
      obtain ⟨v10, μ9, h8, hf⟩ := o_bind hf
      refine wr_Si (kc1 := 0) (ks1 := 0) 44 [.ref (q 16), .int x3_] C dX0_dared_44 (tX0_spot l N   (μ.1 0 28) x4_ μ (v10, μ9) h8) okX0_spot q1114 ⟨rfl, rfl, Nat.le_of_ble_eq_true rfl, Nat.le_of_ble_eq_true rfl, Nat.zero_le _, Nat.zero_le _⟩ (Nat.le_of_ble_eq_true rfl) rfl ?_
      obtain ⟨g11, hf⟩ := o_g hf
      refine wr_iald 47 C dX0_dared_47 spX_16 g11 ?_
      refine wr_mmin 48 C dX0_dared_48 q1129 q477 q149 q478 ⟨Nat.le_of_ble_eq_true rfl, Nat.le_of_ble_eq_true rfl, Nat.zero_le _, Nat.zero_le _⟩ (Nat.le_of_ble_eq_true rfl) ?_
      obtain ⟨x12, ex12, hf⟩ := o_let hf
      refine wr_istore_n 51 [(3, .int x12), (0, .ref (q 0)), (4, .int x4_)] C dX0_dared_51 ex12 rfl (Nat.le_of_ble_eq_true rfl) rfl ?_
      obtain ⟨x13, ex13, hf⟩ := o_let hf
      refine wr_iinc 52 [(4, .int x13), (3, .int x12), (0, .ref (q 0))] C dX0_dared_52 2 rfl (ex13.trans rfl) (Nat.le_of_ble_eq_true rfl) rfl ?_
      refine wr_goto 55 C dX0_dared_55 (tgt := 25) (by decide) ?_
      refine wr_sub [(0, .ref (q 0)), (3, .int x12), (4, .int x13)] [2, 1, 0] rfl ?_
      exact ih x12 x13 μ9 hf
def fX0_dared (N : Nat) (c0 t n : Nat)  (a1 : Int32) (μ : wMem) : Option (Int32 × wMem) :=
  wBind (fX0_asksStamps N c0 t n a1 1 μ) fun v3 μ2 => if 0 ≤ v3 then wBindV (fX0_goesThrough N c0 t n a1 μ2) fun μ6 => gX0_dared_25 N   (fun (x15 : Int32) (μ14 : wMem) => wBind (fX0_orNone N  x15 μ14) fun v18 μ17 => some (v18, μ17)) N 1000000000 0 μ6 else some (v3, μ2)
set_option maxHeartbeats 4000000 in
set_option maxRecDepth 100000 in
theorem tX0_dared (l : Launch) {D : va_G} {E : List wCell} {q : Nat → Nat} {ca : wCA} (hE : wSlots ca (spX ++ E)) (N : Nat) (c0 t n : Nat)   (a1 : Int32) (μ : wMem) (r0 : (Int32 × wMem)) (hi1 : ok_in a1 4 = true) (hb : (spX ++ E)[24 + a1.toNatClampNeg]? = some (.inl (5, [(2, c0)]))) (hr : wRow (spX ++ E) c0 t n) (hf : fX0_dared N c0 t n  a1 μ = some r0) : wMi l yX0_dared cX0_dared 5 (some .int) ({ frames := 6, cells := 0, slots := 0, locals := 137 } : Room) D vwCl (spX ++ E) q ca [.ref (q 0), .int a1] μ r0 := by
  refine wMi_intro (by decide) (Nat.le_of_ble_eq_true rfl) ?_
  intro p e s m args below meth c A C
  unfold fX0_dared at hf
  refine wr_sub [(0, .ref (q 0)), (1, .int a1)] [0, 1] rfl ?_
  refine wr_aload_n 0 C dX0_dared_0 0 rfl rfl ?_
  refine wr_iload_n 1 C dX0_dared_1 1 rfl rfl ?_
  refine wr_iconst 2 C dX0_dared_2 (v := 1) rfl ?_
  obtain ⟨v3, μ2, h1, hf⟩ := o_bind hf
  refine wr_VWi (kc1 := 0) (ks1 := 0) 3 [] C dX0_dared_3 (tX0_asksStamps l hE N c0 t n a1 1 μ (v3, μ2) hi1 hb hr h1) okX0_asksStamps q1102 (b := 0) spX_0 rfl ⟨rfl, rfl, Nat.le_of_ble_eq_true rfl, Nat.le_of_ble_eq_true rfl, Nat.zero_le _, Nat.zero_le _⟩ (Nat.le_of_ble_eq_true rfl) rfl ?_
  refine wr_istore_n 6 [(2, .int v3), (0, .ref (q 0)), (1, .int a1)] C dX0_dared_6 rfl rfl (Nat.le_of_ble_eq_true rfl) rfl ?_
  refine wr_iload_n 7 C dX0_dared_7 0 rfl rfl ?_
  refine wr_if_ge 8 13 C dX0_dared_8 (by decide) (fun c4 => ?_) (fun c4 => ?_)
  · replace hf := o_pos c4 hf
    refine wr_aload_n 13 C dX0_dared_13 1 rfl rfl ?_
    refine wr_iload_n 14 C dX0_dared_14 2 rfl rfl ?_
    obtain ⟨μ6, h5, hf⟩ := o_bindV hf
    refine wr_Vv (kc1 := 0) (ks1 := 0) 15 [] C dX0_dared_15 (tX0_goesThrough l hE N c0 t n a1 μ2 μ6 hi1 hb hr h5) okX0_goesThrough q1106 (b := 0) spX_0 rfl ⟨rfl, rfl, Nat.le_of_ble_eq_true rfl, Nat.le_of_ble_eq_true rfl, Nat.zero_le _, Nat.zero_le _⟩ (Nat.le_of_ble_eq_true rfl) rfl ?_
    refine wr_ldcw 18 C dX0_dared_18 q864 ?_
    refine wr_istore_n 21 [(3, .int 1000000000), (2, .int v3), (0, .ref (q 0)), (1, .int a1)] C dX0_dared_21 rfl rfl (Nat.le_of_ble_eq_true rfl) rfl ?_
    refine wr_iconst 22 C dX0_dared_22 (v := 0) rfl ?_
    refine wr_istore 23 [(4, .int 0), (3, .int 1000000000), (2, .int v3), (0, .ref (q 0)), (1, .int a1)] C dX0_dared_23 rfl (Nat.le_of_ble_eq_true rfl) rfl ?_
    refine wr_sub [(0, .ref (q 0)), (3, .int 1000000000), (4, .int 0)] [3, 1, 0] rfl ?_
    refine tX0_dared_25 C N    _ r0 (fun x15 μ14 hf => ?_) N 1000000000 0 μ6 hf
    · replace hf := hf
      refine wr_iload_n 58 C dX0_dared_58 0 rfl rfl ?_
      obtain ⟨v18, μ17, h16, hf⟩ := o_bind hf
      refine wr_Si (kc1 := 0) (ks1 := 0) 59 [] C dX0_dared_59 (tX0_orNone l N   x15 μ14 (v18, μ17) h16) okX0_orNone q916 ⟨rfl, rfl, Nat.le_of_ble_eq_true rfl, Nat.le_of_ble_eq_true rfl, Nat.zero_le _, Nat.zero_le _⟩ (Nat.le_of_ble_eq_true rfl) rfl ?_
      exact wr_iret 62 C dX0_dared_62 ⟨Nat.zero_le _, Nat.zero_le _⟩ (Option.some.inj hf)
  · replace hf := o_neg c4 hf
    refine wr_iload_n 11 C dX0_dared_11 0 rfl rfl ?_
    exact wr_iret 12 C dX0_dared_12 ⟨Nat.zero_le _, Nat.zero_le _⟩ (Option.some.inj hf)
