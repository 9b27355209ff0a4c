set_option maxRecDepth 100000
abbrev cX0_number : ByteArray := prog_1_method_85_code
def yX0_number : MethodName := ⟨RX0, "number", "(II)I"⟩
def dkwX0_number_0 : List UInt8 := [42, 180, 0, 85, 27, 50, 28, 182, 1, 120, 136, 172]
abbrev dktX0_number_0 : List UInt8 := dkwX0_number_0 ++ []
theorem dksX0_number_0 : cX0_number.data.toList.drop 0 = dktX0_number_0 := by decide +kernel
theorem dX0_number_0 : decode cX0_number 0 = .ok (.aload_n 0, 1) := dk_42 (dk_at dksX0_number_0 0 rfl rfl)
theorem dX0_number_1 : decode cX0_number 1 = .ok (.getfield 85, 3) := dk_180 0 85 (dk_at dksX0_number_0 1 rfl rfl)
theorem dX0_number_4 : decode cX0_number 4 = .ok (.iload_n 1, 1) := dk_27 (dk_at dksX0_number_0 4 rfl rfl)
theorem dX0_number_5 : decode cX0_number 5 = .ok (.aaload, 1) := dk_50 (dk_at dksX0_number_0 5 rfl rfl)
theorem dX0_number_6 : decode cX0_number 6 = .ok (.iload_n 2, 1) := dk_28 (dk_at dksX0_number_0 6 rfl rfl)
theorem dX0_number_7 : decode cX0_number 7 = .ok (.invokevirtual 376, 3) := dk_182 1 120 (dk_at dksX0_number_0 7 rfl rfl)
theorem dX0_number_10 : decode cX0_number 10 = .ok (.l2i, 1) := dk_136 (dk_at dksX0_number_0 10 rfl rfl)
theorem dX0_number_11 : decode cX0_number 11 = .ok (.ireturn, 1) := dk_172 (dk_at dksX0_number_0 11 rfl rfl)
theorem okX5_at : wOkV yX5_at cX5_at 2 (some .long) 1 := ⟨q1071, q1072, q141, q1073, by decide, by decide, by decide +kernel⟩
theorem okX5_size : wOkV yX5_size cX5_size 1 (some .int) 0 := ⟨q1063, q1064, q141, q1065, by decide, by decide, by decide +kernel⟩
theorem okX5_put : wOkV yX5_put cX5_put 4 none 2 := ⟨q1368, q1369, q141, q1370, by decide, by decide, by decide +kernel⟩
/-- the slots of a world: the array at cell 22, its class known; slot i is cell 24 + i -/
def wSlots (ca : wCA) (sp : List wCell) : Prop := sp[22]? = some (.inr (7881415313719326, 4)) ∧ (wTy ca)[5]? = some (ca.1 7881415313719326, .object "OnePassport$Slot")
theorem ok_in4 {i : Int32} (h : ok_in i 4 = true) : i.toNatClampNeg < 4 := by
  simp only [ok_in, Bool.and_eq_true, decide_eq_true_eq] at h
  exact h.2
theorem wRc_slots : 4 < 7881415313719326 := Nat.le_of_ble_eq_true rfl
theorem wRd_slots {i : Nat} (h : i < 4) : wRd 7881415313719326 i = 24 + i + 1 := by
  match i, h with
  | 0, _ => exact rfl
  | 1, _ => exact rfl
  | 2, _ => exact rfl
  | 3, _ => exact rfl
theorem geX_slots {p : Program} {l : Launch} {e : Env} {R : Room} {s : State} {m : MethodId} {args : Array Value} {below : List Frame} {meth : Method} {c : Code} {cc : ByteArray} {nL : Nat} {ret : Option FieldType} {D : va_G} {E : List wCell} {q : Nat → Nat} {ca : wCA} {A : Nat → Prop} {Q : State → Prop} {kc ks : Nat} {μ : wMem} {lv : List (Nat × Value)} {st : List Value} (pc : Nat) (C : wC p R s m args meth c cc "OnePassport" nL ret D vwCl (spX ++ E) q ca A) (hd : decode cc pc = .ok (.getfield 85, 3)) (k : wJ p l e R s m args below meth c nL D vwCl (spX ++ E) q ca A Q kc ks μ (pc + 3) lv (.ref (q 22) :: st)) : wJ p l e R s m args below meth c nL D vwCl (spX ++ E) q ca A Q kc ks μ pc lv (.ref (q 0) :: st) := wr_getR pc 32 C hd spX_0 rfl in_X0 (by decide) rfl q363 k
theorem okX0_number : wOkV yX0_number cX0_number 3 (some .int) 2 := ⟨q1080, qs55, q136, q1081, by decide, by decide, by decide +kernel⟩
set_option maxHeartbeats 4000000 in
theorem tX0_number (l : Launch) {D : va_G} {E : List wCell} {q : Nat → Nat} {ca : wCA} (hE : wSlots ca (spX ++ E)) {a1 a2 : Int32} {c0 t n : Nat} (h1 : ok_in a1 4 = true) (hb : (spX ++ E)[24 + a1.toNatClampNeg]? = some (.inl (5, [(2, c0)]))) (hr : wRow (spX ++ E) c0 t n) (h2 : ok_in a2 n = true) (μ : wMem) : wMi l yX0_number cX0_number 3 (some .int) ({ frames := 1, cells := 0, slots := 0, locals := 21 } : Room) D vwCl (spX ++ E) q ca [.ref (q 0), .int a1, .int a2] μ ((wAt μ c0 t a2.toNatClampNeg).toInt32, μ) := by
  refine wMi_intro (by decide) (Nat.le_of_ble_eq_true rfl) ?_
  intro p e s m args below meth c A C
  refine wr_sub [(0, .ref (q 0)), (1, .int a1), (2, .int a2)] [0, 1, 2] rfl ?_
  refine wr_aload_n 0 C dX0_number_0 0 rfl rfl ?_
  refine wr_getR 1 32 C dX0_number_1 spX_0 rfl in_X0 (by decide) rfl q363 ?_
  refine wr_iload_n 4 C dX0_number_4 1 rfl rfl ?_
  refine wr_aaldD 5 C dX0_number_5 5 hE.1 wRc_slots hE.2 h1 (wRd_slots (ok_in4 h1)) ?_
  refine wr_iload_n 6 C dX0_number_6 2 rfl rfl ?_
  refine wr_Vl (kc1 := 0) (ks1 := 0) (As := [.int a2]) 7 [] C dX0_number_7 (tX5_at l hb hr h2 μ) okX5_at q1070 (b := 24 + a1.toNatClampNeg) hb rfl ⟨rfl, rfl, Nat.le_of_ble_eq_true rfl, Nat.le_of_ble_eq_true rfl, Nat.zero_le _, Nat.zero_le _⟩ (Nat.le_of_ble_eq_true rfl) rfl ?_
  refine wr_l2i 10 C dX0_number_10 ?_
  exact wr_iret 11 C dX0_number_11 ⟨Nat.le_refl _, Nat.le_refl _⟩ rfl
