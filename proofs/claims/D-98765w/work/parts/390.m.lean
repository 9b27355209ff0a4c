set_option maxRecDepth 100000

def fbX0_write (N : Nat)  (a1 : Int32) (a2 : Int32) (a3 : Int64) (μ : wMem) : Option (Int32 × wMem) :=
  wBind (fX0_isSlot N  a1 μ) fun v3 μ2 => if v3 = 0 then some ((-2), μ2) else none
set_option maxHeartbeats 4000000 in
set_option maxRecDepth 100000 in
theorem tbX0_write (l : Launch) {D : va_G} {E : List wCell} {q : Nat → Nat} {ca : wCA} (N : Nat)   (a1 : Int32) (a2 : Int32) (a3 : Int64) (μ : wMem) (r0 : (Int32 × wMem)) (hf : fbX0_write N  a1 a2 a3 μ = some r0) : wMiW l yX0_write cX0_write 6 (some .int) hhX0_write ({ frames := 2, cells := 0, slots := 0, locals := 45 } : Room) D vwCl (spX ++ E) q ca [.ref (q 0), .int a1, .int a2, .long a3] μ r0 := by
  refine wMiW_intro (by decide) (Nat.le_of_ble_eq_true rfl) ?_
  intro p e s m args below meth c A C hX
  unfold fbX0_write at hf
  refine wr_sub [(0, .ref (q 0)), (1, .int a1), (2, .int a2), (3, .long a3)] [0, 1, 2, 3] rfl ?_
  refine wr_iload_n 0 C dX0_write_0 1 rfl rfl ?_
  obtain ⟨v3, μ2, h1, hf⟩ := o_bind hf
  refine wr_Si (kc1 := 0) (ks1 := 0) 1 [] C dX0_write_1 (tX0_isSlot l N   a1 μ (v3, μ2) h1) okX0_isSlot q1058 ⟨rfl, rfl, Nat.le_of_ble_eq_true rfl, Nat.le_of_ble_eq_true rfl, Nat.zero_le _, Nat.zero_le _⟩ (Nat.le_of_ble_eq_true rfl) rfl ?_
  refine wr_if_ne 4 10 C dX0_write_4 (by decide) (fun c4 => ?_) (fun c4 => ?_)
  · replace hf := o_neg c4 hf
    refine wr_aload_n 10 C dX0_write_10 0 rfl rfl ?_
    cases hf
  · replace hf := o_pos c4 hf
    refine wr_bipush 7 C dX0_write_7 (v := (-2)) rfl ?_
    exact wr_iret 9 C dX0_write_9 ⟨Nat.zero_le _, Nat.zero_le _⟩ (Option.some.inj hf)
