set_option maxRecDepth 100000

def fbX0_row (N : Nat)  (a1 : Int32) (a2 : Int32) (a3 : Int32) (μ : wMem) : Option (Int32 × wMem) :=
  wBind (fX0_isSlot N  a1 μ) fun v3 μ2 => wLet (fun  (μ4 : wMem) => some ((-2), μ4)) fun Jrow25 => if v3 = 0 then Jrow25  μ2 else wBind (fX0_isIn N  (Int32.toInt64 a2) 0 3 μ2) fun v8 μ7 => if v8 = 0 then Jrow25  μ7 else if a3 ≤ (60 : Int32) then none else Jrow25  μ7
set_option maxHeartbeats 4000000 in
set_option maxRecDepth 100000 in
theorem tbX0_row (l : Launch) {D : va_G} {E : List wCell} {q : Nat → Nat} {ca : wCA} (N : Nat)   (a1 : Int32) (a2 : Int32) (a3 : Int32) (μ : wMem) (r0 : (Int32 × wMem)) (hf : fbX0_row N  a1 a2 a3 μ = some r0) : wMiW l yX0_row cX0_row 5 (some .int) hhX0_row ({ frames := 2, cells := 0, slots := 0, locals := 45 } : Room) D vwCl (spX ++ E) q ca [.ref (q 0), .int a1, .int a2, .int a3] μ r0 := by
  refine wMiW_intro (by decide) (Nat.le_of_ble_eq_true rfl) ?_
  intro p e s m args below meth c A C hX
  unfold fbX0_row at hf
  refine wr_sub [(0, .ref (q 0)), (1, .int a1), (2, .int a2), (3, .int a3)] [0, 1, 2, 3] rfl ?_
  refine wr_iload_n 0 C dX0_row_0 1 rfl rfl ?_
  obtain ⟨v3, μ2, h1, hf⟩ := o_bind hf
  refine wr_Si (kc1 := 0) (ks1 := 0) 1 [] C dX0_row_1 (tX0_isSlot l N   a1 μ (v3, μ2) h1) okX0_isSlot q1058 ⟨rfl, rfl, Nat.le_of_ble_eq_true rfl, Nat.le_of_ble_eq_true rfl, Nat.zero_le _, Nat.zero_le _⟩ (Nat.le_of_ble_eq_true rfl) rfl ?_
  obtain ⟨Jrow25, eJrow25, hf⟩ := o_let hf
  have hJrow25 : ∀  (μ4 : wMem), Jrow25  μ4 = some r0 → wJ p l e ({ frames := 2, cells := 0, slots := 0, locals := 45 } : Room) s m args below meth c 5 D vwCl (spX ++ E) q ca A (wQi ({ frames := 2, cells := 0, slots := 0, locals := 45 } : Room) D vwCl (spX ++ E) q ca below args s A r0) 0 0 μ4 25 [] [] := by
    intro  μ4 hf
    rw [eJrow25] at hf
    refine wr_bipush 25 C dX0_row_25 (v := (-2)) rfl ?_
    exact wr_iret 27 C dX0_row_27 ⟨Nat.zero_le _, Nat.zero_le _⟩ (Option.some.inj hf)
  refine wr_if_eq 4 25 C dX0_row_4 (by decide) (fun c5 => ?_) (fun c5 => ?_)
  · replace hf := o_pos c5 hf
    refine wr_sub [] [] rfl ?_
    exact hJrow25  μ2 hf
  · replace hf := o_neg c5 hf
    refine wr_iload_n 7 C dX0_row_7 2 rfl rfl ?_
    refine wr_i2l 8 C dX0_row_8 ?_
    refine wr_lconst 9 C dX0_row_9 (v := 0) rfl ?_
    refine wr_ldc2 10 C dX0_row_10 q1061 ?_
    obtain ⟨v8, μ7, h6, hf⟩ := o_bind hf
    refine wr_Si (kc1 := 0) (ks1 := 0) 13 [] C dX0_row_13 (tX0_isIn l N   (Int32.toInt64 a2) 0 3 μ2 (v8, μ7) h6) okX0_isIn q446 ⟨rfl, rfl, Nat.le_of_ble_eq_true rfl, Nat.le_of_ble_eq_true rfl, Nat.zero_le _, Nat.zero_le _⟩ (Nat.le_of_ble_eq_true rfl) rfl ?_
    refine wr_if_eq 16 25 C dX0_row_16 (by decide) (fun c9 => ?_) (fun c9 => ?_)
    · replace hf := o_pos c9 hf
      refine wr_sub [] [] rfl ?_
      exact hJrow25  μ7 hf
    · replace hf := o_neg c9 hf
      refine wr_iload_n 19 C dX0_row_19 3 rfl rfl ?_
      refine wr_bipush 20 C dX0_row_20 (v := 60) rfl ?_
      refine wr_icmp_le 22 28 C dX0_row_22 (by decide) (fun c10 => ?_) (fun c10 => ?_)
      · replace hf := o_pos c10 hf
        refine wr_aload_n 28 C dX0_row_28 0 rfl rfl ?_
        cases hf
      · replace hf := o_neg c10 hf
        refine wr_sub [] [] rfl ?_
        exact hJrow25  μ7 hf
