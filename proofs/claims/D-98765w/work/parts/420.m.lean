set_option maxRecDepth 100000

def fgX0_row (N : Nat) (n0 : Nat)  (a1 : Int32) (a2 : Int32) (a3 : Int32) (μ : wMem) : Option (Int32 × wMem) :=
  wBind (fX0_isSlot N  a1 μ) fun v3 μ2 => wLet (fun  (μ4 : wMem) => none) fun Jrow25 => if v3 = 0 then Jrow25  μ2 else wBind (fX0_isIn N  (Int32.toInt64 a2) 0 3 μ2) fun v8 μ7 => if v8 = 0 then Jrow25  μ7 else if a3 ≤ (60 : Int32) then wG (ok_w a2) (wG (ok_len a3) (some (0, wZ μ7 n0))) else Jrow25  μ7
set_option maxHeartbeats 4000000 in
set_option maxRecDepth 100000 in
theorem tgX0_row (l : Launch) {D : va_G} {E : List wCell} {q : Nat → Nat} {ca : wCA} (hE : wSlots ca (spX ++ E)) (N : Nat) (n0 : Nat)  (a1 : Int32) (a2 : Int32) (a3 : Int32) (μ : wMem) (r0 : (Int32 × wMem)) {f0 : Nat × Nat} (hi1 : ok_in a1 4 = true) (hb : (spX ++ E)[24 + a1.toNatClampNeg]? = some (.inl (5, [f0]))) (h0 : (spX ++ E).length = n0) (hno : wNoRef (spX ++ E) (spX ++ E).length = true) (hf : fgX0_row N n0  a1 a2 a3 μ = some r0) : wMgW l yX0_row cX0_row 5 (some .int) hhX0_row ({ frames := 2, cells := 1, slots := 60, locals := 45 } : Room) D vwCl (spX ++ E) (wMake (spX ++ E) (24 + a1.toNatClampNeg) (wKind a2) a3.toNatClampNeg) q ca [.ref (q 0), .int a1, .int a2, .int a3] μ r0 := by
  subst h0
  refine wMgW_intro (by decide) (Nat.le_of_ble_eq_true rfl) ?_
  intro p e s m args below meth c A C
  unfold fgX0_row at hf
  refine wr_sub [(0, .ref (q 0)), (1, .int a1), (2, .int a2), (3, .int a3)] [0, 1, 2, 3] rfl ?_
  refine wr_iload_n 0 C dX0_row_0 1 rfl rfl ?_
  obtain ⟨v3, μ2, h1, hf⟩ := o_bind hf
  refine wr_Si (kc1 := 0) (ks1 := 0) 1 [] C dX0_row_1 (tX0_isSlot l N   a1 μ (v3, μ2) h1) okX0_isSlot q1058 ⟨rfl, rfl, Nat.le_of_ble_eq_true rfl, Nat.le_of_ble_eq_true rfl, Nat.zero_le _, Nat.zero_le _⟩ (Nat.le_of_ble_eq_true rfl) rfl ?_
  obtain ⟨Jrow25, eJrow25, hf⟩ := o_let hf
  have hJrow25 : ∀  (μ4 : wMem), Jrow25  μ4 = some r0 → wJ p l e ({ frames := 2, cells := 1, slots := 60, locals := 45 } : Room) s m args below meth c 5 D vwCl (spX ++ E) q ca A (MQ below (va_Qi (fun (v : Int32) (u : Nat → Nat) => v = r0.1 ∧ ∀ j, j < (spX ++ E).length → u j = q j) (fun (u : Nat → Nat) t => va_P D vwCl (wWs (wMake (spX ++ E) (24 + a1.toNatClampNeg) (wKind a2) a3.toNatClampNeg) u ca r0.2) t.heap ∧ wInj (wMake (spX ++ E) (24 + a1.toNatClampNeg) (wKind a2) a3.toNatClampNeg) u ∧ ∀ i, i < (wMake (spX ++ E) (24 + a1.toNatClampNeg) (wKind a2) a3.toNatClampNeg).length → A (u i)) A) args s ({ frames := 2, cells := 1, slots := 60, locals := 45 } : Room).cells ({ frames := 2, cells := 1, slots := 60, locals := 45 } : Room).slots A) 0 0 μ4 25 [] [] := by
    intro  μ4 hf
    rw [eJrow25] at hf
    refine wr_bipush 25 C dX0_row_25 (v := (-2)) rfl ?_
    cases hf
  refine wr_if_eq 4 25 C dX0_row_4 (by decide) (fun c5 => ?_) (fun c5 => ?_)
  · replace hf := o_pos c5 hf
    refine wr_sub [] [] rfl ?_
    exact hJrow25  μ2 hf
  · replace hf := o_neg c5 hf
    refine wr_iload_n 7 C dX0_row_7 2 rfl rfl ?_
    refine wr_i2l 8 C dX0_row_8 ?_
    refine wr_lconst 9 C dX0_row_9 (v := 0) rfl ?_
    refine wr_ldc2 10 C dX0_row_10 q1061 ?_
    obtain ⟨v8, μ7, h6, hf⟩ := o_bind hf
    refine wr_Si (kc1 := 0) (ks1 := 0) 13 [] C dX0_row_13 (tX0_isIn l N   (Int32.toInt64 a2) 0 3 μ2 (v8, μ7) h6) okX0_isIn q446 ⟨rfl, rfl, Nat.le_of_ble_eq_true rfl, Nat.le_of_ble_eq_true rfl, Nat.zero_le _, Nat.zero_le _⟩ (Nat.le_of_ble_eq_true rfl) rfl ?_
    refine wr_if_eq 16 25 C dX0_row_16 (by decide) (fun c9 => ?_) (fun c9 => ?_)
    · replace hf := o_pos c9 hf
      refine wr_sub [] [] rfl ?_
      exact hJrow25  μ7 hf
    · replace hf := o_neg c9 hf
      refine wr_iload_n 19 C dX0_row_19 3 rfl rfl ?_
      refine wr_bipush 20 C dX0_row_20 (v := 60) rfl ?_
      refine wr_icmp_le 22 28 C dX0_row_22 (by decide) (fun c10 => ?_) (fun c10 => ?_)
      · replace hf := o_pos c10 hf
        refine wr_aload_n 28 C dX0_row_28 0 rfl rfl ?_
        refine geX_slots 29 C dX0_row_29 ?_
        refine wr_iload_n 32 C dX0_row_32 1 rfl rfl ?_
        refine wr_aaldD 33 C dX0_row_33 5 hE.1 wRc_slots hE.2 hi1 (wRd_slots (ok_in4 hi1)) ?_
        refine wr_iload_n 34 C dX0_row_34 2 rfl rfl ?_
        refine wr_iload_n 35 C dX0_row_35 3 rfl rfl ?_
        obtain ⟨g11, hf⟩ := o_g hf
        obtain ⟨g12, hf⟩ := o_g hf
        refine wr_Vg (kc1 := 1) (ks1 := 60) (As := [.int a2, .int a3]) 36 [] C dX0_row_36 (tX5_make l hb hno g11 g12 μ7) okX5_make q1339 (b := (24 + a1.toNatClampNeg)) hb rfl ⟨rfl, rfl, Nat.le_of_ble_eq_true rfl, Nat.le_of_ble_eq_true rfl, Nat.le_of_ble_eq_true rfl, Nat.le_of_ble_eq_true rfl⟩ (Nat.le_of_ble_eq_true rfl) rfl ?_
        intro q1 hq C1
        refine wr_iconst 39 C1 dX0_row_39 (v := 0) rfl ?_
        exact wr_iretG 40 C1 dX0_row_40 ⟨Nat.le_of_ble_eq_true rfl, Nat.le_of_ble_eq_true rfl⟩ (Option.some.inj hf) hq
      · replace hf := o_neg c10 hf
        refine wr_sub [] [] rfl ?_
        exact hJrow25  μ7 hf
