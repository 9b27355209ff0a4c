set_option maxRecDepth 100000

def foX0_write (N : Nat) (c0 t n : Nat)  (a1 : Int32) (a2 : Int32) (a3 : Int64) (μ : wMem) : Option (Int32 × wMem) :=
  wBind (fX0_isSlot N  a1 μ) fun v3 μ2 => if v3 = 0 then some ((-2), μ2) else wG (ok_no a2 n) (some ((-7), μ2))
set_option maxHeartbeats 4000000 in
set_option maxRecDepth 100000 in
theorem toX0_write (l : Launch) {D : va_G} {E : List wCell} {q : Nat → Nat} {ca : wCA} (hl : l.stackTraces = false) (hE : wSlots ca (spX ++ E)) (N : Nat) (c0 t n : Nat)   (a1 : Int32) (a2 : Int32) (a3 : Int64) (μ : wMem) (r0 : (Int32 × wMem)) (hi1 : ok_in a1 4 = true) (hb : (spX ++ E)[24 + a1.toNatClampNeg]? = some (.inl (5, [(2, c0)]))) (hr : wRow (spX ++ E) c0 t n) (hn : n < 2 ^ 31) (hf : foX0_write N c0 t n  a1 a2 a3 μ = some r0) : wMiWZ l yX0_write cX0_write 6 (some .int) hhX0_write ({ frames := 9, cells := 3, slots := 222, locals := 10263 } : Room) D vwCl (spX ++ E) q ca [.ref (q 0), .int a1, .int a2, .long a3] μ r0 := by
  refine wMiWZ_intro (by decide) (Nat.le_of_ble_eq_true rfl) ?_
  intro p e s m args below meth c A C hZ hX
  unfold foX0_write at hf
  refine wr_sub [(0, .ref (q 0)), (1, .int a1), (2, .int a2), (3, .long a3)] [0, 1, 2, 3] rfl ?_
  refine wr_iload_n 0 C dX0_write_0 1 rfl rfl ?_
  obtain ⟨v3, μ2, h1, hf⟩ := o_bind hf
  refine wr_Si (kc1 := 0) (ks1 := 0) 1 [] C dX0_write_1 (tX0_isSlot l N   a1 μ (v3, μ2) h1) okX0_isSlot q1058 ⟨rfl, rfl, Nat.le_of_ble_eq_true rfl, Nat.le_of_ble_eq_true rfl, Nat.zero_le _, Nat.zero_le _⟩ (Nat.le_of_ble_eq_true rfl) rfl ?_
  refine wr_if_ne 4 10 C dX0_write_4 (by decide) (fun c4 => ?_) (fun c4 => ?_)
  · replace hf := o_neg c4 hf
    refine wr_aload_n 10 C dX0_write_10 0 rfl rfl ?_
    refine geX_slots 11 C dX0_write_11 ?_
    refine wr_iload_n 14 C dX0_write_14 1 rfl rfl ?_
    refine wr_aaldD 15 C dX0_write_15 5 hE.1 wRc_slots hE.2 hi1 (wRd_slots (ok_in4 hi1)) ?_
    refine wr_iload_n 16 C dX0_write_16 2 rfl rfl ?_
    refine wr_lload_n 17 C dX0_write_17 3 rfl rfl ?_
    obtain ⟨g5, hf⟩ := o_g hf
    refine wr_VX (kc1 := 3) (ks1 := 222) (As := [.int a2, .long a3]) 18 [] C dX0_write_18 (tX5_put_out l hl hb hr hn (ok_no_not g5) μ2) okX5_put q1367 (b := (24 + a1.toNatClampNeg)) hb rfl hZ ⟨rfl, rfl, Nat.le_of_ble_eq_true rfl, Nat.le_of_ble_eq_true rfl, Nat.le_of_ble_eq_true rfl, Nat.le_of_ble_eq_true rfl⟩ (Nat.le_of_ble_eq_true rfl) rfl ?_
    intro H1 locs1 ls1 q9 ce g1 g2 g3 g4 g5 g6
    refine wr_catchX 18 C [⟨10, 22, 23, 385⟩] ⟨10, 22, 28, 495⟩ [] (hX.trans rfl) (fun z hz => by obtain rfl := List.mem_singleton.mp hz; exact Or.inr ⟨by decide, _, q1031, by decide⟩) (by decide) (by decide) q1348 q1363 (fun q9 => ?_) g1 g2 g3 g4 g5 g6
    refine wr_astore 28 [(5, .ref q9), (0, .ref (q 0)), (1, .int a1), (2, .int a2), (3, .long a3)] C dX0_write_28 (x := q9) rfl (Nat.le_of_ble_eq_true rfl) rfl ?_
    refine wr_bipush 30 C dX0_write_30 (v := (-7)) rfl ?_
    exact wr_iret 32 C dX0_write_32 ⟨Nat.le_of_ble_eq_true rfl, Nat.le_of_ble_eq_true rfl⟩ (Option.some.inj hf)
  · replace hf := o_pos c4 hf
    refine wr_bipush 7 C dX0_write_7 (v := (-2)) rfl ?_
    exact wr_iret 9 C dX0_write_9 ⟨Nat.le_of_ble_eq_true rfl, Nat.le_of_ble_eq_true rfl⟩ (Option.some.inj hf)
