set_option maxRecDepth 100000

def fbX0_asksRow (N : Nat)  (a1 : Int32) (μ : wMem) : Option (Int32 × wMem) :=
  wBind (fX0_isSlot N  a1 μ) fun v3 μ2 => wLet (fun  (μ4 : wMem) => some ((-2), μ4)) fun JasksRow14 => if v3 = 0 then JasksRow14  μ2 else wBind (fX0_isFamily N   μ2) fun v8 μ7 => if v8 = 0 then JasksRow14  μ7 else none
set_option maxHeartbeats 4000000 in
set_option maxRecDepth 100000 in
theorem tbX0_asksRow (l : Launch) {D : va_G} {E : List wCell} {q : Nat → Nat} {ca : wCA} (N : Nat)   (a1 : Int32) (μ : wMem) (r0 : (Int32 × wMem)) (hf : fbX0_asksRow N  a1 μ = some r0) : wMiW l yX0_asksRow cX0_asksRow 4 (some .int) hhX0_asksRow ({ frames := 4, cells := 0, slots := 0, locals := 89 } : Room) D vwCl (spX ++ E) q ca [.ref (q 0), .int a1] μ r0 := by
  refine wMiW_intro (by decide) (Nat.le_of_ble_eq_true rfl) ?_
  intro p e s m args below meth c A C hX
  unfold fbX0_asksRow at hf
  refine wr_sub [(0, .ref (q 0)), (1, .int a1)] [0, 1] rfl ?_
  refine wr_iload_n 0 C dX0_asksRow_0 1 rfl rfl ?_
  obtain ⟨v3, μ2, h1, hf⟩ := o_bind hf
  refine wr_Si (kc1 := 0) (ks1 := 0) 1 [] C dX0_asksRow_1 (tX0_isSlot l N   a1 μ (v3, μ2) h1) okX0_isSlot q1058 ⟨rfl, rfl, Nat.le_of_ble_eq_true rfl, Nat.le_of_ble_eq_true rfl, Nat.zero_le _, Nat.zero_le _⟩ (Nat.le_of_ble_eq_true rfl) rfl ?_
  obtain ⟨JasksRow14, eJasksRow14, hf⟩ := o_let hf
  have hJasksRow14 : ∀  (μ4 : wMem), JasksRow14  μ4 = some r0 → wJ p l e ({ frames := 4, cells := 0, slots := 0, locals := 89 } : Room) s m args below meth c 4 D vwCl (spX ++ E) q ca A (wQi ({ frames := 4, cells := 0, slots := 0, locals := 89 } : Room) D vwCl (spX ++ E) q ca below args s A r0) 0 0 μ4 14 [] [] := by
    intro  μ4 hf
    rw [eJasksRow14] at hf
    refine wr_bipush 14 C dX0_asksRow_14 (v := (-2)) rfl ?_
    exact wr_iret 16 C dX0_asksRow_16 ⟨Nat.zero_le _, Nat.zero_le _⟩ (Option.some.inj hf)
  refine wr_if_eq 4 14 C dX0_asksRow_4 (by decide) (fun c5 => ?_) (fun c5 => ?_)
  · replace hf := o_pos c5 hf
    refine wr_sub [] [] rfl ?_
    exact hJasksRow14  μ2 hf
  · replace hf := o_neg c5 hf
    refine wr_aload_n 7 C dX0_asksRow_7 0 rfl rfl ?_
    obtain ⟨v8, μ7, h6, hf⟩ := o_bind hf
    refine wr_Vi (kc1 := 0) (ks1 := 0) 8 [] C dX0_asksRow_8 (tX0_isFamily l N    μ2 (v8, μ7) h6) okX0_isFamily q770 (b := 0) spX_0 rfl ⟨rfl, rfl, Nat.le_of_ble_eq_true rfl, Nat.le_of_ble_eq_true rfl, Nat.zero_le _, Nat.zero_le _⟩ (Nat.le_of_ble_eq_true rfl) rfl ?_
    refine wr_if_ne 11 17 C dX0_asksRow_11 (by decide) (fun c9 => ?_) (fun c9 => ?_)
    · replace hf := o_neg c9 hf
      refine wr_aload_n 17 C dX0_asksRow_17 0 rfl rfl ?_
      cases hf
    · replace hf := o_pos c9 hf
      refine wr_sub [] [] rfl ?_
      exact hJasksRow14  μ7 hf

def fbX0_asksStamps (N : Nat)  (a1 : Int32) (a2 : Int32) (μ : wMem) : Option (Int32 × wMem) :=
  wBind (fX0_isSlot N  a1 μ) fun v3 μ2 => wLet (fun  (μ4 : wMem) => some ((-2), μ4)) fun JasksStamps18 => if v3 = 0 then JasksStamps18  μ2 else wBind (fX0_isFamily N   μ2) fun v8 μ7 => if v8 = 0 then JasksStamps18  μ7 else if a2 = 0 then JasksStamps18  μ7 else none
set_option maxHeartbeats 4000000 in
set_option maxRecDepth 100000 in
theorem tbX0_asksStamps (l : Launch) {D : va_G} {E : List wCell} {q : Nat → Nat} {ca : wCA} (N : Nat)   (a1 : Int32) (a2 : Int32) (μ : wMem) (r0 : (Int32 × wMem)) (hf : fbX0_asksStamps N  a1 a2 μ = some r0) : wMiW l yX0_asksStamps cX0_asksStamps 5 (some .int) hhX0_asksStamps ({ frames := 2, cells := 0, slots := 0, locals := 46 } : Room) D vwCl (spX ++ E) q ca [.ref (q 0), .int a1, .int a2] μ r0 := by
  refine wMiW_intro (by decide) (Nat.le_of_ble_eq_true rfl) ?_
  intro p e s m args below meth c A C hX
  unfold fbX0_asksStamps at hf
  refine wr_sub [(0, .ref (q 0)), (1, .int a1), (2, .int a2)] [0, 1, 2] rfl ?_
  refine wr_iload_n 0 C dX0_asksStamps_0 1 rfl rfl ?_
  obtain ⟨v3, μ2, h1, hf⟩ := o_bind hf
  refine wr_Si (kc1 := 0) (ks1 := 0) 1 [] C dX0_asksStamps_1 (tX0_isSlot l N   a1 μ (v3, μ2) h1) okX0_isSlot q1058 ⟨rfl, rfl, Nat.le_of_ble_eq_true rfl, Nat.le_of_ble_eq_true rfl, Nat.zero_le _, Nat.zero_le _⟩ (Nat.le_of_ble_eq_true rfl) rfl ?_
  obtain ⟨JasksStamps18, eJasksStamps18, hf⟩ := o_let hf
  have hJasksStamps18 : ∀  (μ4 : wMem), JasksStamps18  μ4 = some r0 → wJ p l e ({ frames := 2, cells := 0, slots := 0, locals := 46 } : Room) s m args below meth c 5 D vwCl (spX ++ E) q ca A (wQi ({ frames := 2, cells := 0, slots := 0, locals := 46 } : Room) D vwCl (spX ++ E) q ca below args s A r0) 0 0 μ4 18 [] [] := by
    intro  μ4 hf
    rw [eJasksStamps18] at hf
    refine wr_bipush 18 C dX0_asksStamps_18 (v := (-2)) rfl ?_
    exact wr_iret 20 C dX0_asksStamps_20 ⟨Nat.zero_le _, Nat.zero_le _⟩ (Option.some.inj hf)
  refine wr_if_eq 4 18 C dX0_asksStamps_4 (by decide) (fun c5 => ?_) (fun c5 => ?_)
  · replace hf := o_pos c5 hf
    refine wr_sub [] [] rfl ?_
    exact hJasksStamps18  μ2 hf
  · replace hf := o_neg c5 hf
    refine wr_aload_n 7 C dX0_asksStamps_7 0 rfl rfl ?_
    obtain ⟨v8, μ7, h6, hf⟩ := o_bind hf
    refine wr_Vi (kc1 := 0) (ks1 := 0) 8 [] C dX0_asksStamps_8 (tX0_isFamily l N    μ2 (v8, μ7) h6) okX0_isFamily q770 (b := 0) spX_0 rfl ⟨rfl, rfl, Nat.le_of_ble_eq_true rfl, Nat.le_of_ble_eq_true rfl, Nat.zero_le _, Nat.zero_le _⟩ (Nat.le_of_ble_eq_true rfl) rfl ?_
    refine wr_if_eq 11 18 C dX0_asksStamps_11 (by decide) (fun c9 => ?_) (fun c9 => ?_)
    · replace hf := o_pos c9 hf
      refine wr_sub [] [] rfl ?_
      exact hJasksStamps18  μ7 hf
    · replace hf := o_neg c9 hf
      refine wr_iload_n 14 C dX0_asksStamps_14 2 rfl rfl ?_
      refine wr_if_ne 15 21 C dX0_asksStamps_15 (by decide) (fun c10 => ?_) (fun c10 => ?_)
      · replace hf := o_neg c10 hf
        refine wr_aload_n 21 C dX0_asksStamps_21 0 rfl rfl ?_
        cases hf
      · replace hf := o_pos c10 hf
        refine wr_sub [] [] rfl ?_
        exact hJasksStamps18  μ7 hf

def fbX0_judge (N : Nat)  (a1 : Int32) (μ : wMem) : Option (Int32 × wMem) :=
  wBind (fbX0_asksRow N a1 μ) fun v3 μ2 => if 0 ≤ v3 then none else some (v3, μ2)
set_option maxHeartbeats 4000000 in
set_option maxRecDepth 100000 in
theorem tbX0_judge (l : Launch) {D : va_G} {E : List wCell} {q : Nat → Nat} {ca : wCA} (N : Nat)   (a1 : Int32) (μ : wMem) (r0 : (Int32 × wMem)) (hf : fbX0_judge N  a1 μ = some r0) : wMi l yX0_judge cX0_judge 3 (some .int) ({ frames := 5, cells := 0, slots := 0, locals := 112 } : Room) D vwCl (spX ++ E) q ca [.ref (q 0), .int a1] μ r0 := by
  refine wMi_intro (by decide) (Nat.le_of_ble_eq_true rfl) ?_
  intro p e s m args below meth c A C
  unfold fbX0_judge at hf
  refine wr_sub [(0, .ref (q 0)), (1, .int a1)] [0, 1] rfl ?_
  refine wr_aload_n 0 C dX0_judge_0 0 rfl rfl ?_
  refine wr_iload_n 1 C dX0_judge_1 1 rfl rfl ?_
  obtain ⟨v3, μ2, h1, hf⟩ := o_bind hf
  refine wr_VWi (kc1 := 0) (ks1 := 0) 2 [] C dX0_judge_2 (tbX0_asksRow l N a1 μ (v3, μ2) h1) okX0_asksRow q1027 (b := 0) spX_0 rfl ⟨rfl, rfl, Nat.le_of_ble_eq_true rfl, Nat.le_of_ble_eq_true rfl, Nat.le_of_ble_eq_true rfl, Nat.le_of_ble_eq_true rfl⟩ (Nat.le_of_ble_eq_true rfl) rfl ?_
  refine wr_istore_n 5 [(2, .int v3), (0, .ref (q 0)), (1, .int a1)] C dX0_judge_5 rfl rfl (Nat.le_of_ble_eq_true rfl) rfl ?_
  refine wr_iload_n 6 C dX0_judge_6 0 rfl rfl ?_
  refine wr_if_ge 7 14 C dX0_judge_7 (by decide) (fun c4 => ?_) (fun c4 => ?_)
  · replace hf := o_pos c4 hf
    refine wr_aload_n 14 C dX0_judge_14 1 rfl rfl ?_
    refine wr_iload_n 15 C dX0_judge_15 2 rfl rfl ?_
    cases hf
  · replace hf := o_neg c4 hf
    refine wr_iload_n 10 C dX0_judge_10 0 rfl rfl ?_
    refine wr_goto 11 C dX0_judge_11 (tgt := 19) (by decide) ?_
    exact wr_iret 19 C dX0_judge_19 ⟨Nat.zero_le _, Nat.zero_le _⟩ (Option.some.inj hf)

def fbX0_there (N : Nat)  (a1 : Int32) (μ : wMem) : Option (Int32 × wMem) :=
  wBind (fbX0_asksRow N a1 μ) fun v3 μ2 => if 0 ≤ v3 then none else some (v3, μ2)
set_option maxHeartbeats 4000000 in
set_option maxRecDepth 100000 in
theorem tbX0_there (l : Launch) {D : va_G} {E : List wCell} {q : Nat → Nat} {ca : wCA} (N : Nat)   (a1 : Int32) (μ : wMem) (r0 : (Int32 × wMem)) (hf : fbX0_there N  a1 μ = some r0) : wMi l yX0_there cX0_there 3 (some .int) ({ frames := 5, cells := 0, slots := 0, locals := 112 } : Room) D vwCl (spX ++ E) q ca [.ref (q 0), .int a1] μ r0 := by
  refine wMi_intro (by decide) (Nat.le_of_ble_eq_true rfl) ?_
  intro p e s m args below meth c A C
  unfold fbX0_there at hf
  refine wr_sub [(0, .ref (q 0)), (1, .int a1)] [0, 1] rfl ?_
  refine wr_aload_n 0 C dX0_there_0 0 rfl rfl ?_
  refine wr_iload_n 1 C dX0_there_1 1 rfl rfl ?_
  obtain ⟨v3, μ2, h1, hf⟩ := o_bind hf
  refine wr_VWi (kc1 := 0) (ks1 := 0) 2 [] C dX0_there_2 (tbX0_asksRow l N a1 μ (v3, μ2) h1) okX0_asksRow q1027 (b := 0) spX_0 rfl ⟨rfl, rfl, Nat.le_of_ble_eq_true rfl, Nat.le_of_ble_eq_true rfl, Nat.le_of_ble_eq_true rfl, Nat.le_of_ble_eq_true rfl⟩ (Nat.le_of_ble_eq_true rfl) rfl ?_
  refine wr_istore_n 5 [(2, .int v3), (0, .ref (q 0)), (1, .int a1)] C dX0_there_5 rfl rfl (Nat.le_of_ble_eq_true rfl) rfl ?_
  refine wr_iload_n 6 C dX0_there_6 0 rfl rfl ?_
  refine wr_if_ge 7 12 C dX0_there_7 (by decide) (fun c4 => ?_) (fun c4 => ?_)
  · replace hf := o_pos c4 hf
    refine wr_aload_n 12 C dX0_there_12 1 rfl rfl ?_
    refine wr_iload_n 13 C dX0_there_13 2 rfl rfl ?_
    cases hf
  · replace hf := o_neg c4 hf
    refine wr_iload_n 10 C dX0_there_10 0 rfl rfl ?_
    exact wr_iret 11 C dX0_there_11 ⟨Nat.zero_le _, Nat.zero_le _⟩ (Option.some.inj hf)

def fbX0_takes (N : Nat)  (a1 : Int32) (μ : wMem) : Option (Int32 × wMem) :=
  wBind (fbX0_asksRow N a1 μ) fun v3 μ2 => if 0 ≤ v3 then none else some (v3, μ2)
set_option maxHeartbeats 4000000 in
set_option maxRecDepth 100000 in
theorem tbX0_takes (l : Launch) {D : va_G} {E : List wCell} {q : Nat → Nat} {ca : wCA} (N : Nat)   (a1 : Int32) (μ : wMem) (r0 : (Int32 × wMem)) (hf : fbX0_takes N  a1 μ = some r0) : wMi l yX0_takes cX0_takes 3 (some .int) ({ frames := 5, cells := 0, slots := 0, locals := 112 } : Room) D vwCl (spX ++ E) q ca [.ref (q 0), .int a1] μ r0 := by
  refine wMi_intro (by decide) (Nat.le_of_ble_eq_true rfl) ?_
  intro p e s m args below meth c A C
  unfold fbX0_takes at hf
  refine wr_sub [(0, .ref (q 0)), (1, .int a1)] [0, 1] rfl ?_
  refine wr_aload_n 0 C dX0_takes_0 0 rfl rfl ?_
  refine wr_iload_n 1 C dX0_takes_1 1 rfl rfl ?_
  obtain ⟨v3, μ2, h1, hf⟩ := o_bind hf
  refine wr_VWi (kc1 := 0) (ks1 := 0) 2 [] C dX0_takes_2 (tbX0_asksRow l N a1 μ (v3, μ2) h1) okX0_asksRow q1027 (b := 0) spX_0 rfl ⟨rfl, rfl, Nat.le_of_ble_eq_true rfl, Nat.le_of_ble_eq_true rfl, Nat.le_of_ble_eq_true rfl, Nat.le_of_ble_eq_true rfl⟩ (Nat.le_of_ble_eq_true rfl) rfl ?_
  refine wr_istore_n 5 [(2, .int v3), (0, .ref (q 0)), (1, .int a1)] C dX0_takes_5 rfl rfl (Nat.le_of_ble_eq_true rfl) rfl ?_
  refine wr_iload_n 6 C dX0_takes_6 0 rfl rfl ?_
  refine wr_if_ge 7 12 C dX0_takes_7 (by decide) (fun c4 => ?_) (fun c4 => ?_)
  · replace hf := o_pos c4 hf
    refine wr_aload_n 12 C dX0_takes_12 1 rfl rfl ?_
    refine wr_iload_n 13 C dX0_takes_13 2 rfl rfl ?_
    cases hf
  · replace hf := o_neg c4 hf
    refine wr_iload_n 10 C dX0_takes_10 0 rfl rfl ?_
    exact wr_iret 11 C dX0_takes_11 ⟨Nat.zero_le _, Nat.zero_le _⟩ (Option.some.inj hf)

def fbX0_dares (N : Nat)  (a1 : Int32) (μ : wMem) : Option (Int32 × wMem) :=
  wBind (fbX0_asksRow N a1 μ) fun v3 μ2 => if 0 ≤ v3 then none else some (v3, μ2)
set_option maxHeartbeats 4000000 in
set_option maxRecDepth 100000 in
theorem tbX0_dares (l : Launch) {D : va_G} {E : List wCell} {q : Nat → Nat} {ca : wCA} (N : Nat)   (a1 : Int32) (μ : wMem) (r0 : (Int32 × wMem)) (hf : fbX0_dares N  a1 μ = some r0) : wMi l yX0_dares cX0_dares 3 (some .int) ({ frames := 5, cells := 0, slots := 0, locals := 112 } : Room) D vwCl (spX ++ E) q ca [.ref (q 0), .int a1] μ r0 := by
  refine wMi_intro (by decide) (Nat.le_of_ble_eq_true rfl) ?_
  intro p e s m args below meth c A C
  unfold fbX0_dares at hf
  refine wr_sub [(0, .ref (q 0)), (1, .int a1)] [0, 1] rfl ?_
  refine wr_aload_n 0 C dX0_dares_0 0 rfl rfl ?_
  refine wr_iload_n 1 C dX0_dares_1 1 rfl rfl ?_
  obtain ⟨v3, μ2, h1, hf⟩ := o_bind hf
  refine wr_VWi (kc1 := 0) (ks1 := 0) 2 [] C dX0_dares_2 (tbX0_asksRow l N a1 μ (v3, μ2) h1) okX0_asksRow q1027 (b := 0) spX_0 rfl ⟨rfl, rfl, Nat.le_of_ble_eq_true rfl, Nat.le_of_ble_eq_true rfl, Nat.le_of_ble_eq_true rfl, Nat.le_of_ble_eq_true rfl⟩ (Nat.le_of_ble_eq_true rfl) rfl ?_
  refine wr_istore_n 5 [(2, .int v3), (0, .ref (q 0)), (1, .int a1)] C dX0_dares_5 rfl rfl (Nat.le_of_ble_eq_true rfl) rfl ?_
  refine wr_iload_n 6 C dX0_dares_6 0 rfl rfl ?_
  refine wr_if_ge 7 12 C dX0_dares_7 (by decide) (fun c4 => ?_) (fun c4 => ?_)
  · replace hf := o_pos c4 hf
    refine wr_aload_n 12 C dX0_dares_12 1 rfl rfl ?_
    refine wr_iload_n 13 C dX0_dares_13 2 rfl rfl ?_
    cases hf
  · replace hf := o_neg c4 hf
    refine wr_iload_n 10 C dX0_dares_10 0 rfl rfl ?_
    exact wr_iret 11 C dX0_dares_11 ⟨Nat.zero_le _, Nat.zero_le _⟩ (Option.some.inj hf)

def fbX0_lied (N : Nat)  (a1 : Int32) (μ : wMem) : Option (Int32 × wMem) :=
  wBind (fbX0_asksRow N a1 μ) fun v3 μ2 => if 0 ≤ v3 then none else some (v3, μ2)
set_option maxHeartbeats 4000000 in
set_option maxRecDepth 100000 in
theorem tbX0_lied (l : Launch) {D : va_G} {E : List wCell} {q : Nat → Nat} {ca : wCA} (N : Nat)   (a1 : Int32) (μ : wMem) (r0 : (Int32 × wMem)) (hf : fbX0_lied N  a1 μ = some r0) : wMi l yX0_lied cX0_lied 3 (some .int) ({ frames := 5, cells := 0, slots := 0, locals := 112 } : Room) D vwCl (spX ++ E) q ca [.ref (q 0), .int a1] μ r0 := by
  refine wMi_intro (by decide) (Nat.le_of_ble_eq_true rfl) ?_
  intro p e s m args below meth c A C
  unfold fbX0_lied at hf
  refine wr_sub [(0, .ref (q 0)), (1, .int a1)] [0, 1] rfl ?_
  refine wr_aload_n 0 C dX0_lied_0 0 rfl rfl ?_
  refine wr_iload_n 1 C dX0_lied_1 1 rfl rfl ?_
  obtain ⟨v3, μ2, h1, hf⟩ := o_bind hf
  refine wr_VWi (kc1 := 0) (ks1 := 0) 2 [] C dX0_lied_2 (tbX0_asksRow l N a1 μ (v3, μ2) h1) okX0_asksRow q1027 (b := 0) spX_0 rfl ⟨rfl, rfl, Nat.le_of_ble_eq_true rfl, Nat.le_of_ble_eq_true rfl, Nat.le_of_ble_eq_true rfl, Nat.le_of_ble_eq_true rfl⟩ (Nat.le_of_ble_eq_true rfl) rfl ?_
  refine wr_istore_n 5 [(2, .int v3), (0, .ref (q 0)), (1, .int a1)] C dX0_lied_5 rfl rfl (Nat.le_of_ble_eq_true rfl) rfl ?_
  refine wr_iload_n 6 C dX0_lied_6 0 rfl rfl ?_
  refine wr_if_ge 7 12 C dX0_lied_7 (by decide) (fun c4 => ?_) (fun c4 => ?_)
  · replace hf := o_pos c4 hf
    refine wr_aload_n 12 C dX0_lied_12 1 rfl rfl ?_
    refine wr_iload_n 13 C dX0_lied_13 2 rfl rfl ?_
    cases hf
  · replace hf := o_neg c4 hf
    refine wr_iload_n 10 C dX0_lied_10 0 rfl rfl ?_
    exact wr_iret 11 C dX0_lied_11 ⟨Nat.zero_le _, Nat.zero_le _⟩ (Option.some.inj hf)

def fbX0_stamped (N : Nat)  (a1 : Int32) (μ : wMem) : Option (Int64 × wMem) :=
  wBind (fbX0_asksStamps N a1 1 μ) fun v3 μ2 => if 0 ≤ v3 then none else some (Int32.toInt64 v3, μ2)
set_option maxHeartbeats 4000000 in
set_option maxRecDepth 100000 in
theorem tbX0_stamped (l : Launch) {D : va_G} {E : List wCell} {q : Nat → Nat} {ca : wCA} (N : Nat)   (a1 : Int32) (μ : wMem) (r0 : (Int64 × wMem)) (hf : fbX0_stamped N  a1 μ = some r0) : wMl l yX0_stamped cX0_stamped 6 (some .long) ({ frames := 3, cells := 0, slots := 0, locals := 70 } : Room) D vwCl (spX ++ E) q ca [.ref (q 0), .int a1] μ r0 := by
  refine wMl_intro (by decide) (Nat.le_of_ble_eq_true rfl) ?_
  intro p e s m args below meth c A C
  unfold fbX0_stamped at hf
  refine wr_sub [(0, .ref (q 0)), (1, .int a1)] [0, 1] rfl ?_
  refine wr_aload_n 0 C dX0_stamped_0 0 rfl rfl ?_
  refine wr_iload_n 1 C dX0_stamped_1 1 rfl rfl ?_
  refine wr_iconst 2 C dX0_stamped_2 (v := 1) rfl ?_
  obtain ⟨v3, μ2, h1, hf⟩ := o_bind hf
  refine wr_VWi (kc1 := 0) (ks1 := 0) 3 [] C dX0_stamped_3 (tbX0_asksStamps l N a1 1 μ (v3, μ2) h1) okX0_asksStamps q1102 (b := 0) spX_0 rfl ⟨rfl, rfl, Nat.le_of_ble_eq_true rfl, Nat.le_of_ble_eq_true rfl, Nat.le_of_ble_eq_true rfl, Nat.le_of_ble_eq_true rfl⟩ (Nat.le_of_ble_eq_true rfl) rfl ?_
  refine wr_istore_n 6 [(2, .int v3), (0, .ref (q 0)), (1, .int a1)] C dX0_stamped_6 rfl rfl (Nat.le_of_ble_eq_true rfl) rfl ?_
  refine wr_iload_n 7 C dX0_stamped_7 0 rfl rfl ?_
  refine wr_if_ge 8 14 C dX0_stamped_8 (by decide) (fun c4 => ?_) (fun c4 => ?_)
  · replace hf := o_pos c4 hf
    refine wr_aload_n 14 C dX0_stamped_14 1 rfl rfl ?_
    refine wr_iload_n 15 C dX0_stamped_15 2 rfl rfl ?_
    cases hf
  · replace hf := o_neg c4 hf
    refine wr_iload_n 11 C dX0_stamped_11 0 rfl rfl ?_
    refine wr_i2l 12 C dX0_stamped_12 ?_
    exact wr_lret 13 C dX0_stamped_13 ⟨Nat.zero_le _, Nat.zero_le _⟩ (Option.some.inj hf)

def fbX0_had (N : Nat)  (a1 : Int32) (a2 : Int32) (μ : wMem) : Option (Int32 × wMem) :=
  wLet (fun (v2 : Int32) (v3 : Int32) (μ1 : wMem) => wBind (fbX0_asksStamps N v3 v2 μ1) fun v6 μ5 => if 0 ≤ v6 then none else some (v6, μ5)) fun Jhad11 => if a2 < 0 then Jhad11 0 a1 μ else Jhad11 1 a1 μ
set_option maxHeartbeats 4000000 in
set_option maxRecDepth 100000 in
theorem tbX0_had (l : Launch) {D : va_G} {E : List wCell} {q : Nat → Nat} {ca : wCA} (N : Nat)   (a1 : Int32) (a2 : Int32) (μ : wMem) (r0 : (Int32 × wMem)) (hf : fbX0_had N  a1 a2 μ = some r0) : wMi l yX0_had cX0_had 4 (some .int) ({ frames := 3, cells := 0, slots := 0, locals := 70 } : Room) D vwCl (spX ++ E) q ca [.ref (q 0), .int a1, .int a2] μ r0 := by
  refine wMi_intro (by decide) (Nat.le_of_ble_eq_true rfl) ?_
  intro p e s m args below meth c A C
  unfold fbX0_had at hf
  refine wr_sub [(0, .ref (q 0)), (1, .int a1), (2, .int a2)] [0, 1, 2] rfl ?_
  refine wr_aload_n 0 C dX0_had_0 0 rfl rfl ?_
  refine wr_iload_n 1 C dX0_had_1 1 rfl rfl ?_
  refine wr_iload_n 2 C dX0_had_2 2 rfl rfl ?_
  obtain ⟨Jhad11, eJhad11, hf⟩ := o_let hf
  have hJhad11 : ∀ (v2 : Int32) (v3 : Int32) (μ1 : wMem), Jhad11 v2 v3 μ1 = some r0 → wJ p l e ({ frames := 3, cells := 0, slots := 0, locals := 70 } : Room) s m args below meth c 4 D vwCl (spX ++ E) q ca A (wQi ({ frames := 3, cells := 0, slots := 0, locals := 70 } : Room) D vwCl (spX ++ E) q ca below args s A r0) 0 0 μ1 11 [(0, .ref (q 0)), (1, .int a1), (2, .int a2)] [.int v2, .int v3, .ref (q 0)] := by
    intro v2 v3 μ1 hf
    rw [eJhad11] at hf
    obtain ⟨v6, μ5, h4, hf⟩ := o_bind hf
    refine wr_VWi (kc1 := 0) (ks1 := 0) 11 [] C dX0_had_11 (tbX0_asksStamps l N v3 v2 μ1 (v6, μ5) h4) okX0_asksStamps q1102 (b := 0) spX_0 rfl ⟨rfl, rfl, Nat.le_of_ble_eq_true rfl, Nat.le_of_ble_eq_true rfl, Nat.le_of_ble_eq_true rfl, Nat.le_of_ble_eq_true rfl⟩ (Nat.le_of_ble_eq_true rfl) rfl ?_
    refine wr_istore_n 14 [(3, .int v6), (0, .ref (q 0)), (1, .int a1), (2, .int a2)] C dX0_had_14 rfl rfl (Nat.le_of_ble_eq_true rfl) rfl ?_
    refine wr_iload_n 15 C dX0_had_15 0 rfl rfl ?_
    refine wr_if_ge 16 21 C dX0_had_16 (by decide) (fun c7 => ?_) (fun c7 => ?_)
    · replace hf := o_pos c7 hf
      refine wr_aload_n 21 C dX0_had_21 1 rfl rfl ?_
      refine wr_iload_n 22 C dX0_had_22 2 rfl rfl ?_
      cases hf
    · replace hf := o_neg c7 hf
      refine wr_iload_n 19 C dX0_had_19 0 rfl rfl ?_
      exact wr_iret 20 C dX0_had_20 ⟨Nat.zero_le _, Nat.zero_le _⟩ (Option.some.inj hf)
  refine wr_if_lt 3 10 C dX0_had_3 (by decide) (fun c8 => ?_) (fun c8 => ?_)
  · replace hf := o_pos c8 hf
    refine wr_iconst 10 C dX0_had_10 (v := 0) rfl ?_
    exact hJhad11 0 a1 μ hf
  · replace hf := o_neg c8 hf
    refine wr_iconst 6 C dX0_had_6 (v := 1) rfl ?_
    refine wr_goto 7 C dX0_had_7 (tgt := 11) (by decide) ?_
    exact hJhad11 1 a1 μ hf

def fbX0_sure (N : Nat)  (a1 : Int32) (a2 : Int32) (μ : wMem) : Option (Int32 × wMem) :=
  wBind (fX0_isOneOf N  a2 2 μ) fun v3 μ2 => wBind (fbX0_asksStamps N a1 v3 μ2) fun v6 μ5 => if 0 ≤ v6 then none else some (v6, μ5)
set_option maxHeartbeats 4000000 in
set_option maxRecDepth 100000 in
theorem tbX0_sure (l : Launch) {D : va_G} {E : List wCell} {q : Nat → Nat} {ca : wCA} (N : Nat)   (a1 : Int32) (a2 : Int32) (μ : wMem) (r0 : (Int32 × wMem)) (hf : fbX0_sure N  a1 a2 μ = some r0) : wMi l yX0_sure cX0_sure 6 (some .int) ({ frames := 3, cells := 0, slots := 0, locals := 70 } : Room) D vwCl (spX ++ E) q ca [.ref (q 0), .int a1, .int a2] μ r0 := by
  refine wMi_intro (by decide) (Nat.le_of_ble_eq_true rfl) ?_
  intro p e s m args below meth c A C
  unfold fbX0_sure at hf
  refine wr_sub [(0, .ref (q 0)), (1, .int a1), (2, .int a2)] [0, 1, 2] rfl ?_
  refine wr_aload_n 0 C dX0_sure_0 0 rfl rfl ?_
  refine wr_iload_n 1 C dX0_sure_1 1 rfl rfl ?_
  refine wr_iload_n 2 C dX0_sure_2 2 rfl rfl ?_
  refine wr_iconst 3 C dX0_sure_3 (v := 2) rfl ?_
  obtain ⟨v3, μ2, h1, hf⟩ := o_bind hf
  refine wr_Si (kc1 := 0) (ks1 := 0) 4 [.int a1, .ref (q 0)] C dX0_sure_4 (tX0_isOneOf l N   a2 2 μ (v3, μ2) h1) okX0_isOneOf q734 ⟨rfl, rfl, Nat.le_of_ble_eq_true rfl, Nat.le_of_ble_eq_true rfl, Nat.zero_le _, Nat.zero_le _⟩ (Nat.le_of_ble_eq_true rfl) rfl ?_
  obtain ⟨v6, μ5, h4, hf⟩ := o_bind hf
  refine wr_VWi (kc1 := 0) (ks1 := 0) 7 [] C dX0_sure_7 (tbX0_asksStamps l N a1 v3 μ2 (v6, μ5) h4) okX0_asksStamps q1102 (b := 0) spX_0 rfl ⟨rfl, rfl, Nat.le_of_ble_eq_true rfl, Nat.le_of_ble_eq_true rfl, Nat.le_of_ble_eq_true rfl, Nat.le_of_ble_eq_true rfl⟩ (Nat.le_of_ble_eq_true rfl) rfl ?_
  refine wr_istore_n 10 [(3, .int v6), (0, .ref (q 0)), (1, .int a1), (2, .int a2)] C dX0_sure_10 rfl rfl (Nat.le_of_ble_eq_true rfl) rfl ?_
  refine wr_iload_n 11 C dX0_sure_11 0 rfl rfl ?_
  refine wr_if_ge 12 17 C dX0_sure_12 (by decide) (fun c7 => ?_) (fun c7 => ?_)
  · replace hf := o_pos c7 hf
    refine wr_aload_n 17 C dX0_sure_17 1 rfl rfl ?_
    refine wr_iload_n 18 C dX0_sure_18 2 rfl rfl ?_
    cases hf
  · replace hf := o_neg c7 hf
    refine wr_iload_n 15 C dX0_sure_15 0 rfl rfl ?_
    exact wr_iret 16 C dX0_sure_16 ⟨Nat.zero_le _, Nat.zero_le _⟩ (Option.some.inj hf)

def fbX0_dared (N : Nat)  (a1 : Int32) (μ : wMem) : Option (Int32 × wMem) :=
  wBind (fbX0_asksStamps N a1 1 μ) fun v3 μ2 => if 0 ≤ v3 then none else some (v3, μ2)
set_option maxHeartbeats 4000000 in
set_option maxRecDepth 100000 in
theorem tbX0_dared (l : Launch) {D : va_G} {E : List wCell} {q : Nat → Nat} {ca : wCA} (N : Nat)   (a1 : Int32) (μ : wMem) (r0 : (Int32 × wMem)) (hf : fbX0_dared N  a1 μ = some r0) : wMi l yX0_dared cX0_dared 5 (some .int) ({ frames := 3, cells := 0, slots := 0, locals := 70 } : Room) D vwCl (spX ++ E) q ca [.ref (q 0), .int a1] μ r0 := by
  refine wMi_intro (by decide) (Nat.le_of_ble_eq_true rfl) ?_
  intro p e s m args below meth c A C
  unfold fbX0_dared at hf
  refine wr_sub [(0, .ref (q 0)), (1, .int a1)] [0, 1] rfl ?_
  refine wr_aload_n 0 C dX0_dared_0 0 rfl rfl ?_
  refine wr_iload_n 1 C dX0_dared_1 1 rfl rfl ?_
  refine wr_iconst 2 C dX0_dared_2 (v := 1) rfl ?_
  obtain ⟨v3, μ2, h1, hf⟩ := o_bind hf
  refine wr_VWi (kc1 := 0) (ks1 := 0) 3 [] C dX0_dared_3 (tbX0_asksStamps l N a1 1 μ (v3, μ2) h1) okX0_asksStamps q1102 (b := 0) spX_0 rfl ⟨rfl, rfl, Nat.le_of_ble_eq_true rfl, Nat.le_of_ble_eq_true rfl, Nat.le_of_ble_eq_true rfl, Nat.le_of_ble_eq_true rfl⟩ (Nat.le_of_ble_eq_true rfl) rfl ?_
  refine wr_istore_n 6 [(2, .int v3), (0, .ref (q 0)), (1, .int a1)] C dX0_dared_6 rfl rfl (Nat.le_of_ble_eq_true rfl) rfl ?_
  refine wr_iload_n 7 C dX0_dared_7 0 rfl rfl ?_
  refine wr_if_ge 8 13 C dX0_dared_8 (by decide) (fun c4 => ?_) (fun c4 => ?_)
  · replace hf := o_pos c4 hf
    refine wr_aload_n 13 C dX0_dared_13 1 rfl rfl ?_
    refine wr_iload_n 14 C dX0_dared_14 2 rfl rfl ?_
    cases hf
  · replace hf := o_neg c4 hf
    refine wr_iload_n 11 C dX0_dared_11 0 rfl rfl ?_
    exact wr_iret 12 C dX0_dared_12 ⟨Nat.zero_le _, Nat.zero_le _⟩ (Option.some.inj hf)
