set_option maxRecDepth 100000
set_option maxHeartbeats 4000000 in
theorem tX0_family (l : Launch) {D : va_G} {E : List wCell} {q : Nat → Nat} {ca : wCA} {n : Nat} {len : List Nat} {byt : List (List Int32)} {adK adV : Nat → Nat} {fo : Option Nat} {ad : Nat → Nat} {b : Nat} {S : List wCell} (hb : b = (spX ++ E).length) (hS : S = (spX ++ (E ++ [wRd0])).set b wRd1) (hcl : wClosed (spX ++ E)) (h12 : 12 ≤ n) (hA : wAd ad) (N M i t9 : Nat) (μ μ1 μ9 : wMem) (u : Unit) (hf1 : wNext N b (wRm (wZ μ b) b S.length) = some (i, μ1)) (hf2 : wRead len byt N b S.length (S.length + 1) M i μ1 = some (.inl (u, t9, μ9))) : wMKiW (wZL ad n len byt adK adV fo) l yX0_family cX0_family 4 (some .int) [(0, 33, 40, 120), (0, 33, 67, 0), (40, 60, 67, 0)] ({ frames := 11, cells := 9, slots := 87, locals := 235 } : Room) D vwCl (spX ++ E) ((wRW S b (ad t9)).set 0 (wXf S.length)) q ca [.ref (q 0)] μ (wSI (wSI (wSI μ9 0 3 0) 0 4 (-1)) 0 2 0) ((wSI (wSI μ9 0 3 0) 0 4 (-1)).1 S.length 1) := by
  have h24 : 0 < spX.length := by decide
  have h1 : spX.length ≤ b := by rw [hb, List.length_append]; omega
  have hW1 : (spX ++ (E ++ [wRd0]))[b]? = some wRd0 := by rw [← List.append_assoc, hb]; exact List.getElem?_concat_length
  have hl1 : (spX ++ (E ++ [wRd0])).length = b + 1 := by rw [← List.append_assoc, List.length_append, hb]; rfl
  have hc1 : wClosed (spX ++ (E ++ [wRd0])) := by rw [← List.append_assoc]; exact hcl.addF (by decide)
  have hSl : S.length = b + 1 := by rw [hS, List.length_set, hl1]
  have hSt : S.take spX.length = spX := by rw [hS, List.take_set_of_le h1, List.take_append_of_le_length (Nat.le_refl _), List.take_length]
  have hbS : b < S.length := by omega
  have hSc : wClosed S := by rw [hS]; exact hc1.set (fun f hf _ => by rw [(show ∀ f ∈ ([(0, 0), (3, 0), (0, 0), (0, 0), (0, 0), (3, 0), (2, 0)] : List (Nat × Nat)), f.2 = 0 from by decide) f hf]; omega)
  have hF := wRW_F (a0 := ad i) hSt h1 hbS
  have hWW := fun a => wRW_W (a0 := ad i) hSt h1 hbS a
  have h2 : b < (spX ++ (wRW S b (ad i)).drop spX.length).length := by
    rw [wSplit (wRW_t hSt h1 hbS)]; unfold wRW; rw [List.length_set, wFw6_len, List.length_append]; omega
  have hi5 := wNext_lt hf1
  have hno := wRW_no (a0 := ad i) hSt h1 hbS hSc
  generalize (wRW S b (ad i)).drop spX.length = E1 at hF hWW h2 hno
  have hjb : ∀ j, j < (spX ++ E).length → j < b := fun j hj => by rw [hb]; exact hj
  have hj1 : ∀ j, j < (spX ++ E).length → j ≠ b := fun j hj => Nat.ne_of_lt (hjb j hj)
  have hj2 : ∀ j, j < (spX ++ E).length → j < (spX ++ (E ++ [wRd0])).length := fun j hj => by rw [hl1]; exact Nat.lt_succ_of_lt (hjb j hj)
  have hj3 : ∀ j, j < (spX ++ E).length → j < (wW E1 b S.length (ad i)).length := fun j hj => by rw [wW_len]; exact Nat.lt_trans (hjb j hj) h2
  rw [← hWW]
  refine wMKiW_intro (by decide) (Nat.le_of_ble_eq_true rfl) ?_
  intro p e s m args below meth c A C hZ hX
  refine wr_sub [(0, .ref (q 0))] [0] rfl ?_
  refine wr_aload_n 0 C dX0_family_0 0 rfl rfl ?_
  refine wr_newO (fs := [(0, 0), (3, 0), (0, 0), (0, 0), (0, 0), (3, 0), (3, 0)]) (ci := 7) (kc1 := 1) (ks1 := 7) 1 C dX0_family_1 in_X7 tyX7 tyX7_ok q454 q455 q146 rfl (by decide) rfl rfl ⟨Nat.le_of_ble_eq_true rfl, Nat.le_of_ble_eq_true rfl⟩ b hb.symm (hcl.at hb.symm) rfl rfl (spX ++ (E ++ [wRd0])) (List.append_assoc ..).symm ?_
  intro q1 hq1 C1
  rw [← hq1 0 (by omega)]
  refine wr_dup 4 C1 dX0_family_4 rfl ?_
  refine wr_aload_n 5 C1 dX0_family_5 0 rfl rfl ?_
  refine wr_IKv (kc1 := 8) (ks1 := 79) (As := [.ref (q1 0)]) (b := b) 6 [.ref (q1 b), .ref (q1 0)] C1 dX0_family_6 (tX7_init l (E := E ++ [wRd0]) (ad := ad) hW1 h1 hc1 N i (wZ μ b) μ1 (by rw [← hS]; exact hf1)) okIX7_init q456 wZk_ok hZ.1.1.1 ⟨rfl, rfl, Nat.le_of_ble_eq_true rfl, Nat.le_of_ble_eq_true rfl, Nat.le_of_ble_eq_true rfl, Nat.le_of_ble_eq_true rfl⟩ (Nat.le_of_ble_eq_true rfl) rfl ?_
  intro q2 hq2 C2
  rw [← hq2 0 (by omega), ← hq2 b (by omega)]
  rw [← hS, ← hWW] at C2 ⊢
  refine wr_VKq (kc1 := 8) (ks1 := 79) (As := []) (b := b) 9 [.ref (q2 0)] C2 dX0_family_9 (tX7_read l h1 h2 h12 hA hi5 hF N M μ1 μ9 u t9 hf2) okX7_read q507 (wW_get h1 h2) rfl wZL_ok hZ ⟨rfl, rfl, Nat.le_of_ble_eq_true rfl, Nat.le_of_ble_eq_true rfl, Nat.le_of_ble_eq_true rfl, Nat.le_of_ble_eq_true rfl⟩ (Nat.le_of_ble_eq_true rfl) rfl ?_
  intro q3 hq3 C3
  have hwl : 0 < (wW E1 b S.length (ad i)).length := by rw [wW_len]; omega
  rw [← hq3 0 hwl]
  have hV0 : (wW E1 b S.length (ad t9))[0]? = some (wXf 1) := spX_0
  refine tX0_fam12 (f := S.length) (x := S.length + 1) (g := 1) C3 hV0 (hF (ad t9)).1 (by omega) ?_
  intro C4
  exact wr_reti 39 C4 dX0_family_39 ⟨Nat.le_of_ble_eq_true rfl, Nat.le_of_ble_eq_true rfl⟩ rfl (fun j hj => (hq3 j (hj3 j hj)).trans ((hq2 j (hj2 j hj)).trans (hq1 j (hj1 j hj))))
set_option maxHeartbeats 4000000 in
theorem tX0_familyT (l : Launch) {D : va_G} {E : List wCell} {q : Nat → Nat} {ca : wCA} {n : Nat} {len : List Nat} {byt : List (List Int32)} {adK adV : Nat → Nat} {fo : Option Nat} {ad : Nat → Nat} {b : Nat} {S : List wCell} (hb : b = (spX ++ E).length) (hS : S = (spX ++ (E ++ [wRd0])).set b wRd1) (hcl : wClosed (spX ++ E)) (h12 : 12 ≤ n) (hA : wAd ad) (N M i t9 : Nat) (μ μ1 μ9 : wMem) (kk : Int32) (hf1 : wNext N b (wRm (wZ μ b) b S.length) = some (i, μ1)) (hf2 : wRead len byt N b S.length (S.length + 1) M i μ1 = some (.inr (kk, t9, μ9))) : wMKiW (wZL ad n len byt adK adV fo) l yX0_family cX0_family 4 (some .int) [(0, 33, 40, 120), (0, 33, 67, 0), (40, 60, 67, 0)] ({ frames := 11, cells := 9, slots := 87, locals := 235 } : Room) D vwCl (spX ++ E) ((wRW S b (ad t9)) ++ [wFlt]) q ca [.ref (q 0)] μ (wSI (wSI (wSI (wFm μ9 (wRW S b (ad t9)).length kk ((wZ μ9 (wRW S b (ad t9)).length).1 b 3)) 0 3 ((wFm μ9 (wRW S b (ad t9)).length kk ((wZ μ9 (wRW S b (ad t9)).length).1 b 3)).1 (wRW S b (ad t9)).length 6)) 0 4 ((wSI (wFm μ9 (wRW S b (ad t9)).length kk ((wZ μ9 (wRW S b (ad t9)).length).1 b 3)) 0 3 ((wFm μ9 (wRW S b (ad t9)).length kk ((wZ μ9 (wRW S b (ad t9)).length).1 b 3)).1 (wRW S b (ad t9)).length 6)).1 (wRW S b (ad t9)).length 7)) 0 2 0) (-4) := by
  have h24 : 0 < spX.length := by decide
  have h1 : spX.length ≤ b := by rw [hb, List.length_append]; omega
  have hW1 : (spX ++ (E ++ [wRd0]))[b]? = some wRd0 := by rw [← List.append_assoc, hb]; exact List.getElem?_concat_length
  have hl1 : (spX ++ (E ++ [wRd0])).length = b + 1 := by rw [← List.append_assoc, List.length_append, hb]; rfl
  have hc1 : wClosed (spX ++ (E ++ [wRd0])) := by rw [← List.append_assoc]; exact hcl.addF (by decide)
  have hSl : S.length = b + 1 := by rw [hS, List.length_set, hl1]
  have hSt : S.take spX.length = spX := by rw [hS, List.take_set_of_le h1, List.take_append_of_le_length (Nat.le_refl _), List.take_length]
  have hbS : b < S.length := by omega
  have hSc : wClosed S := by rw [hS]; exact hc1.set (fun f hf _ => by rw [(show ∀ f ∈ ([(0, 0), (3, 0), (0, 0), (0, 0), (0, 0), (3, 0), (2, 0)] : List (Nat × Nat)), f.2 = 0 from by decide) f hf]; omega)
  have hF := wRW_F (a0 := ad i) hSt h1 hbS
  have hWW := fun a => wRW_W (a0 := ad i) hSt h1 hbS a
  have h2 : b < (spX ++ (wRW S b (ad i)).drop spX.length).length := by
    rw [wSplit (wRW_t hSt h1 hbS)]; unfold wRW; rw [List.length_set, wFw6_len, List.length_append]; omega
  have hi5 := wNext_lt hf1
  have hno := wRW_no (a0 := ad i) hSt h1 hbS hSc
  generalize (wRW S b (ad i)).drop spX.length = E1 at hF hWW h2 hno
  have hjb : ∀ j, j < (spX ++ E).length → j < b := fun j hj => by rw [hb]; exact hj
  have hj1 : ∀ j, j < (spX ++ E).length → j ≠ b := fun j hj => Nat.ne_of_lt (hjb j hj)
  have hj2 : ∀ j, j < (spX ++ E).length → j < (spX ++ (E ++ [wRd0])).length := fun j hj => by rw [hl1]; exact Nat.lt_succ_of_lt (hjb j hj)
  have hj3 : ∀ j, j < (spX ++ E).length → j < (wW E1 b S.length (ad i)).length := fun j hj => by rw [wW_len]; exact Nat.lt_trans (hjb j hj) h2
  rw [← hWW (ad t9)]
  refine wMKiW_intro (by decide) (Nat.le_of_ble_eq_true rfl) ?_
  intro p e s m args below meth c A C hZ hX
  refine wr_sub [(0, .ref (q 0))] [0] rfl ?_
  refine wr_aload_n 0 C dX0_family_0 0 rfl rfl ?_
  refine wr_newO (fs := [(0, 0), (3, 0), (0, 0), (0, 0), (0, 0), (3, 0), (3, 0)]) (ci := 7) (kc1 := 1) (ks1 := 7) 1 C dX0_family_1 in_X7 tyX7 tyX7_ok q454 q455 q146 rfl (by decide) rfl rfl ⟨Nat.le_of_ble_eq_true rfl, Nat.le_of_ble_eq_true rfl⟩ b hb.symm (hcl.at hb.symm) rfl rfl (spX ++ (E ++ [wRd0])) (List.append_assoc ..).symm ?_
  intro q1 hq1 C1
  rw [← hq1 0 (by omega)]
  refine wr_dup 4 C1 dX0_family_4 rfl ?_
  refine wr_aload_n 5 C1 dX0_family_5 0 rfl rfl ?_
  refine wr_IKv (kc1 := 8) (ks1 := 79) (As := [.ref (q1 0)]) (b := b) 6 [.ref (q1 b), .ref (q1 0)] C1 dX0_family_6 (tX7_init l (E := E ++ [wRd0]) (ad := ad) hW1 h1 hc1 N i (wZ μ b) μ1 (by rw [← hS]; exact hf1)) okIX7_init q456 wZk_ok hZ.1.1.1 ⟨rfl, rfl, Nat.le_of_ble_eq_true rfl, Nat.le_of_ble_eq_true rfl, Nat.le_of_ble_eq_true rfl, Nat.le_of_ble_eq_true rfl⟩ (Nat.le_of_ble_eq_true rfl) rfl ?_
  intro q2 hq2 C2
  rw [← hq2 0 (by omega), ← hq2 b (by omega)]
  rw [← hS, ← hWW] at C2 ⊢
  refine wr_VTc (kc1 := 9) (ks1 := 87) (As := []) (b := b) 9 [.ref (q2 0)] C2 dX0_family_9 (tX7_readT l h1 h2 h12 hA hi5 hF hno N M μ1 μ9 kk t9 hf2) okX7_read q507 (wW_get h1 h2) rfl wZL_ok hZ [] _ _ hX (fun z hz => by cases hz) rfl (by decide) q453 q582 ⟨rfl, rfl, Nat.le_of_ble_eq_true rfl, Nat.le_of_ble_eq_true rfl, Nat.le_of_ble_eq_true rfl, Nat.le_of_ble_eq_true rfl⟩ (Nat.le_of_ble_eq_true rfl) rfl ?_
  intro q3 hq3 C3
  have hwl : 0 < (wW E1 b S.length (ad i)).length := by rw [wW_len]; omega
  rw [← hq3 0 hwl]
  have hV0 : (wW E1 b S.length (ad t9) ++ [wFlt])[0]? = some (wXf 1) := spX_0
  refine tX0_fam40 (g := 1) C3 hV0 List.getElem?_concat_length ?_
  exact wr_reti 66 C3 dX0_family_66 ⟨Nat.le_of_ble_eq_true rfl, Nat.le_of_ble_eq_true rfl⟩ rfl (fun j hj => (hq3 j (hj3 j hj)).trans ((hq2 j (hj2 j hj)).trans (hq1 j (hj1 j hj))))
