set_option maxRecDepth 100000
abbrev cX0_image : ByteArray := prog_1_method_119_code
def yX0_image : MethodName := ⟨RX0, "image", "(I)I"⟩
def dkwX0_image_2 : List UInt8 := [182, 1, 216, 182, 1, 219, 87, 3, 172]
abbrev dktX0_image_2 : List UInt8 := dkwX0_image_2 ++ []
def dkwX0_image_1 : List UInt8 := [162, 0, 15, 42, 180, 0, 92, 1, 182, 1, 212, 87, 167, 255, 236, 42, 180, 0, 92, 27, 42, 180, 0, 12]
abbrev dktX0_image_1 : List UInt8 := dkwX0_image_1 ++ dktX0_image_2
def dkwX0_image_0 : List UInt8 := [27, 133, 9, 20, 1, 209, 184, 0, 103, 154, 0, 6, 16, 254, 172, 42, 180, 0, 92, 182, 1, 211, 6]
abbrev dktX0_image_0 : List UInt8 := dkwX0_image_0 ++ dktX0_image_1
theorem dksX0_image_0 : cX0_image.data.toList.drop 0 = dktX0_image_0 := by decide +kernel
theorem dksX0_image_1 : cX0_image.data.toList.drop 23 = dktX0_image_1 := dk_seg dksX0_image_0 23 rfl rfl
theorem dksX0_image_2 : cX0_image.data.toList.drop 47 = dktX0_image_2 := dk_seg dksX0_image_1 24 rfl rfl
theorem dX0_image_0 : decode cX0_image 0 = .ok (.iload_n 1, 1) := dk_27 (dk_at dksX0_image_0 0 rfl rfl)
theorem dX0_image_1 : decode cX0_image 1 = .ok (.i2l, 1) := dk_133 (dk_at dksX0_image_0 1 rfl rfl)
theorem dX0_image_2 : decode cX0_image 2 = .ok (.lconst 0, 1) := dk_9 (dk_at dksX0_image_0 2 rfl rfl)
theorem dX0_image_3 : decode cX0_image 3 = .ok (.ldc2_w 465, 3) := dk_20 1 209 (dk_at dksX0_image_0 3 rfl rfl)
theorem dX0_image_6 : decode cX0_image 6 = .ok (.invokestatic 103, 3) := dk_184 0 103 (dk_at dksX0_image_0 6 rfl rfl)
theorem dX0_image_9 : decode cX0_image 9 = .ok (.ifCond .ne 6, 3) := dk_154 0 6 (dk_at dksX0_image_0 9 rfl rfl)
theorem dX0_image_12 : decode cX0_image 12 = .ok (.bipush (-2), 2) := dk_16 254 (dk_at dksX0_image_0 12 rfl rfl)
theorem dX0_image_14 : decode cX0_image 14 = .ok (.ireturn, 1) := dk_172 (dk_at dksX0_image_0 14 rfl rfl)
theorem dX0_image_15 : decode cX0_image 15 = .ok (.aload_n 0, 1) := dk_42 (dk_at dksX0_image_0 15 rfl rfl)
theorem dX0_image_16 : decode cX0_image 16 = .ok (.getfield 92, 3) := dk_180 0 92 (dk_at dksX0_image_0 16 rfl rfl)
theorem dX0_image_19 : decode cX0_image 19 = .ok (.invokevirtual 467, 3) := dk_182 1 211 (dk_at dksX0_image_0 19 rfl rfl)
theorem dX0_image_22 : decode cX0_image 22 = .ok (.iconst 3, 1) := dk_6 (dk_at dksX0_image_0 22 rfl rfl)
theorem dX0_image_23 : decode cX0_image 23 = .ok (.if_icmp .ge 15, 3) := dk_162 0 15 (dk_at dksX0_image_1 0 rfl rfl)
theorem dX0_image_26 : decode cX0_image 26 = .ok (.aload_n 0, 1) := dk_42 (dk_at dksX0_image_1 3 rfl rfl)
theorem dX0_image_27 : decode cX0_image 27 = .ok (.getfield 92, 3) := dk_180 0 92 (dk_at dksX0_image_1 4 rfl rfl)
theorem dX0_image_30 : decode cX0_image 30 = .ok (.aconst_null, 1) := dk_1 (dk_at dksX0_image_1 7 rfl rfl)
theorem dX0_image_31 : decode cX0_image 31 = .ok (.invokevirtual 468, 3) := dk_182 1 212 (dk_at dksX0_image_1 8 rfl rfl)
theorem dX0_image_34 : decode cX0_image 34 = .ok (.pop, 1) := dk_87 (dk_at dksX0_image_1 11 rfl rfl)
theorem dX0_image_35 : decode cX0_image 35 = .ok (.goto (-20), 3) := dk_167 255 236 (dk_at dksX0_image_1 12 rfl rfl)
theorem dX0_image_38 : decode cX0_image 38 = .ok (.aload_n 0, 1) := dk_42 (dk_at dksX0_image_1 15 rfl rfl)
theorem dX0_image_39 : decode cX0_image 39 = .ok (.getfield 92, 3) := dk_180 0 92 (dk_at dksX0_image_1 16 rfl rfl)
theorem dX0_image_42 : decode cX0_image 42 = .ok (.iload_n 1, 1) := dk_27 (dk_at dksX0_image_1 19 rfl rfl)
theorem dX0_image_43 : decode cX0_image 43 = .ok (.aload_n 0, 1) := dk_42 (dk_at dksX0_image_1 20 rfl rfl)
theorem dX0_image_44 : decode cX0_image 44 = .ok (.getfield 12, 3) := dk_180 0 12 (dk_at dksX0_image_1 21 rfl rfl)
theorem dX0_image_47 : decode cX0_image 47 = .ok (.invokevirtual 472, 3) := dk_182 1 216 (dk_at dksX0_image_2 0 rfl rfl)
theorem dX0_image_50 : decode cX0_image 50 = .ok (.invokevirtual 475, 3) := dk_182 1 219 (dk_at dksX0_image_2 3 rfl rfl)
theorem dX0_image_53 : decode cX0_image 53 = .ok (.pop, 1) := dk_87 (dk_at dksX0_image_2 6 rfl rfl)
theorem dX0_image_54 : decode cX0_image 54 = .ok (.iconst 0, 1) := dk_3 (dk_at dksX0_image_2 7 rfl rfl)
theorem dX0_image_55 : decode cX0_image 55 = .ok (.ireturn, 1) := dk_172 (dk_at dksX0_image_2 8 rfl rfl)
theorem okX1_copy : wOkV yX1_copy cX1_copy 2 (some (.object "OnePassport$Family")) 0 := ⟨q1278, q1279, q137, q1280, by decide, by decide, by decide +kernel⟩
theorem wr_VgR {p : Program} {l : Launch} {e : Env} {R : Room} {s : State} {m : MethodId} {args : Array Value} {below : List Frame} {meth : Method} {c : Code} {cc : ByteArray} {own : String} {nL : Nat} {ret : Option FieldType} {D : va_G} {cl : List vw_C} {sp : List wCell} {q : Nat → Nat} {ca : wCA} {A : Nat → Prop} {Q : State → Prop} {kc ks : Nat} {μ : wMem} {lv : List (Nat × Value)} {st : List Value} {y : MethodName} {cc1 : ByteArray} {nL1 ix ci N b rc : Nat} {ret1 : Option FieldType} {rm : Room} {As : List Value} {T : u_T} {fs : List (Nat × Nat)} {sp1 : List wCell} {μ1 : wMem} {kc1 ks1 : Nat} (pc : Nat) (rest : List Value) (C : wC p R s m args meth c cc own nL ret D cl sp q ca A) (hd : decode cc pc = .ok (.invokevirtual ix, 3)) (hM : wMgR l y cc1 nL1 ret1 rm D cl sp sp1 rc q ca (.ref (q b) :: As) μ μ1) (hO : wOkV y cc1 nL1 ret1 As.length) (hl : Cond.methodLink own ix y ∈ lw_all) (hs : sp[b]? = some (.inl (ci, fs))) (hc : cl[ci]? = some (y.cls, T, N)) (hF : wFit rm nL1 R kc ks kc1 ks1) (hw : (rest.map fun v => v.category).sum ≤ 8) (hst : st = As.reverse ++ .ref (q b) :: rest) (k : ∀ q1 : Nat → Nat, (∀ j, j < sp.length → q1 j = q j) → wC p R s m args meth c cc own nL ret D cl sp1 q1 ca A → wJ p l e R s m args below meth c nL D cl sp1 q1 ca A Q kc1 ks1 μ1 (pc + 3) lv (.ref (q1 rc) :: rest)) : wJ p l e R s m args below meth c nL D cl sp q ca A Q kc ks μ pc lv st := by
  intro H locs ls h1 h2 h3
  subst hst
  obtain ⟨f1, f2, f3, f4, f5, f6⟩ := hF
  subst f1; subst f2
  obtain ⟨o1, o2, o3, o4, o5⟩ := hO
  have hA := wA_in h2 C.2.2.2.2.2.2.2.2.2.1 C.2.2.2.2.2.2.2.2.2.2.1
  exact va_callr (va_runV (rest := rest) (As := As) ⟨C.1, C.2.1, C.2.2.1, C.2.2.2.1, C.2.2.2.2.1⟩ (hM H.size) (cwV As.length C.2.2.2.2.1 (lw_V hl o1 o2 o3 o4) rfl rfl rfl ⟨rfl, o5⟩ ⟨f3, f4⟩) ⟨w_blind, va_recv C.2.2.2.2.2.1 h1 hc (wWs_get hs), fun U hU hW => ⟨rfl, by rw [hU], by rw [hU]; exact h1, va_K.moved hW.alike C.2.2.2.2.2.1, C.2.2.2.2.2.2.2.2.1, wNest_warm hW C.2.2.2.2.2.2.2.2.2.2.2⟩⟩ rfl rfl h3.1 rfl (lv_room hw) hd ⟨f5, f6⟩) h2 (fun a _ h => hA a h) hA (fun u ra t H1 locs1 ht hvm hpost hB hz hk hS => by
    rw [ht] at hB
    rw [hB.1]
    obtain ⟨a1, a2, a3, a4, a5, a6, a7, a8, a9, a10, a11, a12⟩ := C
    exact k u hpost ⟨a1, a2, a3, a4, a5, a6, a7, a8, hB.2.2.1, fun i hi => hA _ (hB.2.2.2 i hi), a11, a12⟩ H1 locs1 ls hB.2.1 hS h3)
theorem va_rf_cat (r : Option Nat) : (va_rf r).category = 1 := by
  cases r <;> rfl
/-- 0, 1 or 2 -/
def ok_k3 (k : Int32) : Bool := !(decide (k.toInt64 < 0)) && !(decide (2 < k.toInt64))
theorem ok_k3_in {k : Int32} (h : ok_k3 k = true) (μ : wMem) : fX0_isIn 0 k.toInt64 0 2 μ = some (1, μ) := by
  simp only [ok_k3, Bool.and_eq_true, Bool.not_eq_true', decide_eq_false_iff_not] at h
  unfold fX0_isIn
  rw [if_neg h.1, if_neg h.2]
theorem ok_k3_no {k : Int32} (h : ok_k3 k = false) (μ : wMem) : fX0_isIn 0 k.toInt64 0 2 μ = some (0, μ) := by
  unfold fX0_isIn
  by_cases h1 : k.toInt64 < 0
  · rw [if_pos h1]
  · rw [if_neg h1]
    by_cases h2 : 2 < k.toInt64
    · rw [if_pos h2]
    · simp [ok_k3, h1, h2] at h
theorem tX0_image_bad (l : Launch) {D : va_G} {E : List wCell} {q : Nat → Nat} {ca : wCA} {k : Int32} (hk : ok_k3 k = false) (μ : wMem) : wMi l yX0_image cX0_image 2 (some .int) ({ frames := 1, cells := 0, slots := 0, locals := 25 } : Room) D vwCl (spX ++ E) q ca [.ref (q 0), .int k] μ (-2, μ) := by
  refine wMi_intro (by decide) (Nat.le_of_ble_eq_true rfl) ?_
  intro p e s m args below meth c A C
  refine wr_sub [(0, .ref (q 0)), (1, .int k)] [0, 1] rfl ?_
  refine wr_iload_n 0 C dX0_image_0 1 rfl rfl ?_
  refine wr_i2l 1 C dX0_image_1 ?_
  refine wr_lconst 2 C dX0_image_2 (v := 0) rfl ?_
  refine wr_ldc2 3 C dX0_image_3 q1212 ?_
  refine wr_Si (kc1 := 0) (ks1 := 0) (As := [.long k.toInt64, .long 0, .long 2]) 6 [] C dX0_image_6 (tX0_isIn l 0 k.toInt64 0 2 μ (0, μ) (ok_k3_no hk μ)) okX0_isIn q446 ⟨rfl, rfl, Nat.le_of_ble_eq_true rfl, Nat.le_of_ble_eq_true rfl, Nat.zero_le _, Nat.zero_le _⟩ (Nat.le_of_ble_eq_true rfl) rfl ?_
  refine wr_if_ne 9 15 C dX0_image_9 (by decide) (fun h => absurd rfl h) (fun _ => ?_)
  refine wr_bipush 12 C dX0_image_12 (v := (-2)) rfl ?_
  exact wr_iret 14 C dX0_image_14 ⟨Nat.le_refl _, Nat.le_refl _⟩ rfl
/-- the world behind image: a family's copy more, the list's array anew -/
abbrev wIm (sp : List wCell) (cA t' : Nat) : List wCell := (wFw6 (sp ++ [Sum.inl (1, wFf0 0)]) sp.length).set cA (.inr (t', 10))
theorem wIm_old {sp : List wCell} {c : Nat} (hc : c < sp.length) : (wFw6 (sp ++ [Sum.inl (1, wFf0 0)]) sp.length)[c]? = sp[c]? := by
  have h1 : (sp ++ [Sum.inl (1, wFf0 0)] : List wCell).length = sp.length + 1 := by simp
  rw [wFw6_old (by omega) (by rw [h1]; omega), List.getElem?_append_left hc]
set_option maxHeartbeats 4000000 in
theorem tX0_image (l : Launch) {D : va_G} {E : List wCell} {q : Nat → Nat} {ca : wCA} {cA t t' t0 : Nat} (hL : (spX ++ E)[23]? = some (wLo cA)) (hA : (spX ++ E)[cA]? = some (.inr (t, 10))) (h4 : 4 < t) (hty : (wTy ca)[t0]? = some (ca.1 t, .object "java/lang/Object")) (hcl : wClosed (spX ++ E)) {k : Int32} (hk : ok_k3 k = true) (hk0 : ¬ k < 0) (hin : ok_in k 10 = true) (h4' : 4 < t') (hdg : ∀ j, wRd t' j = if j = k.toNatClampNeg then (spX ++ E).length + 1 else wRd t j) (hct : ca.1 t' = ca.1 t) (μ μ1 : wMem) (hsz : μ.1 23 2 = 3) (hf : fX1_copy 1 2 3 4 5 6 7 (spX ++ E).length μ = some μ1) (hk1 : k < μ1.1 23 2) : wMKi wZt l yX0_image cX0_image 2 (some .int) ({ frames := 3, cells := 7, slots := 72, locals := 81 } : Room) D vwCl (spX ++ E) (wIm (spX ++ E) cA t') q ca [.ref (q 0), .int k] μ μ1 0 := by
  have hl23 : 23 < (spX ++ E).length := (List.getElem?_eq_some_iff.mp hL).1
  have hlA : cA < (spX ++ E).length := (List.getElem?_eq_some_iff.mp hA).1
  have hL2 := wIm_old hl23
  have hA2 := wIm_old hlA
  have hS1 : ((spX ++ E) ++ [Sum.inl (1, wFf0 0)] : List wCell).length = (spX ++ E).length + 1 := List.length_append
  have hO := wFw6_at (sp := (spX ++ E) ++ [Sum.inl (1, wFf0 0)]) (b := (spX ++ E).length) List.getElem?_concat_length
  have hW6 : (wFw6 ((spX ++ E) ++ [Sum.inl (1, wFf0 0)]) (spX ++ E).length).length = (spX ++ E).length + 7 := by rw [wFw6_len, hS1]
  refine wMKi_intro (by decide) (Nat.le_of_ble_eq_true rfl) ?_
  intro p e s m args below meth c A C _
  refine wr_sub [(0, .ref (q 0)), (1, .int k)] [0, 1] rfl ?_
  refine wr_iload_n 0 C dX0_image_0 1 rfl rfl ?_
  refine wr_i2l 1 C dX0_image_1 ?_
  refine wr_lconst 2 C dX0_image_2 (v := 0) rfl ?_
  refine wr_ldc2 3 C dX0_image_3 q1212 ?_
  refine wr_Si (kc1 := 0) (ks1 := 0) (As := [.long k.toInt64, .long 0, .long 2]) 6 [] C dX0_image_6 (tX0_isIn l 0 k.toInt64 0 2 μ (1, μ) (ok_k3_in hk μ)) okX0_isIn q446 ⟨rfl, rfl, Nat.le_of_ble_eq_true rfl, Nat.le_of_ble_eq_true rfl, Nat.zero_le _, Nat.zero_le _⟩ (Nat.le_of_ble_eq_true rfl) rfl ?_
  refine wr_if_ne 9 15 C dX0_image_9 (by decide) (fun _ => ?_) (fun h => absurd h (by decide))
  refine wr_aload_n 15 C dX0_image_15 0 rfl rfl ?_
  refine wr_getR 16 33 C dX0_image_16 spX_0 rfl in_X0 (by decide) rfl q364 ?_
  refine wr_Vi (kc1 := 0) (ks1 := 0) (As := []) (b := 23) 19 [] C dX0_image_19 (tJ2_size l hL μ) okJ2_size q1213 hL rfl ⟨rfl, rfl, Nat.le_of_ble_eq_true rfl, Nat.le_of_ble_eq_true rfl, Nat.zero_le _, Nat.zero_le _⟩ (Nat.le_of_ble_eq_true rfl) rfl ?_
  rw [hsz]
  refine wr_iconst 22 C dX0_image_22 (v := 3) rfl ?_
  refine wr_icmp_ge 23 38 C dX0_image_23 (by decide) (fun _ => ?_) (fun h => absurd (by decide) h)
  refine wr_aload_n 38 C dX0_image_38 0 rfl rfl ?_
  refine wr_getR 39 33 C dX0_image_39 spX_0 rfl in_X0 (by decide) rfl q364 ?_
  refine wr_iload_n 42 C dX0_image_42 1 rfl rfl ?_
  refine wr_aload_n 43 C dX0_image_43 0 rfl rfl ?_
  refine wr_getR 44 0 C dX0_image_44 spX_0 rfl in_X0 (by decide) rfl q329 ?_
  refine wr_VgR (kc1 := 7) (ks1 := 72) (As := []) (b := 1) 47 [.int k, .ref (q 23)] C dX0_image_47 (tX1_copy l spX_1 spX_2 spX_3 spX_4 spX_5 spX_6 spX_7 hcl μ μ1 hf) okX1_copy q1277 spX_1 rfl ⟨rfl, rfl, Nat.le_of_ble_eq_true rfl, Nat.le_of_ble_eq_true rfl, Nat.le_of_ble_eq_true rfl, Nat.le_of_ble_eq_true rfl⟩ (Nat.le_of_ble_eq_true rfl) rfl ?_
  intro q1 hq1 C1
  rw [← hq1 23 hl23]
  refine wr_VKq (kc1 := 7) (ks1 := 72) (As := [.int k, .ref (q1 (spX ++ E).length)]) (b := 23) 50 [] C1 dX0_image_50 (tJ2_set l (hL2.trans hL) (hA2.trans hA) h4 hty hin hO h4' hdg hct μ1 hk0 hk1) okJ2_set q1284 (hL2.trans hL) rfl wZt_ok True.intro ⟨rfl, rfl, Nat.le_of_ble_eq_true rfl, Nat.le_of_ble_eq_true rfl, Nat.le_of_ble_eq_true rfl, Nat.le_of_ble_eq_true rfl⟩ (Nat.le_of_ble_eq_true rfl) rfl ?_
  intro q2 hq2 C2
  refine wr_pop 53 C2 dX0_image_53 (va_rf_cat _) ?_
  refine wr_iconst 54 C2 dX0_image_54 (v := 0) rfl ?_
  exact wr_reti 55 C2 dX0_image_55 ⟨Nat.le_of_ble_eq_true rfl, Nat.le_of_ble_eq_true rfl⟩ rfl (fun j hj => (hq2 j (by rw [hW6]; omega)).trans (hq1 j hj))
theorem wGr_old {sp : List wCell} {b c : Nat} (hc : c ≠ b) (hl : c < sp.length) : (wGr sp b)[c]? = sp[c]? := by
  rw [List.getElem?_set_ne (fun e => hc e.symm), List.getElem?_append_left hl]
theorem wGr_len {sp : List wCell} {b : Nat} : (wGr sp b).length = sp.length + 1 := by simp
theorem wRno_5 (n : Nat) : wRno 5 n = true := by
  unfold wRno
  rw [List.all_eq_true]
  intro i hi
  simp [wRd]
theorem wClosed.gr {sp : List wCell} {b : Nat} (h : wClosed sp) : wClosed (wGr sp b) := fun m hm => by
  rw [wGr_len] at hm
  rw [wNoRef_iff]
  intro d hd
  rcases List.mem_or_eq_of_mem_set hd with hd | hd
  · rcases List.mem_append.mp hd with hd | hd
    · exact (wNoRef_iff.mp (h m (by omega))) d hd
    · rw [List.mem_singleton.mp hd]
      show (!(decide (4 < 5) && !wRno 5 m)) = true
      rw [wRno_5]; rfl
  · rw [hd]
    show (([(0, 0), (2, sp.length), (0, 0)] : List (Nat × Nat)).all fun f => !(f.1 == 2 && f.2 == m)) = true
    have : ¬ sp.length = m := by omega
    simp [this]
/-- the memory behind three adds of null to an empty list -/
def wIma (μ : wMem) (n : Nat) : wMem := wSI (wZ (wAdm μ 23) n) 23 2 1
theorem wIma_2 {μ : wMem} {n : Nat} : (wIma μ n).1 23 2 = 1 := by simp [wIma, wSI, va_up, upd]
theorem wAdd1_2 {μ : wMem} {b : Nat} : (wAdd1 μ b).1 b 2 = μ.1 b 2 + 1 := by simp [wAdd1, wSI, va_up, upd]
def wIm3 (μ : wMem) (n : Nat) : wMem := wAdd1 (wAdd1 (wIma μ n) 23) 23
theorem wIm2_2 {μ : wMem} {n : Nat} : (wAdd1 (wIma μ n) 23).1 23 2 = 2 := by rw [wAdd1_2, wIma_2]; rfl
theorem wIm3_2 {μ : wMem} {n : Nat} : (wIm3 μ n).1 23 2 = 3 := by unfold wIm3; rw [wAdd1_2, wIm2_2]; rfl
set_option maxHeartbeats 4000000 in
theorem tX0_image0 (l : Launch) {D : va_G} {E : List wCell} {q : Nat → Nat} {ca : wCA} {aE t' t0 : Nat} (hL : (spX ++ E)[23]? = some (wLoA aE)) (hty : (wTy ca)[t0]? = some (ca.1 5, .object "java/lang/Object")) (hcl : wClosed (spX ++ E)) {k : Int32} (hk : ok_k3 k = true) (hk0 : ¬ k < 0) (hin : ok_in k 10 = true) (h4' : 4 < t') (hdg : ∀ j, wRd t' j = if j = k.toNatClampNeg then (spX ++ E).length + 1 + 1 else wRd 5 j) (hct : ca.1 t' = ca.1 5) (μ μ1 : wMem) (hsz : μ.1 23 2 = 0) (hf : fX1_copy 1 2 3 4 5 6 7 ((spX ++ E).length + 1) (wIm3 μ (spX ++ E).length) = some μ1) (hk1 : k < μ1.1 23 2) : wMKi (wZl aE) l yX0_image cX0_image 2 (some .int) ({ frames := 5, cells := 8, slots := 82, locals := 108 } : Room) D vwCl (spX ++ E) (wIm (wGr (spX ++ E) 23) (spX ++ E).length t') q ca [.ref (q 0), .int k] μ μ1 0 := by
  have hl23 : 23 < (spX ++ E).length := (List.getElem?_eq_some_iff.mp hL).1
  have hl0 : 0 < (spX ++ E).length := by omega
  have hno : wNoRef (spX ++ E) (spX ++ E).length = true := hcl.at rfl
  have hL1 := wGr_at (sp := (spX ++ E)) hl23
  have hA1 := wGr_new (sp := (spX ++ E)) hl23
  have hX0 := (wGr_old (sp := (spX ++ E)) (b := 23) (c := 0) (by decide) hl0).trans spX_0
  have hX1 := (wGr_old (sp := (spX ++ E)) (b := 23) (c := 1) (by decide) (by omega)).trans spX_1
  have hX2 := (wGr_old (sp := (spX ++ E)) (b := 23) (c := 2) (by decide) (by omega)).trans spX_2
  have hX3 := (wGr_old (sp := (spX ++ E)) (b := 23) (c := 3) (by decide) (by omega)).trans spX_3
  have hX4 := (wGr_old (sp := (spX ++ E)) (b := 23) (c := 4) (by decide) (by omega)).trans spX_4
  have hX5 := (wGr_old (sp := (spX ++ E)) (b := 23) (c := 5) (by decide) (by omega)).trans spX_5
  have hX6 := (wGr_old (sp := (spX ++ E)) (b := 23) (c := 6) (by decide) (by omega)).trans spX_6
  have hX7 := (wGr_old (sp := (spX ++ E)) (b := 23) (c := 7) (by decide) (by omega)).trans spX_7
  have hL2 := wIm_old (sp := (wGr (spX ++ E) 23)) (c := 23) (by rw [wGr_len]; omega)
  have hA2 := wIm_old (sp := (wGr (spX ++ E) 23)) (c := (spX ++ E).length) (by rw [wGr_len]; omega)
  have hS1 : ((wGr (spX ++ E) 23) ++ [Sum.inl (1, wFf0 0)] : List wCell).length = (wGr (spX ++ E) 23).length + 1 := List.length_append
  have hO := wFw6_at (sp := (wGr (spX ++ E) 23) ++ [Sum.inl (1, wFf0 0)]) (b := (wGr (spX ++ E) 23).length) List.getElem?_concat_length
  have hW6 : (wFw6 ((wGr (spX ++ E) 23) ++ [Sum.inl (1, wFf0 0)]) (wGr (spX ++ E) 23).length).length = (wGr (spX ++ E) 23).length + 7 := by rw [wFw6_len, hS1]
  rw [← wGr_len (sp := (spX ++ E)) (b := 23)] at hf hdg
  refine wMKi_intro (by decide) (Nat.le_of_ble_eq_true rfl) ?_
  intro p e s m args below meth c A C hZ
  refine wr_sub [(0, .ref (q 0)), (1, .int k)] [0, 1] rfl ?_
  refine wr_iload_n 0 C dX0_image_0 1 rfl rfl ?_
  refine wr_i2l 1 C dX0_image_1 ?_
  refine wr_lconst 2 C dX0_image_2 (v := 0) rfl ?_
  refine wr_ldc2 3 C dX0_image_3 q1212 ?_
  refine wr_Si (kc1 := 0) (ks1 := 0) (As := [.long k.toInt64, .long 0, .long 2]) 6 [] C dX0_image_6 (tX0_isIn l 0 k.toInt64 0 2 μ (1, μ) (ok_k3_in hk μ)) okX0_isIn q446 ⟨rfl, rfl, Nat.le_of_ble_eq_true rfl, Nat.le_of_ble_eq_true rfl, Nat.zero_le _, Nat.zero_le _⟩ (Nat.le_of_ble_eq_true rfl) rfl ?_
  refine wr_if_ne 9 15 C dX0_image_9 (by decide) (fun _ => ?_) (fun h => absurd h (by decide))
  refine wr_aload_n 15 C dX0_image_15 0 rfl rfl ?_
  refine wr_getR 16 33 C dX0_image_16 spX_0 rfl in_X0 (by decide) rfl q364 ?_
  refine wr_Vi (kc1 := 0) (ks1 := 0) (As := []) (b := 23) 19 [] C dX0_image_19 (tJ2_size l hL μ) okJ2_size q1213 hL rfl ⟨rfl, rfl, Nat.le_of_ble_eq_true rfl, Nat.le_of_ble_eq_true rfl, Nat.le_of_ble_eq_true rfl, Nat.le_of_ble_eq_true rfl⟩ (Nat.le_of_ble_eq_true rfl) rfl ?_
  rw [hsz]
  refine wr_iconst 22 C dX0_image_22 (v := 3) rfl ?_
  refine wr_icmp_ge 23 38 C dX0_image_23 (by decide) (fun h => absurd h (by decide)) (fun _ => ?_)
  refine wr_aload_n 26 C dX0_image_26 0 rfl rfl ?_
  refine wr_getR 27 33 C dX0_image_27 spX_0 rfl in_X0 (by decide) rfl q364 ?_
  refine wr_aconst 30 C dX0_image_30 ?_
  refine wr_VKi (kc1 := 1) (ks1 := 10) (As := [.null]) (b := 23) 31 [] C dX0_image_31 (tJ2_addg l hL hty hno μ hsz) okJ2_add q1217 hL rfl wZl_ok hZ ⟨rfl, rfl, Nat.le_of_ble_eq_true rfl, Nat.le_of_ble_eq_true rfl, Nat.le_of_ble_eq_true rfl, Nat.le_of_ble_eq_true rfl⟩ (Nat.le_of_ble_eq_true rfl) rfl ?_
  intro q1 hq1 C1
  rw [← hq1 0 hl0]
  refine wr_pop 34 C1 dX0_image_34 rfl ?_
  refine wr_goto 35 C1 dX0_image_35 (tgt := 15) (by decide) ?_
  show wJ p l e _ s m args below meth c _ D vwCl (wGr (spX ++ E) 23) q1 ca A _ 1 10 (wIma μ (spX ++ E).length) 15 _ []
  refine wr_aload_n 15 C1 dX0_image_15 0 rfl rfl ?_
  refine wr_getR 16 33 C1 dX0_image_16 hX0 rfl in_X0 (by decide) rfl q364 ?_
  refine wr_Vi (kc1 := 1) (ks1 := 10) (As := []) (b := 23) 19 [] C1 dX0_image_19 (tJ2_size l hL1 (wIma μ (spX ++ E).length)) okJ2_size q1213 hL1 rfl ⟨rfl, rfl, Nat.le_of_ble_eq_true rfl, Nat.le_of_ble_eq_true rfl, Nat.le_of_ble_eq_true rfl, Nat.le_of_ble_eq_true rfl⟩ (Nat.le_of_ble_eq_true rfl) rfl ?_
  rw [show (wIma μ (spX ++ E).length).1 23 2 = 1 from wIma_2]
  refine wr_iconst 22 C1 dX0_image_22 (v := 3) rfl ?_
  refine wr_icmp_ge 23 38 C1 dX0_image_23 (by decide) (fun h => absurd h (by decide)) (fun _ => ?_)
  refine wr_aload_n 26 C1 dX0_image_26 0 rfl rfl ?_
  refine wr_getR 27 33 C1 dX0_image_27 hX0 rfl in_X0 (by decide) rfl q364 ?_
  refine wr_aconst 30 C1 dX0_image_30 ?_
  refine wr_Vi (kc1 := 1) (ks1 := 10) (As := [.null]) (b := 23) 31 [] C1 dX0_image_31 (tJ2_add l hL1 hA1 (by decide) hty (wIma μ (spX ++ E).length) (by rw [show (wIma μ (spX ++ E).length).1 23 2 = 1 from wIma_2]; decide) (by rw [show (wIma μ (spX ++ E).length).1 23 2 = 1 from wIma_2]; decide) (by rw [show (wIma μ (spX ++ E).length).1 23 2 = 1 from wIma_2]; decide)) okJ2_add q1217 hL1 rfl ⟨rfl, rfl, Nat.le_of_ble_eq_true rfl, Nat.le_of_ble_eq_true rfl, Nat.le_of_ble_eq_true rfl, Nat.le_of_ble_eq_true rfl⟩ (Nat.le_of_ble_eq_true rfl) rfl ?_
  refine wr_pop 34 C1 dX0_image_34 rfl ?_
  refine wr_goto 35 C1 dX0_image_35 (tgt := 15) (by decide) ?_
  show wJ p l e _ s m args below meth c _ D vwCl (wGr (spX ++ E) 23) q1 ca A _ 1 10 (wAdd1 (wIma μ (spX ++ E).length) 23) 15 _ []
  refine wr_aload_n 15 C1 dX0_image_15 0 rfl rfl ?_
  refine wr_getR 16 33 C1 dX0_image_16 hX0 rfl in_X0 (by decide) rfl q364 ?_
  refine wr_Vi (kc1 := 1) (ks1 := 10) (As := []) (b := 23) 19 [] C1 dX0_image_19 (tJ2_size l hL1 (wAdd1 (wIma μ (spX ++ E).length) 23)) okJ2_size q1213 hL1 rfl ⟨rfl, rfl, Nat.le_of_ble_eq_true rfl, Nat.le_of_ble_eq_true rfl, Nat.le_of_ble_eq_true rfl, Nat.le_of_ble_eq_true rfl⟩ (Nat.le_of_ble_eq_true rfl) rfl ?_
  rw [show (wAdd1 (wIma μ (spX ++ E).length) 23).1 23 2 = 2 from wIm2_2]
  refine wr_iconst 22 C1 dX0_image_22 (v := 3) rfl ?_
  refine wr_icmp_ge 23 38 C1 dX0_image_23 (by decide) (fun h => absurd h (by decide)) (fun _ => ?_)
  refine wr_aload_n 26 C1 dX0_image_26 0 rfl rfl ?_
  refine wr_getR 27 33 C1 dX0_image_27 hX0 rfl in_X0 (by decide) rfl q364 ?_
  refine wr_aconst 30 C1 dX0_image_30 ?_
  refine wr_Vi (kc1 := 1) (ks1 := 10) (As := [.null]) (b := 23) 31 [] C1 dX0_image_31 (tJ2_add l hL1 hA1 (by decide) hty (wAdd1 (wIma μ (spX ++ E).length) 23) (by rw [show (wAdd1 (wIma μ (spX ++ E).length) 23).1 23 2 = 2 from wIm2_2]; decide) (by rw [show (wAdd1 (wIma μ (spX ++ E).length) 23).1 23 2 = 2 from wIm2_2]; decide) (by rw [show (wAdd1 (wIma μ (spX ++ E).length) 23).1 23 2 = 2 from wIm2_2]; decide)) okJ2_add q1217 hL1 rfl ⟨rfl, rfl, Nat.le_of_ble_eq_true rfl, Nat.le_of_ble_eq_true rfl, Nat.le_of_ble_eq_true rfl, Nat.le_of_ble_eq_true rfl⟩ (Nat.le_of_ble_eq_true rfl) rfl ?_
  refine wr_pop 34 C1 dX0_image_34 rfl ?_
  refine wr_goto 35 C1 dX0_image_35 (tgt := 15) (by decide) ?_
  show wJ p l e _ s m args below meth c _ D vwCl (wGr (spX ++ E) 23) q1 ca A _ 1 10 (wIm3 μ (spX ++ E).length) 15 _ []
  refine wr_aload_n 15 C1 dX0_image_15 0 rfl rfl ?_
  refine wr_getR 16 33 C1 dX0_image_16 hX0 rfl in_X0 (by decide) rfl q364 ?_
  refine wr_Vi (kc1 := 1) (ks1 := 10) (As := []) (b := 23) 19 [] C1 dX0_image_19 (tJ2_size l hL1 (wIm3 μ (spX ++ E).length)) okJ2_size q1213 hL1 rfl ⟨rfl, rfl, Nat.le_of_ble_eq_true rfl, Nat.le_of_ble_eq_true rfl, Nat.le_of_ble_eq_true rfl, Nat.le_of_ble_eq_true rfl⟩ (Nat.le_of_ble_eq_true rfl) rfl ?_
  rw [show (wIm3 μ (spX ++ E).length).1 23 2 = 3 from wIm3_2]
  refine wr_iconst 22 C1 dX0_image_22 (v := 3) rfl ?_
  refine wr_icmp_ge 23 38 C1 dX0_image_23 (by decide) (fun _ => ?_) (fun h => absurd (by decide) h)
  refine wr_aload_n 38 C1 dX0_image_38 0 rfl rfl ?_
  refine wr_getR 39 33 C1 dX0_image_39 hX0 rfl in_X0 (by decide) rfl q364 ?_
  refine wr_iload_n 42 C1 dX0_image_42 1 rfl rfl ?_
  refine wr_aload_n 43 C1 dX0_image_43 0 rfl rfl ?_
  refine wr_getR 44 0 C1 dX0_image_44 hX0 rfl in_X0 (by decide) rfl q329 ?_
  refine wr_VgR (kc1 := 8) (ks1 := 82) (As := []) (b := 1) 47 [.int k, .ref (q1 23)] C1 dX0_image_47 (tX1_copy l hX1 hX2 hX3 hX4 hX5 hX6 hX7 hcl.gr (wIm3 μ (spX ++ E).length) μ1 hf) okX1_copy q1277 hX1 rfl ⟨rfl, rfl, Nat.le_of_ble_eq_true rfl, Nat.le_of_ble_eq_true rfl, Nat.le_of_ble_eq_true rfl, Nat.le_of_ble_eq_true rfl⟩ (Nat.le_of_ble_eq_true rfl) rfl ?_
  intro q2 hq2 C2
  rw [← hq2 23 (by rw [wGr_len]; omega)]
  refine wr_VKq (kc1 := 8) (ks1 := 82) (As := [.int k, .ref (q2 (wGr (spX ++ E) 23).length)]) (b := 23) 50 [] C2 dX0_image_50 (tJ2_set l (hL2.trans hL1) (hA2.trans hA1) (by decide) hty hin hO h4' hdg hct μ1 hk0 hk1) okJ2_set q1284 (hL2.trans hL1) rfl wZt_ok True.intro ⟨rfl, rfl, Nat.le_of_ble_eq_true rfl, Nat.le_of_ble_eq_true rfl, Nat.le_of_ble_eq_true rfl, Nat.le_of_ble_eq_true rfl⟩ (Nat.le_of_ble_eq_true rfl) rfl ?_
  intro q3 hq3 C3
  refine wr_pop 53 C3 dX0_image_53 (va_rf_cat _) ?_
  refine wr_iconst 54 C3 dX0_image_54 (v := 0) rfl ?_
  exact wr_reti 55 C3 dX0_image_55 ⟨Nat.le_of_ble_eq_true rfl, Nat.le_of_ble_eq_true rfl⟩ rfl (fun j hj => (hq3 j (by rw [hW6, wGr_len]; omega)).trans ((hq2 j (by rw [wGr_len]; omega)).trans (hq1 j hj)))
abbrev cX0_back : ByteArray := prog_1_method_120_code
def yX0_back : MethodName := ⟨RX0, "back", "(I)I"⟩
def dkwX0_back_2 : List UInt8 := [182, 1, 226, 192, 0, 9, 182, 1, 216, 181, 0, 12, 3, 172]
abbrev dktX0_back_2 : List UInt8 := dkwX0_back_2 ++ []
def dkwX0_back_1 : List UInt8 := [154, 0, 14, 42, 180, 0, 92, 27, 182, 1, 226, 199, 0, 6, 16, 250, 172, 42, 42, 180, 0, 92, 27]
abbrev dktX0_back_1 : List UInt8 := dkwX0_back_1 ++ dktX0_back_2
def dkwX0_back_0 : List UInt8 := [27, 133, 9, 20, 1, 209, 184, 0, 103, 154, 0, 6, 16, 254, 172, 42, 180, 0, 92, 182, 1, 223]
abbrev dktX0_back_0 : List UInt8 := dkwX0_back_0 ++ dktX0_back_1
theorem dksX0_back_0 : cX0_back.data.toList.drop 0 = dktX0_back_0 := by decide +kernel
theorem dksX0_back_1 : cX0_back.data.toList.drop 22 = dktX0_back_1 := dk_seg dksX0_back_0 22 rfl rfl
theorem dksX0_back_2 : cX0_back.data.toList.drop 45 = dktX0_back_2 := dk_seg dksX0_back_1 23 rfl rfl
theorem dX0_back_0 : decode cX0_back 0 = .ok (.iload_n 1, 1) := dk_27 (dk_at dksX0_back_0 0 rfl rfl)
theorem dX0_back_1 : decode cX0_back 1 = .ok (.i2l, 1) := dk_133 (dk_at dksX0_back_0 1 rfl rfl)
theorem dX0_back_2 : decode cX0_back 2 = .ok (.lconst 0, 1) := dk_9 (dk_at dksX0_back_0 2 rfl rfl)
theorem dX0_back_3 : decode cX0_back 3 = .ok (.ldc2_w 465, 3) := dk_20 1 209 (dk_at dksX0_back_0 3 rfl rfl)
theorem dX0_back_6 : decode cX0_back 6 = .ok (.invokestatic 103, 3) := dk_184 0 103 (dk_at dksX0_back_0 6 rfl rfl)
theorem dX0_back_9 : decode cX0_back 9 = .ok (.ifCond .ne 6, 3) := dk_154 0 6 (dk_at dksX0_back_0 9 rfl rfl)
theorem dX0_back_12 : decode cX0_back 12 = .ok (.bipush (-2), 2) := dk_16 254 (dk_at dksX0_back_0 12 rfl rfl)
theorem dX0_back_14 : decode cX0_back 14 = .ok (.ireturn, 1) := dk_172 (dk_at dksX0_back_0 14 rfl rfl)
theorem dX0_back_15 : decode cX0_back 15 = .ok (.aload_n 0, 1) := dk_42 (dk_at dksX0_back_0 15 rfl rfl)
theorem dX0_back_16 : decode cX0_back 16 = .ok (.getfield 92, 3) := dk_180 0 92 (dk_at dksX0_back_0 16 rfl rfl)
theorem dX0_back_19 : decode cX0_back 19 = .ok (.invokevirtual 479, 3) := dk_182 1 223 (dk_at dksX0_back_0 19 rfl rfl)
theorem dX0_back_22 : decode cX0_back 22 = .ok (.ifCond .ne 14, 3) := dk_154 0 14 (dk_at dksX0_back_1 0 rfl rfl)
theorem dX0_back_25 : decode cX0_back 25 = .ok (.aload_n 0, 1) := dk_42 (dk_at dksX0_back_1 3 rfl rfl)
theorem dX0_back_26 : decode cX0_back 26 = .ok (.getfield 92, 3) := dk_180 0 92 (dk_at dksX0_back_1 4 rfl rfl)
theorem dX0_back_29 : decode cX0_back 29 = .ok (.iload_n 1, 1) := dk_27 (dk_at dksX0_back_1 7 rfl rfl)
theorem dX0_back_30 : decode cX0_back 30 = .ok (.invokevirtual 482, 3) := dk_182 1 226 (dk_at dksX0_back_1 8 rfl rfl)
theorem dX0_back_33 : decode cX0_back 33 = .ok (.ifnonnull 6, 3) := dk_199 0 6 (dk_at dksX0_back_1 11 rfl rfl)
theorem dX0_back_36 : decode cX0_back 36 = .ok (.bipush (-6), 2) := dk_16 250 (dk_at dksX0_back_1 14 rfl rfl)
theorem dX0_back_38 : decode cX0_back 38 = .ok (.ireturn, 1) := dk_172 (dk_at dksX0_back_1 16 rfl rfl)
theorem dX0_back_39 : decode cX0_back 39 = .ok (.aload_n 0, 1) := dk_42 (dk_at dksX0_back_1 17 rfl rfl)
theorem dX0_back_40 : decode cX0_back 40 = .ok (.aload_n 0, 1) := dk_42 (dk_at dksX0_back_1 18 rfl rfl)
theorem dX0_back_41 : decode cX0_back 41 = .ok (.getfield 92, 3) := dk_180 0 92 (dk_at dksX0_back_1 19 rfl rfl)
theorem dX0_back_44 : decode cX0_back 44 = .ok (.iload_n 1, 1) := dk_27 (dk_at dksX0_back_1 22 rfl rfl)
theorem dX0_back_45 : decode cX0_back 45 = .ok (.invokevirtual 482, 3) := dk_182 1 226 (dk_at dksX0_back_2 0 rfl rfl)
theorem dX0_back_48 : decode cX0_back 48 = .ok (.checkcast 9, 3) := dk_192 0 9 (dk_at dksX0_back_2 3 rfl rfl)
theorem dX0_back_51 : decode cX0_back 51 = .ok (.invokevirtual 472, 3) := dk_182 1 216 (dk_at dksX0_back_2 6 rfl rfl)
theorem dX0_back_54 : decode cX0_back 54 = .ok (.putfield 12, 3) := dk_181 0 12 (dk_at dksX0_back_2 9 rfl rfl)
theorem dX0_back_57 : decode cX0_back 57 = .ok (.iconst 0, 1) := dk_3 (dk_at dksX0_back_2 12 rfl rfl)
theorem dX0_back_58 : decode cX0_back 58 = .ok (.ireturn, 1) := dk_172 (dk_at dksX0_back_2 13 rfl rfl)
abbrev wF0 : List (Nat × Nat) := [(2, 1), (2, 8), (0, 0), (0, 0), (0, 0), (0, 0), (0, 0), (0, 0), (2, 9), (0, 0), (0, 0), (0, 0), (0, 0), (2, 19), (2, 20), (2, 21), (2, 10), (2, 11), (2, 12), (2, 13), (0, 0), (0, 0), (2, 14), (0, 0), (2, 15), (2, 16), (2, 17), (2, 18), (0, 0), (0, 0), (0, 0), (0, 0), (2, 22), (2, 23)]
/-- a cast of an object to its own class -/
theorem wr_castO {p : Program} {l : Launch} {e : Env} {R : Room} {s : State} {m : MethodId} {args : Array Value} {below : List Frame} {meth : Method} {c : Code} {cc : ByteArray} {own : String} {nL : Nat} {ret : Option FieldType} {D : va_G} {cl : List vw_C} {sp : List wCell} {q : Nat → Nat} {ca : wCA} {A : Nat → Prop} {Q : State → Prop} {kc ks : Nat} {μ : wMem} {lv : List (Nat × Value)} {st : List Value} {c0 ci N ix : Nat} {Cn : String} {T : u_T} {fs : List (Nat × Nat)} (pc : Nat) (C : wC p R s m args meth c cc own nL ret D cl sp q ca A) (hd : decode cc pc = .ok (.checkcast ix, 3)) (hl : Cond.classLink own ix Cn ∈ lw_all) (hs : sp[c0]? = some (.inl (ci, fs))) (hc : cl[ci]? = some (Cn, T, N)) (k : wJ p l e R s m args below meth c nL D cl sp q ca A Q kc ks μ (pc + 3) lv (.ref (q c0) :: st)) : wJ p l e R s m args below meth c nL D cl sp q ca A Q kc ks μ pc lv (.ref (q c0) :: st) :=
  fun H locs ls h1 h2 h3 => va_castS C.1 C.2.1 C.2.2.2.1 (C.2.2.2.2.1 _ hl) (C.2.2.2.2.2.1.1 ci _ hc).2 (va_recv C.2.2.2.2.2.1 h1 hc (wWs_get hs)) hd (k H locs ls h1 h2 h3)
theorem wRi_at {t i d : Nat} (h : wRd t i = d + 1) : wRi t i = some d := by
  unfold wRi
  rw [h, if_neg (Nat.succ_ne_zero d), Nat.add_sub_cancel]
theorem wRi_no {t i : Nat} (h : wRd t i = 0) : wRi t i = none := by
  unfold wRi
  rw [h, if_pos rfl]
theorem tX0_back_bad (l : Launch) {D : va_G} {E : List wCell} {q : Nat → Nat} {ca : wCA} {k : Int32} (hk : ok_k3 k = false) (μ : wMem) : wMi l yX0_back cX0_back 2 (some .int) ({ frames := 1, cells := 0, slots := 0, locals := 25 } : Room) D vwCl (spX ++ E) q ca [.ref (q 0), .int k] μ (-2, μ) := by
  refine wMi_intro (by decide) (Nat.le_of_ble_eq_true rfl) ?_
  intro p e s m args below meth c A C
  refine wr_sub [(0, .ref (q 0)), (1, .int k)] [0, 1] rfl ?_
  refine wr_iload_n 0 C dX0_back_0 1 rfl rfl ?_
  refine wr_i2l 1 C dX0_back_1 ?_
  refine wr_lconst 2 C dX0_back_2 (v := 0) rfl ?_
  refine wr_ldc2 3 C dX0_back_3 q1212 ?_
  refine wr_Si (kc1 := 0) (ks1 := 0) (As := [.long k.toInt64, .long 0, .long 2]) 6 [] C dX0_back_6 (tX0_isIn l 0 k.toInt64 0 2 μ (0, μ) (ok_k3_no hk μ)) okX0_isIn q446 ⟨rfl, rfl, Nat.le_of_ble_eq_true rfl, Nat.le_of_ble_eq_true rfl, Nat.zero_le _, Nat.zero_le _⟩ (Nat.le_of_ble_eq_true rfl) rfl ?_
  refine wr_if_ne 9 15 C dX0_back_9 (by decide) (fun h => absurd rfl h) (fun _ => ?_)
  refine wr_bipush 12 C dX0_back_12 (v := (-2)) rfl ?_
  exact wr_iret 14 C dX0_back_14 ⟨Nat.le_refl _, Nat.le_refl _⟩ rfl
theorem tX0_back_empty (l : Launch) {D : va_G} {E : List wCell} {q : Nat → Nat} {ca : wCA} {f1 : Nat × Nat} (hL : (spX ++ E)[23]? = some (.inl (9, [(0, 0), f1, (0, 0)]))) {k : Int32} (hk : ok_k3 k = true) (μ : wMem) (hsz : μ.1 23 2 = 0) : wMi l yX0_back cX0_back 2 (some .int) ({ frames := 1, cells := 0, slots := 0, locals := 25 } : Room) D vwCl (spX ++ E) q ca [.ref (q 0), .int k] μ (-6, μ) := by
  refine wMi_intro (by decide) (Nat.le_of_ble_eq_true rfl) ?_
  intro p e s m args below meth c A C
  refine wr_sub [(0, .ref (q 0)), (1, .int k)] [0, 1] rfl ?_
  refine wr_iload_n 0 C dX0_back_0 1 rfl rfl ?_
  refine wr_i2l 1 C dX0_back_1 ?_
  refine wr_lconst 2 C dX0_back_2 (v := 0) rfl ?_
  refine wr_ldc2 3 C dX0_back_3 q1212 ?_
  refine wr_Si (kc1 := 0) (ks1 := 0) (As := [.long k.toInt64, .long 0, .long 2]) 6 [] C dX0_back_6 (tX0_isIn l 0 k.toInt64 0 2 μ (1, μ) (ok_k3_in hk μ)) okX0_isIn q446 ⟨rfl, rfl, Nat.le_of_ble_eq_true rfl, Nat.le_of_ble_eq_true rfl, Nat.zero_le _, Nat.zero_le _⟩ (Nat.le_of_ble_eq_true rfl) rfl ?_
  refine wr_if_ne 9 15 C dX0_back_9 (by decide) (fun _ => ?_) (fun h => absurd h (by decide))
  refine wr_aload_n 15 C dX0_back_15 0 rfl rfl ?_
  refine wr_getR 16 33 C dX0_back_16 spX_0 rfl in_X0 (by decide) rfl q364 ?_
  refine wr_Vi (kc1 := 0) (ks1 := 0) (As := []) (b := 23) 19 [] C dX0_back_19 (tJ2_isEmpty l hL μ) okJ2_isEmpty q1300 hL rfl ⟨rfl, rfl, Nat.le_of_ble_eq_true rfl, Nat.le_of_ble_eq_true rfl, Nat.le_of_ble_eq_true rfl, Nat.le_of_ble_eq_true rfl⟩ (Nat.le_of_ble_eq_true rfl) rfl ?_
  rw [if_pos hsz]
  refine wr_if_ne 22 36 C dX0_back_22 (by decide) (fun _ => ?_) (fun h => absurd h (by decide))
  refine wr_bipush 36 C dX0_back_36 (v := (-6)) rfl ?_
  exact wr_iret 38 C dX0_back_38 ⟨Nat.le_refl _, Nat.le_refl _⟩ rfl
theorem tX0_back_null (l : Launch) {D : va_G} {E : List wCell} {q : Nat → Nat} {ca : wCA} {cA : Nat} (hL : (spX ++ E)[23]? = some (wLo cA)) {k : Int32} (hk : ok_k3 k = true) (μ : wMem) {t n t0 : Nat} (hA : (spX ++ E)[cA]? = some (.inr (t, n))) (h4 : 4 < t) (hty : (wTy ca)[t0]? = some (ca.1 t, .object "java/lang/Object")) (hk0 : ¬ k < 0) (hin : ok_in k n = true) (hne : ¬ μ.1 23 2 = 0) (hk1 : k < μ.1 23 2) (hz : wRd t k.toNatClampNeg = 0) : wMKi wZt l yX0_back cX0_back 2 (some .int) ({ frames := 3, cells := 0, slots := 0, locals := 64 } : Room) D vwCl (spX ++ E) (spX ++ E) q ca [.ref (q 0), .int k] μ μ (-6) := by
  have hl23 : 23 < (spX ++ E).length := (List.getElem?_eq_some_iff.mp hL).1
  have hl0 : 0 < (spX ++ E).length := by omega
  refine wMKi_intro (by decide) (Nat.le_of_ble_eq_true rfl) ?_
  intro p e s m args below meth c A C _
  refine wr_sub [(0, .ref (q 0)), (1, .int k)] [0, 1] rfl ?_
  refine wr_iload_n 0 C dX0_back_0 1 rfl rfl ?_
  refine wr_i2l 1 C dX0_back_1 ?_
  refine wr_lconst 2 C dX0_back_2 (v := 0) rfl ?_
  refine wr_ldc2 3 C dX0_back_3 q1212 ?_
  refine wr_Si (kc1 := 0) (ks1 := 0) (As := [.long k.toInt64, .long 0, .long 2]) 6 [] C dX0_back_6 (tX0_isIn l 0 k.toInt64 0 2 μ (1, μ) (ok_k3_in hk μ)) okX0_isIn q446 ⟨rfl, rfl, Nat.le_of_ble_eq_true rfl, Nat.le_of_ble_eq_true rfl, Nat.zero_le _, Nat.zero_le _⟩ (Nat.le_of_ble_eq_true rfl) rfl ?_
  refine wr_if_ne 9 15 C dX0_back_9 (by decide) (fun _ => ?_) (fun h => absurd h (by decide))
  refine wr_aload_n 15 C dX0_back_15 0 rfl rfl ?_
  refine wr_getR 16 33 C dX0_back_16 spX_0 rfl in_X0 (by decide) rfl q364 ?_
  refine wr_Vi (kc1 := 0) (ks1 := 0) (As := []) (b := 23) 19 [] C dX0_back_19 (tJ2_isEmpty l hL μ) okJ2_isEmpty q1300 hL rfl ⟨rfl, rfl, Nat.le_of_ble_eq_true rfl, Nat.le_of_ble_eq_true rfl, Nat.le_of_ble_eq_true rfl, Nat.le_of_ble_eq_true rfl⟩ (Nat.le_of_ble_eq_true rfl) rfl ?_
  rw [if_neg hne]
  refine wr_if_ne 22 36 C dX0_back_22 (by decide) (fun h => absurd rfl h) (fun _ => ?_)
  refine wr_aload_n 25 C dX0_back_25 0 rfl rfl ?_
  refine wr_getR 26 33 C dX0_back_26 spX_0 rfl in_X0 (by decide) rfl q364 ?_
  refine wr_iload_n 29 C dX0_back_29 1 rfl rfl ?_
  refine wr_VKq (kc1 := 0) (ks1 := 0) (As := [.int k]) (b := 23) 30 [] C dX0_back_30 (tJ2_get l hL hA h4 hty hin μ hk0 hk1) okJ2_get q1304 hL rfl wZt_ok True.intro ⟨rfl, rfl, Nat.le_of_ble_eq_true rfl, Nat.le_of_ble_eq_true rfl, Nat.le_of_ble_eq_true rfl, Nat.le_of_ble_eq_true rfl⟩ (Nat.le_of_ble_eq_true rfl) rfl ?_
  intro q1 hq1 C1
  rw [← hq1 0 hl0]
  rw [wRi_no hz]
  refine wr_ifnonnullN 33 C1 dX0_back_33 ?_
  refine wr_bipush 36 C1 dX0_back_36 (v := (-6)) rfl ?_
  exact wr_reti 38 C1 dX0_back_38 ⟨Nat.le_of_ble_eq_true rfl, Nat.le_of_ble_eq_true rfl⟩ rfl hq1
set_option maxHeartbeats 4000000 in
theorem tX0_back (l : Launch) {D : va_G} {E : List wCell} {q : Nat → Nat} {ca : wCA} {cA : Nat} (hL : (spX ++ E)[23]? = some (wLo cA)) {k : Int32} (hk : ok_k3 k = true) (μ : wMem) {t n t0 : Nat} (hA : (spX ++ E)[cA]? = some (.inr (t, n))) (h4 : 4 < t) (hty : (wTy ca)[t0]? = some (ca.1 t, .object "java/lang/Object")) (hk0 : ¬ k < 0) (hin : ok_in k n = true) (hne : ¬ μ.1 23 2 = 0) (hk1 : k < μ.1 23 2) {d i0 i1 i2 i3 i4 i5 : Nat} (hdg : wRd t k.toNatClampNeg = d + 1) (hD : (spX ++ E)[d]? = some (.inl (1, [(0, 0), (0, 0), (0, 0), (0, 0), (0, 0), (0, 0), (0, 0), (0, 0), (2, i0), (2, i1), (2, i2), (2, i3), (2, i4), (2, i5)]))) (hi0 : (spX ++ E)[i0]? = some (.inr (0, 6))) (hi1 : (spX ++ E)[i1]? = some (.inr (0, 6))) (hi2 : (spX ++ E)[i2]? = some (.inr (0, 2))) (hi3 : (spX ++ E)[i3]? = some (.inr (0, 2))) (hi4 : (spX ++ E)[i4]? = some (.inr (0, 2))) (hi5 : (spX ++ E)[i5]? = some (.inr (0, 40))) (hcl : wClosed (spX ++ E)) {μ1 : wMem} (hf : fX1_copy d i0 i1 i2 i3 i4 i5 (spX ++ E).length μ = some μ1) : wMKi wZt l yX0_back cX0_back 2 (some .int) ({ frames := 3, cells := 7, slots := 72, locals := 81 } : Room) D vwCl (spX ++ E) ((wFw6 ((spX ++ E) ++ [Sum.inl (1, wFf0 0)]) (spX ++ E).length).set 0 (.inl (0, wF0.set 0 (2, (spX ++ E).length)))) q ca [.ref (q 0), .int k] μ μ1 0 := by
  have hl23 : 23 < (spX ++ E).length := (List.getElem?_eq_some_iff.mp hL).1
  have hl0 : 0 < (spX ++ E).length := by omega
  refine wMKi_intro (by decide) (Nat.le_of_ble_eq_true rfl) ?_
  intro p e s m args below meth c A C _
  refine wr_sub [(0, .ref (q 0)), (1, .int k)] [0, 1] rfl ?_
  refine wr_iload_n 0 C dX0_back_0 1 rfl rfl ?_
  refine wr_i2l 1 C dX0_back_1 ?_
  refine wr_lconst 2 C dX0_back_2 (v := 0) rfl ?_
  refine wr_ldc2 3 C dX0_back_3 q1212 ?_
  refine wr_Si (kc1 := 0) (ks1 := 0) (As := [.long k.toInt64, .long 0, .long 2]) 6 [] C dX0_back_6 (tX0_isIn l 0 k.toInt64 0 2 μ (1, μ) (ok_k3_in hk μ)) okX0_isIn q446 ⟨rfl, rfl, Nat.le_of_ble_eq_true rfl, Nat.le_of_ble_eq_true rfl, Nat.zero_le _, Nat.zero_le _⟩ (Nat.le_of_ble_eq_true rfl) rfl ?_
  refine wr_if_ne 9 15 C dX0_back_9 (by decide) (fun _ => ?_) (fun h => absurd h (by decide))
  refine wr_aload_n 15 C dX0_back_15 0 rfl rfl ?_
  refine wr_getR 16 33 C dX0_back_16 spX_0 rfl in_X0 (by decide) rfl q364 ?_
  refine wr_Vi (kc1 := 0) (ks1 := 0) (As := []) (b := 23) 19 [] C dX0_back_19 (tJ2_isEmpty l hL μ) okJ2_isEmpty q1300 hL rfl ⟨rfl, rfl, Nat.le_of_ble_eq_true rfl, Nat.le_of_ble_eq_true rfl, Nat.le_of_ble_eq_true rfl, Nat.le_of_ble_eq_true rfl⟩ (Nat.le_of_ble_eq_true rfl) rfl ?_
  rw [if_neg hne]
  refine wr_if_ne 22 36 C dX0_back_22 (by decide) (fun h => absurd rfl h) (fun _ => ?_)
  refine wr_aload_n 25 C dX0_back_25 0 rfl rfl ?_
  refine wr_getR 26 33 C dX0_back_26 spX_0 rfl in_X0 (by decide) rfl q364 ?_
  refine wr_iload_n 29 C dX0_back_29 1 rfl rfl ?_
  refine wr_VKq (kc1 := 0) (ks1 := 0) (As := [.int k]) (b := 23) 30 [] C dX0_back_30 (tJ2_get l hL hA h4 hty hin μ hk0 hk1) okJ2_get q1304 hL rfl wZt_ok True.intro ⟨rfl, rfl, Nat.le_of_ble_eq_true rfl, Nat.le_of_ble_eq_true rfl, Nat.le_of_ble_eq_true rfl, Nat.le_of_ble_eq_true rfl⟩ (Nat.le_of_ble_eq_true rfl) rfl ?_
  intro q1 hq1 C1
  rw [← hq1 0 hl0]
  rw [wRi_at hdg]
  refine wr_ifnonnull (x := q1 d) 33 39 C1 dX0_back_33 (by decide) ?_
  refine wr_aload_n 39 C1 dX0_back_39 0 rfl rfl ?_
  refine wr_aload_n 40 C1 dX0_back_40 0 rfl rfl ?_
  refine wr_getR 41 33 C1 dX0_back_41 spX_0 rfl in_X0 (by decide) rfl q364 ?_
  refine wr_iload_n 44 C1 dX0_back_44 1 rfl rfl ?_
  refine wr_VKq (kc1 := 0) (ks1 := 0) (As := [.int k]) (b := 23) 45 [.ref (q1 0)] C1 dX0_back_45 (tJ2_get l hL hA h4 hty hin μ hk0 hk1) okJ2_get q1304 hL rfl wZt_ok True.intro ⟨rfl, rfl, Nat.le_of_ble_eq_true rfl, Nat.le_of_ble_eq_true rfl, Nat.le_of_ble_eq_true rfl, Nat.le_of_ble_eq_true rfl⟩ (Nat.le_of_ble_eq_true rfl) rfl ?_
  intro q2 hq2 C2
  rw [← hq2 0 hl0, wRi_at hdg]
  refine wr_castO (c0 := d) 48 C2 dX0_back_48 q176 hD rfl ?_
  refine wr_VgR (kc1 := 7) (ks1 := 72) (As := []) (b := d) 51 [.ref (q2 0)] C2 dX0_back_51 (tX1_copy l hD hi0 hi1 hi2 hi3 hi4 hi5 hcl μ μ1 hf) okX1_copy q1277 hD rfl ⟨rfl, rfl, Nat.le_of_ble_eq_true rfl, Nat.le_of_ble_eq_true rfl, Nat.le_of_ble_eq_true rfl, Nat.le_of_ble_eq_true rfl⟩ (Nat.le_of_ble_eq_true rfl) rfl ?_
  intro q3 hq3 C3
  rw [← hq3 0 hl0]
  refine wr_putR (c0 := 0) (x := (spX ++ E).length) 54 0 ((wFw6 ((spX ++ E) ++ [Sum.inl (1, wFf0 0)]) (spX ++ E).length).set 0 (.inl (0, wF0.set 0 (2, (spX ++ E).length)))) C3 dX0_back_54 ((wIm_old hl0).trans spX_0) rfl in_X0 tyX0 tyX0_ok nmX0 (by decide) (by decide) q329 rfl (fun _ => rfl) (fun _ => rfl) rfl ?_
  intro C4
  refine wr_iconst 57 C4 dX0_back_57 (v := 0) rfl ?_
  exact wr_reti 58 C4 dX0_back_58 ⟨Nat.le_of_ble_eq_true rfl, Nat.le_of_ble_eq_true rfl⟩ rfl (fun j hj => (hq3 j hj).trans ((hq2 j hj).trans (hq1 j hj)))
