set_option maxRecDepth 100000
/-- a contract of a method with handlers that returns an int, the world growing -/
def wMKiW (Z : (Nat → Prop) → State → Heap → Prop) (l : Launch) (y : MethodName) (cc : ByteArray) (nL : Nat) (ret : Option FieldType) (hh : List (Nat × Nat × Nat × Nat)) (rm : Room) (D : va_G) (cl : List vw_C) (sp sp1 : List wCell) (q : Nat → Nat) (ca : wCA) (av : List Value) (μ μ1 : wMem) (r0 : Int32) : Prop := ∀ sz : Nat, Met l y (wsW_ y cc nL ret hh) rm (va_Pc av (fun U => U.heap.size = sz ∧ va_P D cl (wWs sp q ca μ) U.heap ∧ va_K D cl (wTy ca) U ∧ wInj sp q ∧ wNest U ∧ Z (wA sp q sz) U U.heap)) (va_Qi (fun (r : Int32) (u : Nat → Nat) => r = r0 ∧ ∀ j, j < sp.length → u j = q j) (fun (u : Nat → Nat) t => va_P D cl (wWs sp1 u ca μ1) t.heap ∧ wInj sp1 u ∧ ∀ i, i < sp1.length → (wA sp q sz) (u i)) (wA sp q sz)) rm.cells rm.slots (wA sp q sz)
theorem wMKiW_intro {Z : (Nat → Prop) → State → Heap → Prop} {l : Launch} {y : MethodName} {cc : ByteArray} {nL : Nat} {ret : Option FieldType} {hh : List (Nat × Nat × Nat × Nat)} {rm : Room} {D : va_G} {cl : List vw_C} {sp sp1 : List wCell} {q : Nat → Nat} {ca : wCA} {av : List Value} {μ μ1 : wMem} {r0 : Int32} (hy : plainName y.cls = true) (hlen : (lg_sl av).length ≤ nL) (h : ∀ (p : Program) (e : Env) (s : State) (m : MethodId) (args : Array Value) (below : List Frame) (meth : Method) (c : Code) (A : Nat → Prop), wC p rm s m args meth c cc y.cls nL ret D cl sp q ca A → Z A s s.heap → c.exceptionTable.toList = tableOf hh → wJ p l e rm s m args below meth c nL D cl sp q ca A (MQ below (va_Qi (fun (r : Int32) (u : Nat → Nat) => r = r0 ∧ ∀ j, j < sp.length → u j = q j) (fun (u : Nat → Nat) t => va_P D cl (wWs sp1 u ca μ1) t.heap ∧ wInj sp1 u ∧ ∀ i, i < sp1.length → A (u i)) A) args s rm.cells rm.slots A) 0 0 μ 0 (lv_args 0 av) []) : wMKiW Z l y cc nL ret hh rm D cl sp sp1 q ca av μ μ1 r0 := by
  intro sz
  refine va_MetW (cc := cc) (maxL := nL) (ret := ret) (hh := hh) hy rfl ?_
  intro p e s m args below meth c s₁ B hml hv
  obtain ⟨rfl, hsz, hP, hK, hI, hNe, hZl⟩ := hv
  have hts0 := atoms_spec (ws := wsW_ y cc nL ret hh) B.pre
  have hts : ∀ w ∈ lw_all, w.before _ s = true := fun w h => hts0 w (List.mem_cons_of_mem _ h)
  have hown : s.vm.findClass y.cls = some m.cls := findClass_of_methodNamed B.named
  have htab := vx_table (x := y) B (hts0 _ List.mem_cons_self)
  subst hsz
  have hl := lv_entry av (n := nL) hlen
  rw [lg_entry_eq]
  exact h p e s m av.toArray below meth c (wA sp q s.heap.size) ⟨B.exec, B.bytes, hml, hown, hts, hK, B.notSynchronized, B.returns, hI, fun i hi => Or.inl ⟨i, hi, rfl⟩, fun a ha => Or.inr ha, hNe⟩ hZl htab s.heap [] _ hP va_S.rf hl
/-- the component's object, its family in the cell f -/
abbrev wXf (f : Nat) : wCell := .inl (0, [(2, f), (2, 8), (0, 0), (0, 0), (0, 0), (0, 0), (0, 0), (0, 0), (2, 9), (0, 0), (0, 0), (0, 0), (0, 0), (2, 19), (2, 20), (2, 21), (2, 10), (2, 11), (2, 12), (2, 13), (0, 0), (0, 0), (2, 14), (0, 0), (2, 15), (2, 16), (2, 17), (2, 18), (0, 0), (0, 0), (0, 0), (0, 0), (2, 22), (2, 23)])
/-- a call that throws a Fault, caught by the first row of the table that covers it -/
theorem wr_VTc {p : Program} {l : Launch} {e : Env} {R : Room} {s : State} {m : MethodId} {args : Array Value} {below : List Frame} {meth : Method} {c : Code} {cc : ByteArray} {own : String} {nL : Nat} {ret : Option FieldType} {D : va_G} {cl : List vw_C} {sp : List wCell} {q : Nat → Nat} {ca : wCA} {A : Nat → Prop} {Q : State → Prop} {kc ks : Nat} {μ : wMem} {lv : List (Nat × Value)} {st : List Value} {Z : (Nat → Prop) → State → Heap → Prop} {y : MethodName} {cc1 : ByteArray} {nL1 ix ci N b x : Nat} {ret1 : Option FieldType} {rm : Room} {As : List Value} {T : u_T} {fs : List (Nat × Nat)} {sp2 : List wCell} {μ2 : wMem} {kc1 ks1 : Nat} (pc : Nat) (rest : List Value) (C : wC p R s m args meth c cc own nL ret D cl sp q ca A) (hd : decode cc pc = .ok (.invokevirtual ix, 3)) (hM : wMT Z l y cc1 nL1 ret1 rm D cl sp sp2 q ca (.ref (q b) :: As) μ μ2 x) (hO : wOkV y cc1 nL1 ret1 As.length) (hl : Cond.methodLink own ix y ∈ lw_all) (hs : sp[b]? = some (.inl (ci, fs))) (hc : cl[ci]? = some (y.cls, T, N)) (hok : wZok Z) (hZ : Z A s s.heap) (pre : List ExceptionTableEntry) (x0 : ExceptionTableEntry) (suf : List ExceptionTableEntry) (hX : c.exceptionTable.toList = pre ++ x0 :: suf) (hpre : ∀ z ∈ pre, covers z pc = false) (hx0 : covers x0 pc = true) (h0 : x0.catchType ≠ 0) (hlk : Cond.classLink own x0.catchType "OnePassport$Fault" ∈ lw_all) (hca : Cond.castable "OnePassport$Fault" "OnePassport$Fault" ∈ lw_tbl) (hF : wFit rm nL1 R kc ks kc1 ks1) (hw : (rest.map fun v => v.category).sum ≤ 8) (hst : st = As.reverse ++ .ref (q b) :: rest) (k : ∀ q1 : Nat → Nat, (∀ j, j < sp.length → q1 j = q j) → wC p R s m args meth c cc own nL ret D cl sp2 q1 ca A → wJ p l e R s m args below meth c nL D cl sp2 q1 ca A Q kc1 ks1 μ2 x0.handlerPc lv [.ref (q1 x)]) : wJ p l e R s m args below meth c nL D cl sp q ca A Q kc ks μ pc lv st := by
  intro H locs ls h1 h2 h3
  subst hst
  obtain ⟨f1, f2, f3, f4, f5, f6⟩ := hF
  subst f1; subst f2
  obtain ⟨o1, o2, o3, o4, o5⟩ := hO
  have hA := wA_in h2 C.2.2.2.2.2.2.2.2.2.1 C.2.2.2.2.2.2.2.2.2.2.1
  exact vq_callv (vq_runV (rest := rest) (As := As) ⟨C.1, C.2.1, C.2.2.1, C.2.2.2.1, C.2.2.2.2.1⟩ (hM H.size) (cwV As.length C.2.2.2.2.1 (lw_V hl o1 o2 o3 o4) rfl rfl rfl ⟨rfl, o5⟩ ⟨f3, f4⟩) ⟨w_blindK hok, va_recv C.2.2.2.2.2.1 h1 hc (wWs_get hs), fun U hU hW => ⟨rfl, by rw [hU], by rw [hU]; exact h1, va_K.moved hW.alike C.2.2.2.2.2.1, C.2.2.2.2.2.2.2.2.1, wNest_warm hW C.2.2.2.2.2.2.2.2.2.2.2, by rw [hU]; exact hok A (wA sp q H.size) s U H (Or.inl hW) hZ h2.2.1 hA⟩⟩ rfl rfl h3.1 rfl (lv_room hw) hd ⟨f5, f6⟩) h2 (fun a _ h => hA a h) hA (fun a _ h => hA a h)
    (fun E ce q9 u t H1 locs1 ht hvm hpu hB hz hkp hS hcell hnone hcls => by
      obtain ⟨b1, b2, b3, b4, b5⟩ := hB
      subst b1; subst b2
      rw [ht] at b3
      have hk := C.2.2.2.1
      have hn := C.2.2.2.2.2.2.2.2.2.2.2
      have hts := C.2.2.2.2.1
      obtain ⟨a1, a2, a3, a4, a5, a6, a7, a8, a9, a10, a11, a12⟩ := C
      exact vq_catch hk pre x0 suf hX (fun z hz => Or.inl (hpre z hz)) hx0 h0 (hts _ hlk) (wNest_use hn hca rfl) hcell hnone hcls (k u hpu ⟨a1, a2, a3, a4, a5, a6, a7, a8, b4, fun i hi => hA _ (b5 i hi), a11, a12⟩ H1 locs1 ls b3 hS h3))
    (fun _ _ _ _ _ _ hpost => hpost.elim)
abbrev cX0_family : ByteArray := prog_1_method_7_code
def yX0_family : MethodName := ⟨RX0, "family", "()I"⟩
def dkwX0_family_3 : List UInt8 := [181, 0, 96, 45, 191]
abbrev dktX0_family_3 : List UInt8 := dkwX0_family_3 ++ []
def dkwX0_family_2 : List UInt8 := [181, 0, 114, 42, 43, 180, 0, 125, 181, 0, 20, 16, 252, 61, 42, 3, 181, 0, 96, 28, 172, 78, 42, 3]
abbrev dktX0_family_2 : List UInt8 := dkwX0_family_2 ++ dktX0_family_3
def dkwX0_family_1 : List UInt8 := [181, 0, 20, 42, 180, 0, 12, 180, 0, 117, 60, 42, 3, 181, 0, 96, 27, 172, 76, 42, 43, 180, 0, 122]
abbrev dktX0_family_1 : List UInt8 := dkwX0_family_1 ++ dktX0_family_2
def dkwX0_family_0 : List UInt8 := [42, 187, 0, 107, 89, 42, 183, 0, 109, 182, 0, 110, 181, 0, 12, 42, 3, 181, 0, 114, 42, 2]
abbrev dktX0_family_0 : List UInt8 := dkwX0_family_0 ++ dktX0_family_1
theorem dksX0_family_0 : cX0_family.data.toList.drop 0 = dktX0_family_0 := by decide +kernel
theorem dksX0_family_1 : cX0_family.data.toList.drop 22 = dktX0_family_1 := dk_seg dksX0_family_0 22 rfl rfl
theorem dksX0_family_2 : cX0_family.data.toList.drop 46 = dktX0_family_2 := dk_seg dksX0_family_1 24 rfl rfl
theorem dksX0_family_3 : cX0_family.data.toList.drop 70 = dktX0_family_3 := dk_seg dksX0_family_2 24 rfl rfl
theorem dX0_family_0 : decode cX0_family 0 = .ok (.aload_n 0, 1) := dk_42 (dk_at dksX0_family_0 0 rfl rfl)
theorem dX0_family_1 : decode cX0_family 1 = .ok (.new 107, 3) := dk_187 0 107 (dk_at dksX0_family_0 1 rfl rfl)
theorem dX0_family_4 : decode cX0_family 4 = .ok (.dup, 1) := dk_89 (dk_at dksX0_family_0 4 rfl rfl)
theorem dX0_family_5 : decode cX0_family 5 = .ok (.aload_n 0, 1) := dk_42 (dk_at dksX0_family_0 5 rfl rfl)
theorem dX0_family_6 : decode cX0_family 6 = .ok (.invokespecial 109, 3) := dk_183 0 109 (dk_at dksX0_family_0 6 rfl rfl)
theorem dX0_family_9 : decode cX0_family 9 = .ok (.invokevirtual 110, 3) := dk_182 0 110 (dk_at dksX0_family_0 9 rfl rfl)
theorem dX0_family_12 : decode cX0_family 12 = .ok (.putfield 12, 3) := dk_181 0 12 (dk_at dksX0_family_0 12 rfl rfl)
theorem dX0_family_15 : decode cX0_family 15 = .ok (.aload_n 0, 1) := dk_42 (dk_at dksX0_family_0 15 rfl rfl)
theorem dX0_family_16 : decode cX0_family 16 = .ok (.iconst 0, 1) := dk_3 (dk_at dksX0_family_0 16 rfl rfl)
theorem dX0_family_17 : decode cX0_family 17 = .ok (.putfield 114, 3) := dk_181 0 114 (dk_at dksX0_family_0 17 rfl rfl)
theorem dX0_family_20 : decode cX0_family 20 = .ok (.aload_n 0, 1) := dk_42 (dk_at dksX0_family_0 20 rfl rfl)
theorem dX0_family_21 : decode cX0_family 21 = .ok (.iconst (-1), 1) := dk_2 (dk_at dksX0_family_0 21 rfl rfl)
theorem dX0_family_22 : decode cX0_family 22 = .ok (.putfield 20, 3) := dk_181 0 20 (dk_at dksX0_family_1 0 rfl rfl)
theorem dX0_family_25 : decode cX0_family 25 = .ok (.aload_n 0, 1) := dk_42 (dk_at dksX0_family_1 3 rfl rfl)
theorem dX0_family_26 : decode cX0_family 26 = .ok (.getfield 12, 3) := dk_180 0 12 (dk_at dksX0_family_1 4 rfl rfl)
theorem dX0_family_29 : decode cX0_family 29 = .ok (.getfield 117, 3) := dk_180 0 117 (dk_at dksX0_family_1 7 rfl rfl)
theorem dX0_family_32 : decode cX0_family 32 = .ok (.istore_n 1, 1) := dk_60 (dk_at dksX0_family_1 10 rfl rfl)
theorem dX0_family_33 : decode cX0_family 33 = .ok (.aload_n 0, 1) := dk_42 (dk_at dksX0_family_1 11 rfl rfl)
theorem dX0_family_34 : decode cX0_family 34 = .ok (.iconst 0, 1) := dk_3 (dk_at dksX0_family_1 12 rfl rfl)
theorem dX0_family_35 : decode cX0_family 35 = .ok (.putfield 96, 3) := dk_181 0 96 (dk_at dksX0_family_1 13 rfl rfl)
theorem dX0_family_38 : decode cX0_family 38 = .ok (.iload_n 1, 1) := dk_27 (dk_at dksX0_family_1 16 rfl rfl)
theorem dX0_family_39 : decode cX0_family 39 = .ok (.ireturn, 1) := dk_172 (dk_at dksX0_family_1 17 rfl rfl)
theorem dX0_family_40 : decode cX0_family 40 = .ok (.astore_n 1, 1) := dk_76 (dk_at dksX0_family_1 18 rfl rfl)
theorem dX0_family_41 : decode cX0_family 41 = .ok (.aload_n 0, 1) := dk_42 (dk_at dksX0_family_1 19 rfl rfl)
theorem dX0_family_42 : decode cX0_family 42 = .ok (.aload_n 1, 1) := dk_43 (dk_at dksX0_family_1 20 rfl rfl)
theorem dX0_family_43 : decode cX0_family 43 = .ok (.getfield 122, 3) := dk_180 0 122 (dk_at dksX0_family_1 21 rfl rfl)
theorem dX0_family_46 : decode cX0_family 46 = .ok (.putfield 114, 3) := dk_181 0 114 (dk_at dksX0_family_2 0 rfl rfl)
theorem dX0_family_49 : decode cX0_family 49 = .ok (.aload_n 0, 1) := dk_42 (dk_at dksX0_family_2 3 rfl rfl)
theorem dX0_family_50 : decode cX0_family 50 = .ok (.aload_n 1, 1) := dk_43 (dk_at dksX0_family_2 4 rfl rfl)
theorem dX0_family_51 : decode cX0_family 51 = .ok (.getfield 125, 3) := dk_180 0 125 (dk_at dksX0_family_2 5 rfl rfl)
theorem dX0_family_54 : decode cX0_family 54 = .ok (.putfield 20, 3) := dk_181 0 20 (dk_at dksX0_family_2 8 rfl rfl)
theorem dX0_family_57 : decode cX0_family 57 = .ok (.bipush (-4), 2) := dk_16 252 (dk_at dksX0_family_2 11 rfl rfl)
theorem dX0_family_59 : decode cX0_family 59 = .ok (.istore_n 2, 1) := dk_61 (dk_at dksX0_family_2 13 rfl rfl)
theorem dX0_family_60 : decode cX0_family 60 = .ok (.aload_n 0, 1) := dk_42 (dk_at dksX0_family_2 14 rfl rfl)
theorem dX0_family_61 : decode cX0_family 61 = .ok (.iconst 0, 1) := dk_3 (dk_at dksX0_family_2 15 rfl rfl)
theorem dX0_family_62 : decode cX0_family 62 = .ok (.putfield 96, 3) := dk_181 0 96 (dk_at dksX0_family_2 16 rfl rfl)
theorem dX0_family_65 : decode cX0_family 65 = .ok (.iload_n 2, 1) := dk_28 (dk_at dksX0_family_2 19 rfl rfl)
theorem dX0_family_66 : decode cX0_family 66 = .ok (.ireturn, 1) := dk_172 (dk_at dksX0_family_2 20 rfl rfl)
theorem dX0_family_67 : decode cX0_family 67 = .ok (.astore_n 3, 1) := dk_78 (dk_at dksX0_family_2 21 rfl rfl)
theorem dX0_family_68 : decode cX0_family 68 = .ok (.aload_n 0, 1) := dk_42 (dk_at dksX0_family_2 22 rfl rfl)
theorem dX0_family_69 : decode cX0_family 69 = .ok (.iconst 0, 1) := dk_3 (dk_at dksX0_family_2 23 rfl rfl)
theorem dX0_family_70 : decode cX0_family 70 = .ok (.putfield 96, 3) := dk_181 0 96 (dk_at dksX0_family_3 0 rfl rfl)
theorem dX0_family_73 : decode cX0_family 73 = .ok (.aload_n 3, 1) := dk_45 (dk_at dksX0_family_3 3 rfl rfl)
theorem dX0_family_74 : decode cX0_family 74 = .ok (.athrow, 1) := dk_191 (dk_at dksX0_family_3 4 rfl rfl)
theorem okX0_family : wOkVW yX0_family cX0_family 4 (some .int) [(0, 33, 40, 120), (0, 33, 67, 0), (40, 60, 67, 0)] 0 := ⟨q450, q451, q136, q452, by decide, by decide, by decide +kernel⟩
theorem tX0_fam12 {p : Program} {l : Launch} {e : Env} {R : Room} {s : State} {m : MethodId} {args : Array Value} {below : List Frame} {meth : Method} {c : Code} {D : va_G} {q : Nat → Nat} {ca : wCA} {A : Nat → Prop} {Q : State → Prop} {kc ks : Nat} {μ : wMem} {V : List wCell} {f g x : Nat} (C : wC p R s m args meth c cX0_family yX0_family.cls 4 (some .int) D vwCl V q ca A) (h0 : V[0]? = some (wXf g)) (hf : V[f]? = some (.inl (1, wFf6 x))) (hne : 0 ≠ f) (k : wC p R s m args meth c cX0_family yX0_family.cls 4 (some .int) D vwCl (V.set 0 (wXf f)) q ca A → wJ p l e R s m args below meth c 4 D vwCl (V.set 0 (wXf f)) q ca A Q kc ks (wSI (wSI (wSI μ 0 3 0) 0 4 (-1)) 0 2 0) 39 [(1, .int ((wSI (wSI μ 0 3 0) 0 4 (-1)).1 f 1)), (0, .ref (q 0))] [.int ((wSI (wSI μ 0 3 0) 0 4 (-1)).1 f 1)]) : wJ p l e R s m args below meth c 4 D vwCl V q ca A Q kc ks μ 12 [(0, .ref (q 0))] [.ref (q f), .ref (q 0)] := by
  have hl0 : 0 < V.length := (List.getElem?_eq_some_iff.mp h0).1
  refine wr_putR (c0 := 0) (x := f) 12 0 (V.set 0 (wXf f)) C dX0_family_12 h0 rfl in_X0 tyX0 tyX0_ok nmX0 (by decide) (by show 0 < 34; decide) q329 rfl (fun _ => rfl) (fun _ => rfl) rfl ?_
  intro C4
  have h04 : (V.set 0 (wXf f))[0]? = some (wXf f) := List.getElem?_set_self hl0
  have hf4 : (V.set 0 (wXf f))[f]? = some (.inl (1, wFf6 x)) := by rw [List.getElem?_set_ne hne]; exact hf
  refine wr_aload_n 15 C4 dX0_family_15 0 rfl rfl ?_
  refine wr_iconst 16 C4 dX0_family_16 (v := 0) rfl ?_
  refine wr_putI 17 3 C4 dX0_family_17 h04 rfl in_X0 tyX0 tyX0_ok nmX0 (by decide) rfl q334 rfl rfl rfl ?_
  refine wr_aload_n 20 C4 dX0_family_20 0 rfl rfl ?_
  refine wr_iconst 21 C4 dX0_family_21 (v := -1) rfl ?_
  refine wr_putI 22 4 C4 dX0_family_22 h04 rfl in_X0 tyX0 tyX0_ok nmX0 (by decide) rfl q335 rfl rfl rfl ?_
  refine wr_aload_n 25 C4 dX0_family_25 0 rfl rfl ?_
  refine wr_getR 26 0 C4 dX0_family_26 h04 rfl in_X0 (by decide) rfl q329 ?_
  refine wr_getNI 29 1 C4 dX0_family_29 hf4 rfl in_X1 (by decide) rfl q187 ?_
  refine wr_istore_n 32 [(1, .int ((wSI (wSI μ 0 3 0) 0 4 (-1)).1 f 1)), (0, .ref (q 0))] C4 dX0_family_32 rfl rfl (by decide) rfl ?_
  refine wr_aload_n 33 C4 dX0_family_33 1 rfl rfl ?_
  refine wr_iconst 34 C4 dX0_family_34 (v := 0) rfl ?_
  refine wr_putI 35 2 C4 dX0_family_35 h04 rfl in_X0 tyX0 tyX0_ok nmX0 (by decide) rfl q333 rfl rfl rfl ?_
  refine wr_iload_n 38 C4 dX0_family_38 0 rfl rfl ?_
  exact k C4
theorem tX0_fam40 {p : Program} {l : Launch} {e : Env} {R : Room} {s : State} {m : MethodId} {args : Array Value} {below : List Frame} {meth : Method} {c : Code} {D : va_G} {q : Nat → Nat} {ca : wCA} {A : Nat → Prop} {Q : State → Prop} {kc ks : Nat} {μ : wMem} {V : List wCell} {g x : Nat} (C : wC p R s m args meth c cX0_family yX0_family.cls 4 (some .int) D vwCl V q ca A) (h0 : V[0]? = some (wXf g)) (hx : V[x]? = some wFlt) (k : wJ p l e R s m args below meth c 4 D vwCl V q ca A Q kc ks (wSI (wSI (wSI μ 0 3 (μ.1 x 6)) 0 4 ((wSI μ 0 3 (μ.1 x 6)).1 x 7)) 0 2 0) 66 [(2, .int (-4)), (1, .ref (q x)), (0, .ref (q 0))] [.int (-4)]) : wJ p l e R s m args below meth c 4 D vwCl V q ca A Q kc ks μ 40 [(0, .ref (q 0))] [.ref (q x)] := by
  refine wr_astore_n 40 [(1, .ref (q x)), (0, .ref (q 0))] C dX0_family_40 rfl rfl (by decide) rfl ?_
  refine wr_aload_n 41 C dX0_family_41 1 rfl rfl ?_
  refine wr_aload_n 42 C dX0_family_42 0 rfl rfl ?_
  refine wr_getNI 43 6 C dX0_family_43 hx rfl in_X8 (by decide) rfl q644 ?_
  refine wr_putI 46 3 C dX0_family_46 h0 rfl in_X0 tyX0 tyX0_ok nmX0 (by decide) rfl q334 rfl rfl rfl ?_
  refine wr_aload_n 49 C dX0_family_49 1 rfl rfl ?_
  refine wr_aload_n 50 C dX0_family_50 0 rfl rfl ?_
  refine wr_getNI 51 7 C dX0_family_51 hx rfl in_X8 (by decide) rfl q646 ?_
  refine wr_putI 54 4 C dX0_family_54 h0 rfl in_X0 tyX0 tyX0_ok nmX0 (by decide) rfl q335 rfl rfl rfl ?_
  refine wr_bipush 57 C dX0_family_57 (v := -4) rfl ?_
  refine wr_istore_n 59 [(2, .int (-4)), (1, .ref (q x)), (0, .ref (q 0))] C dX0_family_59 rfl rfl (by decide) rfl ?_
  refine wr_aload_n 60 C dX0_family_60 2 rfl rfl ?_
  refine wr_iconst 61 C dX0_family_61 (v := 0) rfl ?_
  refine wr_putI 62 2 C dX0_family_62 h0 rfl in_X0 tyX0 tyX0_ok nmX0 (by decide) rfl q333 rfl rfl rfl ?_
  refine wr_iload_n 65 C dX0_family_65 0 rfl rfl ?_
  exact k
