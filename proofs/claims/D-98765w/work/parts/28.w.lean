set_option maxRecDepth 100000
/-- a contract of a method with handlers that returns an int -/
def wMiW (l : Launch) (y : MethodName) (cc : ByteArray) (nL : Nat) (ret : Option FieldType) (hh : List (Nat × Nat × Nat × Nat)) (rm : Room) (D : va_G) (cl : List vw_C) (sp : List wCell) (q : Nat → Nat) (ca : wCA) (av : List Value) (μ : wMem) (r0 : Int32 × wMem) : Prop := ∀ sz : Nat, Met l y (wsW_ y cc nL ret hh) rm (va_Pc av (fun U => U.heap.size = sz ∧ va_P D cl (wWs sp q ca μ) U.heap ∧ va_K D cl (wTy ca) U ∧ wInj sp q ∧ wNest U)) (va_Qi (fun (r : Int32) (u : wMem) => (r, u) = r0) (fun (u : wMem) t => va_P D cl (wWs sp q ca u) t.heap) (wA sp q sz)) rm.cells rm.slots (wA sp q sz)
theorem wMiW_intro {l : Launch} {y : MethodName} {cc : ByteArray} {nL : Nat} {ret : Option FieldType} {hh : List (Nat × Nat × Nat × Nat)} {rm : Room} {D : va_G} {cl : List vw_C} {sp : List wCell} {q : Nat → Nat} {ca : wCA} {av : List Value} {μ : wMem} {r0 : Int32 × wMem} (hy : plainName y.cls = true) (hlen : (lg_sl av).length ≤ nL) (h : ∀ (p : Program) (e : Env) (s : State) (m : MethodId) (args : Array Value) (below : List Frame) (meth : Method) (c : Code) (A : Nat → Prop), wC p rm s m args meth c cc y.cls nL ret D cl sp q ca A → c.exceptionTable.toList = tableOf hh → wJ p l e rm s m args below meth c nL D cl sp q ca A (wQi rm D cl sp q ca below args s A r0) 0 0 μ 0 (lv_args 0 av) []) : wMiW l y cc nL ret hh rm D cl sp q ca av μ r0 := by
  intro sz
  refine va_MetW (cc := cc) (maxL := nL) (ret := ret) (hh := hh) hy rfl ?_
  intro p e s m args below meth c s₁ B hml hv
  obtain ⟨rfl, hsz, hP, hK, hI, hNe⟩ := hv
  have hts0 := atoms_spec (ws := wsW_ y cc nL ret hh) B.pre
  have hts : ∀ w ∈ lw_all, w.before _ s = true := fun w h => hts0 w (List.mem_cons_of_mem _ h)
  have hown : s.vm.findClass y.cls = some m.cls := findClass_of_methodNamed B.named
  have htab := vx_table (x := y) B (hts0 _ List.mem_cons_self)
  subst hsz
  have hl := lv_entry av (n := nL) hlen
  rw [lg_entry_eq]
  exact h p e s m av.toArray below meth c (wA sp q s.heap.size) ⟨B.exec, B.bytes, hml, hown, hts, hK, B.notSynchronized, B.returns, hI, fun i hi => Or.inl ⟨i, hi, rfl⟩, fun a ha => Or.inr ha, hNe⟩ htab s.heap [] _ hP va_S.rf hl
def wOkVW (y : MethodName) (cc : ByteArray) (nL : Nat) (ret : Option FieldType) (hh : List (Nat × Nat × Nat × Nat)) (n : Nat) : Prop := Cond.instanceMethod y ∈ lw_all ∧ Cond.selects y.cls y y ∈ lw_all ∧ Cond.initialized y.cls ∈ lw_all ∧ Cond.codeWith y cc nL ret hh ∈ lw_all ∧ y.cls ≠ "java/lang/invoke/MethodHandle" ∧ y.cls ≠ "java/lang/invoke/VarHandle" ∧ (parseMethodDescriptor y.desc).map (fun d => d.parameters.length) = some n
theorem wr_VWi {p : Program} {l : Launch} {e : Env} {R : Room} {s : State} {m : MethodId} {args : Array Value} {below : List Frame} {meth : Method} {c : Code} {cc : ByteArray} {own : String} {nL : Nat} {ret : Option FieldType} {D : va_G} {cl : List vw_C} {sp : List wCell} {q : Nat → Nat} {ca : wCA} {A : Nat → Prop} {Q : State → Prop} {kc ks : Nat} {μ : wMem} {lv : List (Nat × Value)} {st : List Value} {y : MethodName} {cc1 : ByteArray} {nL1 ix ci N b : Nat} {ret1 : Option FieldType} {hh : List (Nat × Nat × Nat × Nat)} {rm : Room} {As : List Value} {T : u_T} {fs : List (Nat × Nat)} {v : Int32} {μ1 : wMem} {kc1 ks1 : Nat} (pc : Nat) (rest : List Value) (C : wC p R s m args meth c cc own nL ret D cl sp q ca A) (hd : decode cc pc = .ok (.invokevirtual ix, 3)) (hM : wMiW l y cc1 nL1 ret1 hh rm D cl sp q ca (.ref (q b) :: As) μ (v, μ1)) (hO : wOkVW y cc1 nL1 ret1 hh As.length) (hl : Cond.methodLink own ix y ∈ lw_all) (hs : sp[b]? = some (.inl (ci, fs))) (hc : cl[ci]? = some (y.cls, T, N)) (hF : wFit rm nL1 R kc ks kc1 ks1) (hw : (rest.map fun v => v.category).sum ≤ 8) (hst : st = As.reverse ++ .ref (q b) :: rest) (k : wJ p l e R s m args below meth c nL D cl sp q ca A Q kc1 ks1 μ1 (pc + 3) lv (.int v :: rest)) : wJ p l e R s m args below meth c nL D cl sp q ca A Q kc ks μ pc lv st := by
  intro H locs ls h1 h2 h3
  subst hst
  obtain ⟨f1, f2, f3, f4, f5, f6⟩ := hF
  subst f1; subst f2
  obtain ⟨o1, o2, o3, o4, o5⟩ := hO
  have hA := wA_in h2 C.2.2.2.2.2.2.2.2.2.1 C.2.2.2.2.2.2.2.2.2.2.1
  exact va_calli (vx_runVW (rest := rest) (As := As) ⟨C.1, C.2.1, C.2.2.1, C.2.2.2.1, C.2.2.2.2.1⟩ (hM H.size) (vx_cwVW As.length C.2.2.2.2.1 (lw_VW hl o1 o2 o3 o4) rfl rfl rfl ⟨rfl, o5⟩ ⟨f3, f4⟩) ⟨w_blind, va_recv C.2.2.2.2.2.1 h1 hc (wWs_get hs), fun U hU hW => ⟨rfl, by rw [hU], by rw [hU]; exact h1, va_K.moved hW.alike C.2.2.2.2.2.1, C.2.2.2.2.2.2.2.2.1, wNest_warm hW C.2.2.2.2.2.2.2.2.2.2.2⟩⟩ rfl rfl h3.1 rfl (lv_room hw) hd ⟨f5, f6⟩) h2 (fun a _ h => hA a h) hA (fun r u t H1 locs1 ht hvm hpost hB hz hk hS => by
    have e1 := (Prod.mk.inj hpost)
    rw [e1.1]
    rw [e1.2, ht] at hB
    exact k H1 locs1 ls hB hS h3)
