set_option maxRecDepth 100000
/-- a Fault as it is made -/
abbrev wFlt : wCell := .inl (8, [(3, 0), (3, 0), (3, 0), (3, 0), (3, 0), (0, 0), (0, 0), (0, 0)])
/-- the memory with a Fault of kind k at place v in cell n -/
def wFm (μ : wMem) (n : Nat) (k v : Int32) : wMem := wSI (wSI (wZ μ n) n 6 k) n 7 v
abbrev cX7_wrong : ByteArray := prog_6_method_4_code
def yX7_wrong : MethodName := ⟨RX7, "wrong", "(I)LOnePassport$Fault;"⟩
def dkwX7_wrong_0 : List UInt8 := [187, 0, 81, 89, 27, 42, 180, 0, 52, 183, 0, 83, 176]
abbrev dktX7_wrong_0 : List UInt8 := dkwX7_wrong_0 ++ []
theorem dksX7_wrong_0 : cX7_wrong.data.toList.drop 0 = dktX7_wrong_0 := by decide +kernel
theorem dX7_wrong_0 : decode cX7_wrong 0 = .ok (.new 81, 3) := dk_187 0 81 (dk_at dksX7_wrong_0 0 rfl rfl)
theorem dX7_wrong_3 : decode cX7_wrong 3 = .ok (.dup, 1) := dk_89 (dk_at dksX7_wrong_0 3 rfl rfl)
theorem dX7_wrong_4 : decode cX7_wrong 4 = .ok (.iload_n 1, 1) := dk_27 (dk_at dksX7_wrong_0 4 rfl rfl)
theorem dX7_wrong_5 : decode cX7_wrong 5 = .ok (.aload_n 0, 1) := dk_42 (dk_at dksX7_wrong_0 5 rfl rfl)
theorem dX7_wrong_6 : decode cX7_wrong 6 = .ok (.getfield 52, 3) := dk_180 0 52 (dk_at dksX7_wrong_0 6 rfl rfl)
theorem dX7_wrong_9 : decode cX7_wrong 9 = .ok (.invokespecial 83, 3) := dk_183 0 83 (dk_at dksX7_wrong_0 9 rfl rfl)
theorem dX7_wrong_12 : decode cX7_wrong 12 = .ok (.areturn, 1) := dk_176 (dk_at dksX7_wrong_0 12 rfl rfl)
theorem okX7_wrong : wOkV yX7_wrong cX7_wrong 2 (some (.object "OnePassport$Fault")) 1 := ⟨q578, qs7, q146, q579, by decide, by decide, by decide +kernel⟩
theorem tX7_wrong (l : Launch) {D : va_G} {q : Nat → Nat} {ca : wCA} {sp : List wCell} {r f tk : Nat} (hb : sp[r]? = some (wRdr f tk)) (hno : wNoRef sp sp.length = true) {k : Int32} (μ : wMem) : wMKq wZq l yX7_wrong cX7_wrong 2 (some (.object "OnePassport$Fault")) ({ frames := 4, cells := 1, slots := 8, locals := 90 } : Room) D vwCl sp (sp ++ [wFlt]) q ca [.ref (q r), .int k] μ (wFm μ sp.length k ((wZ μ sp.length).1 r 3)) (some sp.length) := by
  have hr : r < sp.length := (List.getElem?_eq_some_iff.mp hb).1
  have hne : r ≠ sp.length := Nat.ne_of_lt hr
  have hb1 : (sp ++ [wFlt])[r]? = some (wRdr f tk) := by rw [List.getElem?_append_left hr]; exact hb
  have hf1 : (sp ++ [wFlt])[sp.length]? = some wFlt := List.getElem?_concat_length
  have e : (sp ++ [wFlt]).set sp.length wFlt = sp ++ [wFlt] := by rw [List.set_append_right _ _ (Nat.le_refl _)]; simp
  refine wMKq_intro (by decide) (Nat.le_of_ble_eq_true rfl) ?_
  intro p e0 s m args below meth c A C hZ
  refine wr_sub [(0, .ref (q r)), (1, .int k)] [0, 1] rfl ?_
  refine wr_newO (fs := [(3, 0), (3, 0), (3, 0), (3, 0), (3, 0), (0, 0), (0, 0), (0, 0)]) (ci := 8) (kc1 := 1) (ks1 := 8) (μ1 := wZ μ sp.length) 0 C dX7_wrong_0 in_X8 tyX8 tyX8_ok q580 q581 q156 rfl (by decide) rfl rfl ⟨Nat.le_of_ble_eq_true rfl, Nat.le_of_ble_eq_true rfl⟩ sp.length rfl hno rfl rfl (sp ++ [wFlt]) rfl ?_
  intro q1 hq1 C1
  rw [← hq1 r hne]
  refine wr_dup 3 C1 dX7_wrong_3 rfl ?_
  refine wr_iload_n 4 C1 dX7_wrong_4 1 rfl rfl ?_
  refine wr_aload_n 5 C1 dX7_wrong_5 0 rfl rfl ?_
  refine wr_getI 6 3 C1 dX7_wrong_6 hb1 rfl in_X7 (by decide) rfl q488 ?_
  have hI := tX8_init l (D := D) (q := q1) (ca := ca) (k := k) (f := (wZ μ sp.length).1 r 3) hf1 (wZ μ sp.length)
  rw [e] at hI
  refine wr_IPv (kc1 := 1) (ks1 := 8) (b := sp.length) (As := [.int k, .int ((wZ μ sp.length).1 r 3)]) 9 [.ref (q1 sp.length)] C1 dX7_wrong_9 hI okIX8_init q634 wZq_ok hZ rfl ⟨rfl, rfl, Nat.le_of_ble_eq_true rfl, Nat.le_of_ble_eq_true rfl, Nat.le_of_ble_eq_true rfl, Nat.le_of_ble_eq_true rfl⟩ (Nat.le_of_ble_eq_true rfl) rfl ?_
  intro C2
  exact wr_retqO (r := some (q1 sp.length)) 12 C2 dX7_wrong_12 rfl ⟨Nat.le_refl _, Nat.le_refl _⟩ rfl (fun j hj => hq1 j (Nat.ne_of_lt hj))
/-- the Fault thrown is the cell x of the world then -/
def wXq (D : va_G) (cl : List vw_C) (sp sp2 : List wCell) (q : Nat → Nat) (ca : wCA) (μ2 : wMem) (x : Nat) (A : Nat → Prop) : Addr → String → State → State → Prop := vq_X (fun (u : Nat → Nat) => ∀ j, j < sp.length → u j = q j) (fun a E (u : Nat → Nat) t => E = "OnePassport$Fault" ∧ a = u x ∧ va_P D cl (wWs sp2 u ca μ2) t.heap ∧ wInj sp2 u ∧ ∀ i, i < sp2.length → A (u i)) A
/-- a contract of a method that throws a Fault -/
def wMT (Z : (Nat → Prop) → State → Heap → Prop) (l : Launch) (y : MethodName) (cc : ByteArray) (nL : Nat) (ret : Option FieldType) (rm : Room) (D : va_G) (cl : List vw_C) (sp sp2 : List wCell) (q : Nat → Nat) (ca : wCA) (av : List Value) (μ μ2 : wMem) (x : Nat) : Prop := ∀ sz : Nat, vq_Met l y (ws_ y cc nL ret) rm (va_Pc av (fun U => U.heap.size = sz ∧ va_P D cl (wWs sp q ca μ) U.heap ∧ va_K D cl (wTy ca) U ∧ wInj sp q ∧ wNest U ∧ Z (wA sp q sz) U U.heap)) (va_Qv (fun (_ : Unit) => False) (fun _ _ => True) (wA sp q sz)) (wXq D cl sp sp2 q ca μ2 x (wA sp q sz)) rm.cells rm.slots (wA sp q sz)
theorem wMT_intro {Z : (Nat → Prop) → State → Heap → Prop} {l : Launch} {y : MethodName} {cc : ByteArray} {nL : Nat} {ret : Option FieldType} {rm : Room} {D : va_G} {cl : List vw_C} {sp sp2 : List wCell} {q : Nat → Nat} {ca : wCA} {av : List Value} {μ μ2 : wMem} {x : Nat} (hy : plainName y.cls = true) (hlen : (lg_sl av).length ≤ nL) (h : ∀ (p : Program) (e : Env) (s : State) (m : MethodId) (args : Array Value) (below : List Frame) (meth : Method) (c : Code) (A : Nat → Prop), wC p rm s m args meth c cc y.cls nL ret D cl sp q ca A → Z A s s.heap → (∀ z ∈ c.exceptionTable.toList, False) → wJ p l e rm s m args below meth c nL D cl sp q ca A (vq_MQ below (va_Qv (fun (_ : Unit) => False) (fun _ _ => True) A) (wXq D cl sp sp2 q ca μ2 x A) args s rm.cells rm.slots A) 0 0 μ 0 (lv_args 0 av) []) : wMT Z l y cc nL ret rm D cl sp sp2 q ca av μ μ2 x := by
  intro sz
  refine vq_ofW (cc := cc) (maxL := nL) (ret := ret) hy rfl ?_
  intro p e s m args below meth c s₁ B hml hx hv
  obtain ⟨rfl, hsz, hP, hK, hI, hNe, hZl⟩ := hv
  have hts0 := atoms_spec (ws := ws_ y cc nL ret) B.pre
  have hts : ∀ w ∈ lw_all, w.before _ s = true := fun w h => hts0 w (List.mem_cons_of_mem _ h)
  have hown : s.vm.findClass y.cls = some m.cls := findClass_of_methodNamed B.named
  subst hsz
  have hl := lv_entry av (n := nL) hlen
  rw [lg_entry_eq]
  exact h p e s m av.toArray below meth c (wA sp q s.heap.size) ⟨B.exec, B.bytes, hml, hown, hts, hK, B.notSynchronized, B.returns, hI, fun i hi => Or.inl ⟨i, hi, rfl⟩, fun a ha => Or.inr ha, hNe⟩ hZl hx s.heap [] _ hP va_S.rf hl
theorem wRecv {s : State} {H : Heap} {D : va_G} {cl : List vw_C} {a q0 ci : Nat} {q : vw_C} {fs : List Value} {ws : va_W} {tys : List (ClassId × FieldType)} (hK : va_K D cl tys s) (hP : va_P D cl ws H) (hc : cl[ci]? = some q) (he : ws[q0]? = some (a, .inr (ci, fs))) : ∃ cell : Cell, H[a]? = some cell ∧ cell.vm = .none ∧ s.vm.findClass q.1 = some cell.cls := by
  obtain ⟨q', h1, cell, g1, g2, g3, -⟩ := hP q0 _ he
  exact ⟨cell, g1, g3, by rw [g2]; exact (hK.1 ci q hc).2.1⟩
theorem wr_athrowO {p : Program} {l : Launch} {e : Env} {R : Room} {s : State} {m : MethodId} {args : Array Value} {below : List Frame} {meth : Method} {c : Code} {cc : ByteArray} {own : String} {nL : Nat} {ret : Option FieldType} {D : va_G} {cl : List vw_C} {sp : List wCell} {q : Nat → Nat} {ca : wCA} {A : Nat → Prop} {kc ks : Nat} {μ : wMem} {lv : List (Nat × Value)} {st : List Value} {sp0 sp2 : List wCell} {q0 : Nat → Nat} {μ2 : wMem} {x : Nat} {fs : List (Nat × Nat)} (pc : Nat) (C : wC p R s m args meth c cc own nL ret D cl sp q ca A) (hd : decode cc pc = .ok (.athrow, 1)) (hs : sp[x]? = some (.inl (8, fs))) (hcl : cl = vwCl) (hsp : sp = sp2) (hq0 : ∀ j, j < sp0.length → q j = q0 j) (hx : ∀ z ∈ c.exceptionTable.toList, False) (hk : kc ≤ R.cells ∧ ks ≤ R.slots) (h : μ = μ2) : wJ p l e R s m args below meth c nL D cl sp q ca A (vq_MQ below (va_Qv (fun (_ : Unit) => False) (fun _ _ => True) A) (wXq D cl sp0 sp2 q0 ca μ2 x A) args s R.cells R.slots A) kc ks μ pc lv (.ref (q x) :: st) := by
  intro H locs ls h1 h2 h3
  subst hcl
  obtain ⟨cell, g1, g2, g3⟩ := wRecv C.2.2.2.2.2.1 h1 (q := (RX8, TX8, 8)) (ci := 8) rfl (wWs_get hs)
  exact vx_athrow C.1 C.2.1 hd (vq_out (E := "OnePassport$Fault") (fun z hz => (hx z hz).elim) C.2.2.2.2.2.2.1 g1 g2 g3 (fun t ht hv => ⟨q, hq0, ⟨rfl, rfl, by rw [ht, ← h, ← hsp]; exact h1, by rw [← hsp]; exact C.2.2.2.2.2.2.2.2.1, by rw [← hsp]; exact C.2.2.2.2.2.2.2.2.2.1⟩, h2.F ht⟩) h2.2.2 hk.1 hk.2)
theorem wr_VTo {p : Program} {l : Launch} {e : Env} {R : Room} {s : State} {m : MethodId} {args : Array Value} {below : List Frame} {meth : Method} {c : Code} {cc : ByteArray} {own : String} {nL : Nat} {ret : Option FieldType} {D : va_G} {cl : List vw_C} {sp : List wCell} {q : Nat → Nat} {ca : wCA} {A : Nat → Prop} {kc ks : Nat} {μ : wMem} {lv : List (Nat × Value)} {st : List Value} {sp0 sp2 : List wCell} {q0 : Nat → Nat} {μ2 : wMem} {x : Nat} {Z : (Nat → Prop) → State → Heap → Prop} {y : MethodName} {cc1 : ByteArray} {nL1 ix ci N b : Nat} {ret1 : Option FieldType} {rm : Room} {As : List Value} {T : u_T} {fs : List (Nat × Nat)} {kc1 ks1 : Nat} (pc : Nat) (rest : List Value) (C : wC p R s m args meth c cc own nL ret D cl sp q ca A) (hd : decode cc pc = .ok (.invokevirtual ix, 3)) (hM : wMT Z l y cc1 nL1 ret1 rm D cl sp sp2 q ca (.ref (q b) :: As) μ μ2 x) (hO : wOkV y cc1 nL1 ret1 As.length) (hl : Cond.methodLink own ix y ∈ lw_all) (hs : sp[b]? = some (.inl (ci, fs))) (hc : cl[ci]? = some (y.cls, T, N)) (hok : wZok Z) (hZ : Z A s s.heap) (hle : sp0.length ≤ sp.length) (hq0 : ∀ j, j < sp0.length → q j = q0 j) (hx : ∀ z ∈ c.exceptionTable.toList, False) (hF : wFit rm nL1 R kc ks kc1 ks1) (hk : kc1 ≤ R.cells ∧ ks1 ≤ R.slots) (hw : (rest.map fun v => v.category).sum ≤ 8) (hst : st = As.reverse ++ .ref (q b) :: rest) : wJ p l e R s m args below meth c nL D cl sp q ca A (vq_MQ below (va_Qv (fun (_ : Unit) => False) (fun _ _ => True) A) (wXq D cl sp0 sp2 q0 ca μ2 x A) args s R.cells R.slots A) kc ks μ pc lv st := by
  intro H locs ls h1 h2 h3
  subst hst
  obtain ⟨f1, f2, f3, f4, f5, f6⟩ := hF
  subst f1; subst f2
  obtain ⟨o1, o2, o3, o4, o5⟩ := hO
  have hA := wA_in h2 C.2.2.2.2.2.2.2.2.2.1 C.2.2.2.2.2.2.2.2.2.2.1
  exact vq_callv (vq_runV (rest := rest) (As := As) ⟨C.1, C.2.1, C.2.2.1, C.2.2.2.1, C.2.2.2.2.1⟩ (hM H.size) (cwV As.length C.2.2.2.2.1 (lw_V hl o1 o2 o3 o4) rfl rfl rfl ⟨rfl, o5⟩ ⟨f3, f4⟩) ⟨w_blindK hok, va_recv C.2.2.2.2.2.1 h1 hc (wWs_get hs), fun U hU hW => ⟨rfl, by rw [hU], by rw [hU]; exact h1, va_K.moved hW.alike C.2.2.2.2.2.1, C.2.2.2.2.2.2.2.2.1, wNest_warm hW C.2.2.2.2.2.2.2.2.2.2.2, by rw [hU]; exact hok A (wA sp q H.size) s U H (Or.inl hW) hZ h2.2.1 hA⟩⟩ rfl rfl h3.1 rfl (lv_room hw) hd ⟨f5, f6⟩) h2 (fun a _ h => hA a h) hA (fun a _ h => hA a h)
    (fun E ce q9 u t H1 locs1 ht hvm hpu hB hz hkp hS hcell hnone hcls => vq_out (fun z hz => (hx z hz).elim) C.2.2.2.2.2.2.1 hcell hnone hcls (fun t' ht' _ => ⟨u, fun j hj => (hpu j (Nat.lt_of_lt_of_le hj hle)).trans (hq0 j hj), ⟨hB.1, hB.2.1, by rw [ht', ← ht]; exact hB.2.2.1, hB.2.2.2.1, fun i hi => hA _ (hB.2.2.2.2 i hi)⟩, hS.F ht'⟩) hS.2.2 hk.1 hk.2)
    (fun _ _ _ _ _ _ hpost => hpost.elim)
