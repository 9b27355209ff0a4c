set_option maxRecDepth 100000
def RJ8 : String := "java/lang/Throwable"
def RJ9 : String := "java/lang/Exception"
/-- null (3), or the old address d - 4 -/
def wLit : Nat → Value
  | n + 4 => .ref n
  | _ => .null
theorem wLit_fv {q : Nat → Nat} {μ : wMem} {c j d x : Nat} (h : 3 ≤ d) : wFv q μ c j (d, x) = wLit d := by
  match d, h with
  | 3, _ => rfl
  | n + 4, _ => rfl
theorem wFs_setZ {q : Nat → Nat} {μ : wMem} {c j d : Nat} {fs : List (Nat × Nat)} (h : 3 ≤ d) : (wFs q μ c fs).set j (wLit d) = wFs q μ c (fs.set j (d, 0)) := by
  apply List.ext_getElem?
  intro i
  rw [List.getElem?_set]
  simp only [wFs, List.getElem?_mapIdx, List.length_mapIdx, List.getElem?_set]
  by_cases hi : j = i
  · subst hi
    rw [if_pos rfl, if_pos rfl]
    by_cases hl : j < fs.length
    · rw [if_pos hl, if_pos hl]
      show some (wLit d) = some (wFv q μ c j (d, 0))
      rw [wLit_fv h]
    · rw [if_neg hl, if_neg hl]; rfl
  · rw [if_neg hi, if_neg hi]
theorem va_Zq_lit {C n d0 : String} {A : Nat → Prop} {U : State} {H : Heap} (h : va_Zq C n d0 A U H) : ∃ d, 3 ≤ d ∧ va_Z C n d0 (wLit d) A U H := by
  rcases h with h | ⟨t, h⟩
  · exact ⟨3, Nat.le_refl _, h⟩
  · exact ⟨t + 4, by omega, h⟩
theorem wr_getsLit {p : Program} {l : Launch} {e : Env} {R : Room} {s : State} {m : MethodId} {args : Array Value} {below : List Frame} {meth : Method} {c : Code} {cc : ByteArray} {own : String} {nL : Nat} {ret : Option FieldType} {D : va_G} {cl : List vw_C} {sp : List wCell} {q : Nat → Nat} {ca : wCA} {A : Nat → Prop} {Q : State → Prop} {kc ks : Nat} {μ : wMem} {lv : List (Nat × Value)} {st : List Value} {d ix : Nat} {Cn n0 d0 : String} (pc : Nat) (C : wC p R s m args meth c cc own nL ret D cl sp q ca A) (hd : decode cc pc = .ok (.getstatic ix, 3)) (hZ : va_Z Cn n0 d0 (wLit d) A s s.heap) (hl : Cond.fieldLink own ix Cn n0 d0 ∈ lw_all) (k : wJ p l e R s m args below meth c nL D cl sp q ca A Q kc ks μ (pc + 3) lv (wLit d :: st)) : wJ p l e R s m args below meth c nL D cl sp q ca A Q kc ks μ pc lv st :=
  fun H locs ls h1 h2 h3 => va_gets C.1 C.2.1 hZ h2 C.2.2.2.1 (C.2.2.2.2.1 _ hl) (fun _ h9 => h9) hd (k H locs ls h1 h2 h3)
theorem wLit_all {P : Value → Prop} (h1 : P .null) (h2 : ∀ a : Nat, P (.ref a)) : ∀ d, P (wLit d) := fun d => by
  match d with
  | 0 => exact h1
  | 1 => exact h1
  | 2 => exact h1
  | 3 => exact h1
  | n + 4 => exact h2 n
theorem wr_putLit {p : Program} {l : Launch} {e : Env} {R : Room} {s : State} {m : MethodId} {args : Array Value} {below : List Frame} {meth : Method} {c : Code} {cc : ByteArray} {own : String} {nL : Nat} {ret : Option FieldType} {D : va_G} {cl : List vw_C} {sp : List wCell} {q : Nat → Nat} {ca : wCA} {A : Nat → Prop} {Q : State → Prop} {kc ks : Nat} {μ : wMem} {lv : List (Nat × Value)} {st : List Value} {c0 ci N ix d : Nat} {Cn : String} {T : u_T} {fs : List (Nat × Nat)} (pc j : Nat) (sp1 : List wCell) (C : wC p R s m args meth c cc own nL ret D cl sp q ca A) (hd : decode cc pc = .ok (.putfield ix, 3)) (h3d : 3 ≤ d) (hs : sp[c0]? = some (.inl (ci, fs))) (hc : cl[ci]? = some (Cn, T, N)) (hin : ∀ w ∈ u_ws Cn T N, w ∈ lw_all) (ty0 : Nat → FieldType) (hty : ∀ k, k < N → parseFieldDescriptor (T k).2.2.1 = some (ty0 k)) (hnm : ∀ a, a < N → ∀ b, b < N → a ≠ b → (T a).2.1 ≠ (T b).2.1) (hj : j < N) (hjl : j < fs.length) (hl : Cond.fieldLink own ix (T j).1 (T j).2.1 (T j).2.2.1 ∈ lw_all) (hfin : (T j).2.2.2 = false) (hnar : narrow (ty0 j) (wLit d) = wLit d) (hfit : fits (ty0 j) (wLit d) = true) (hsp : sp1 = sp.set c0 (.inl (ci, fs.set j (d, 0)))) (k : wC p R s m args meth c cc own nL ret D cl sp1 q ca A → wJ p l e R s m args below meth c nL D cl sp1 q ca A Q kc ks μ (pc + 3) lv st) : wJ p l e R s m args below meth c nL D cl sp q ca A Q kc ks μ pc lv (wLit d :: .ref (q c0) :: st) :=
  fun H locs ls h1 h2 h3 => va_put (ty := ty0 j) C.1 C.2.1 C.2.2.2.2.1 hin ty0 hty hnm C.2.2.2.1 C.2.2.2.2.2.1 h1 (wWs_D C.2.2.2.2.2.2.2.2.1 C.2.2.2.2.2.2.2.2.2.1 μ) h2 c0 (wWs_get hs) hc j hj (C.2.2.2.2.1 _ hl) (fun _ h9 => h9) hfin (hty j hj) hnar hfit (by simpa [wFs] using hjl) hd (fun H1 locs1 g1 g2 g3 => by
    have e : (wWs sp q ca μ).set c0 (q c0, .inr (ci, (wFs q μ c0 fs).set j (wLit d))) = wWs sp1 q ca μ := by
      rw [hsp, wFs_setZ h3d]
      exact wWs_setD (d1 := Sum.inl (ci, fs.set j (d, 0))) (List.getElem?_eq_some_iff.mp hs).1
    rw [e] at g1 g2
    exact k (wC_new C g2) H1 locs1 ls g1 g3 h3)
/-- a final field of type int, in the constructor -/
theorem wr_putFI {p : Program} {l : Launch} {e : Env} {R : Room} {s : State} {m : MethodId} {args : Array Value} {below : List Frame} {meth : Method} {c : Code} {cc : ByteArray} {own : String} {nL : Nat} {ret : Option FieldType} {D : va_G} {cl : List vw_C} {sp : List wCell} {q : Nat → Nat} {ca : wCA} {A : Nat → Prop} {Q : State → Prop} {kc ks : Nat} {μ : wMem} {lv : List (Nat × Value)} {st : List Value} {c0 ci N x ix : Nat} {Cn : String} {T : u_T} {fs : List (Nat × Nat)} {v : Int32} {μ' : wMem} (pc j : Nat) (C : wC p R s m args meth c cc own nL ret D cl sp q ca A) (hd : decode cc pc = .ok (.putfield ix, 3)) (hs : sp[c0]? = some (.inl (ci, fs))) (hc : cl[ci]? = some (Cn, T, N)) (hin : ∀ w ∈ u_ws Cn T N, w ∈ lw_all) (ty0 : Nat → FieldType) (hty : ∀ k, k < N → parseFieldDescriptor (T k).2.2.1 = some (ty0 k)) (hnm : ∀ a, a < N → ∀ b, b < N → a ≠ b → (T a).2.1 ≠ (T b).2.1) (hj : j < N) (hf : fs[j]? = some (0, x)) (hl : Cond.fieldLink own ix (T j).1 (T j).2.1 (T j).2.2.1 ∈ lw_all) (hfin : (T j).2.2.2 = true) (hinit : meth.name = "<init>") (hdecl : (T j).1 = own) (ht : ty0 j = .int) (hμ : μ' = wSI μ c0 j v) (k : wJ p l e R s m args below meth c nL D cl sp q ca A Q kc ks μ' (pc + 3) lv st) : wJ p l e R s m args below meth c nL D cl sp q ca A Q kc ks μ pc lv (.int v :: .ref (q c0) :: st) :=
  fun H locs ls h1 h2 h3 => va_putF (ty := .int) C.1 C.2.1 C.2.2.2.2.1 hin ty0 hty hnm C.2.2.2.1 C.2.2.2.2.2.1 h1 (wWs_D C.2.2.2.2.2.2.2.2.1 C.2.2.2.2.2.2.2.2.2.1 μ) h2 c0 (wWs_get hs) hc j hj (C.2.2.2.2.1 _ hl) (fun _ h9 => h9) hfin hinit hdecl (by rw [hty j hj, ht]) rfl rfl (by have := (List.getElem?_eq_some_iff.mp hf).1; simpa [wFs] using this) hd (fun H1 locs1 g1 g2 g3 => k H1 locs1 ls (by rw [hμ, ← wWs_setFI hs hf]; exact g1) g3 h3)
theorem wZq_ok : wZok wZq := fun A B s U H hv h hk hn => ⟨vx_Zq.narrow (vx_Zq.moved hv.alike (vx_Zq.kept h.1 hk)) hn, vx_Zq.narrow (vx_Zq.moved hv.alike (vx_Zq.kept h.2 hk)) hn⟩
theorem wMPv_introI {Z : (Nat → Prop) → State → Heap → Prop} {l : Launch} {y : MethodName} {cc : ByteArray} {nL : Nat} {ret : Option FieldType} {rm : Room} {D : va_G} {cl : List vw_C} {sp sp1 : List wCell} {q : Nat → Nat} {ca : wCA} {av : List Value} {μ μ1 : wMem} (hy : plainName y.cls = true) (hlen : (lg_sl av).length ≤ nL) (h : ∀ (p : Program) (e : Env) (s : State) (m : MethodId) (args : Array Value) (below : List Frame) (meth : Method) (c : Code) (A : Nat → Prop), meth.name = y.name → wC p rm s m args meth c cc y.cls nL ret D cl sp q ca A → Z A s s.heap → wJ p l e rm s m args below meth c nL D cl sp q ca A (MQ below (va_Qv (fun (_ : Unit) => True) (fun (_ : Unit) t => va_P D cl (wWs sp1 q ca μ1) t.heap) A) args s rm.cells rm.slots A) 0 0 μ 0 (lv_args 0 av) []) : wMPv Z l y cc nL ret rm D cl sp sp1 q ca av μ μ1 := by
  intro sz
  refine Met.ofW (cc := cc) (maxL := nL) (ret := ret) hy rfl ?_
  intro p e s m args below meth c s₁ B hml hv
  obtain ⟨rfl, hsz, hP, hK, hI, hNe, hZl⟩ := hv
  have hts0 := atoms_spec (ws := ws_ y cc nL ret) B.pre
  have hts : ∀ w ∈ lw_all, w.before _ s = true := fun w h => hts0 w (List.mem_cons_of_mem _ h)
  have hown : s.vm.findClass y.cls = some m.cls := findClass_of_methodNamed B.named
  have hnm : meth.name = y.name := (name_of_methodNamed B.named B.method).1
  subst hsz
  have hl := lv_entry av (n := nL) hlen
  rw [lg_entry_eq]
  exact h p e s m av.toArray below meth c (wA sp q s.heap.size) hnm ⟨B.exec, B.bytes, hml, hown, hts, hK, B.notSynchronized, B.returns, hI, fun i hi => Or.inl ⟨i, hi, rfl⟩, fun a ha => Or.inr ha, hNe⟩ hZl s.heap [] _ hP va_S.rf hl
/-- a constructor that keeps the world's cells -/
theorem wr_IPv {p : Program} {l : Launch} {e : Env} {R : Room} {s : State} {m : MethodId} {args : Array Value} {below : List Frame} {meth : Method} {c : Code} {cc : ByteArray} {own : String} {nL : Nat} {ret : Option FieldType} {D : va_G} {cl : List vw_C} {sp : List wCell} {q : Nat → Nat} {ca : wCA} {A : Nat → Prop} {Q : State → Prop} {kc ks : Nat} {μ : wMem} {lv : List (Nat × Value)} {st : List Value} {Z : (Nat → Prop) → State → Heap → Prop} {y : MethodName} {cc1 : ByteArray} {nL1 ix b : Nat} {rm : Room} {As : List Value} {sp1 : List wCell} {μ1 : wMem} {kc1 ks1 : Nat} (pc : Nat) (rest : List Value) (C : wC p R s m args meth c cc own nL ret D cl sp q ca A) (hd : decode cc pc = .ok (.invokespecial ix, 3)) (hM : wMPv Z l y cc1 nL1 none rm D cl sp sp1 q ca (.ref (q b) :: As) μ μ1) (hO : wOkI y cc1 nL1 As.length) (hl : Cond.methodLink own ix y ∈ lw_all) (hok : wZok Z) (hZ : Z A s s.heap) (hlen : sp1.length = sp.length) (hF : wFit rm nL1 R kc ks kc1 ks1) (hw : (rest.map fun v => v.category).sum ≤ 8) (hst : st = As.reverse ++ .ref (q b) :: rest) (k : wC p R s m args meth c cc own nL ret D cl sp1 q ca A → wJ p l e R s m args below meth c nL D cl sp1 q ca A Q kc1 ks1 μ1 (pc + 3) lv rest) : wJ p l e R s m args below meth c nL D cl sp q ca A Q kc ks μ pc lv st := by
  intro H locs ls h1 h2 h3
  subst hst
  obtain ⟨f1, f2, f3, f4, f5, f6⟩ := hF
  subst f1; subst f2
  obtain ⟨o1, o2, o3, o4, o5⟩ := hO
  have hA := wA_in h2 C.2.2.2.2.2.2.2.2.2.1 C.2.2.2.2.2.2.2.2.2.2.1
  have hts := C.2.2.2.2.1
  exact va_callv (va_runI (rest := rest) (As := As) ⟨C.1, C.2.1, C.2.2.1, C.2.2.2.1, C.2.2.2.2.1⟩ (hM H.size) (cwI As.length hts (lw_meth o3) rfl rfl rfl (hts _ o1) (hts _ hl) (hts _ o2) o4 o5 ⟨f3, f4⟩) ⟨w_blindK hok, fun U hU hW => ⟨rfl, by rw [hU], by rw [hU]; exact h1, va_K.moved hW.alike C.2.2.2.2.2.1, C.2.2.2.2.2.2.2.2.1, wNest_warm hW C.2.2.2.2.2.2.2.2.2.2.2, by rw [hU]; exact hok A (wA sp q H.size) s U H (Or.inl hW) hZ h2.2.1 hA⟩⟩ rfl rfl h3.1 rfl (lv_room hw) hd ⟨f5, f6⟩) h2 (fun a _ h => hA a h) hA (fun u t H1 locs1 ht hvm hpost hB hz hk hS => by
    rw [ht] at hB
    exact k (wC_len C hlen) H1 locs1 ls hB hS h3)
abbrev cJ8_init_2 : ByteArray := prog_31_method_5_code
def yJ8_init_2 : MethodName := ⟨RJ8, "<init>", "(Ljava/lang/String;Ljava/lang/Throwable;ZZ)V"⟩
def dkwJ8_init_2_2 : List UInt8 := [44, 181, 0, 7, 29, 154, 0, 8, 42, 1, 181, 0, 24, 177]
abbrev dktJ8_init_2_2 : List UInt8 := dkwJ8_init_2_2 ++ []
def dkwJ8_init_2_1 : List UInt8 := [21, 4, 153, 0, 11, 42, 182, 0, 27, 87, 167, 0, 8, 42, 1, 181, 0, 17, 42, 43, 181, 0, 31, 42]
abbrev dktJ8_init_2_1 : List UInt8 := dkwJ8_init_2_1 ++ dktJ8_init_2_2
def dkwJ8_init_2_0 : List UInt8 := [42, 183, 0, 1, 42, 42, 181, 0, 7, 42, 178, 0, 13, 181, 0, 17, 42, 178, 0, 20, 181, 0, 24]
abbrev dktJ8_init_2_0 : List UInt8 := dkwJ8_init_2_0 ++ dktJ8_init_2_1
theorem dksJ8_init_2_0 : cJ8_init_2.data.toList.drop 0 = dktJ8_init_2_0 := by decide +kernel
theorem dksJ8_init_2_1 : cJ8_init_2.data.toList.drop 23 = dktJ8_init_2_1 := dk_seg dksJ8_init_2_0 23 rfl rfl
theorem dksJ8_init_2_2 : cJ8_init_2.data.toList.drop 47 = dktJ8_init_2_2 := dk_seg dksJ8_init_2_1 24 rfl rfl
theorem dJ8_init_2_0 : decode cJ8_init_2 0 = .ok (.aload_n 0, 1) := dk_42 (dk_at dksJ8_init_2_0 0 rfl rfl)
theorem dJ8_init_2_1 : decode cJ8_init_2 1 = .ok (.invokespecial 1, 3) := dk_183 0 1 (dk_at dksJ8_init_2_0 1 rfl rfl)
theorem dJ8_init_2_4 : decode cJ8_init_2 4 = .ok (.aload_n 0, 1) := dk_42 (dk_at dksJ8_init_2_0 4 rfl rfl)
theorem dJ8_init_2_5 : decode cJ8_init_2 5 = .ok (.aload_n 0, 1) := dk_42 (dk_at dksJ8_init_2_0 5 rfl rfl)
theorem dJ8_init_2_6 : decode cJ8_init_2 6 = .ok (.putfield 7, 3) := dk_181 0 7 (dk_at dksJ8_init_2_0 6 rfl rfl)
theorem dJ8_init_2_9 : decode cJ8_init_2 9 = .ok (.aload_n 0, 1) := dk_42 (dk_at dksJ8_init_2_0 9 rfl rfl)
theorem dJ8_init_2_10 : decode cJ8_init_2 10 = .ok (.getstatic 13, 3) := dk_178 0 13 (dk_at dksJ8_init_2_0 10 rfl rfl)
theorem dJ8_init_2_13 : decode cJ8_init_2 13 = .ok (.putfield 17, 3) := dk_181 0 17 (dk_at dksJ8_init_2_0 13 rfl rfl)
theorem dJ8_init_2_16 : decode cJ8_init_2 16 = .ok (.aload_n 0, 1) := dk_42 (dk_at dksJ8_init_2_0 16 rfl rfl)
theorem dJ8_init_2_17 : decode cJ8_init_2 17 = .ok (.getstatic 20, 3) := dk_178 0 20 (dk_at dksJ8_init_2_0 17 rfl rfl)
theorem dJ8_init_2_20 : decode cJ8_init_2 20 = .ok (.putfield 24, 3) := dk_181 0 24 (dk_at dksJ8_init_2_0 20 rfl rfl)
theorem dJ8_init_2_23 : decode cJ8_init_2 23 = .ok (.iload 4, 2) := dk_21 4 (dk_at dksJ8_init_2_1 0 rfl rfl)
theorem dJ8_init_2_25 : decode cJ8_init_2 25 = .ok (.ifCond .eq 11, 3) := dk_153 0 11 (dk_at dksJ8_init_2_1 2 rfl rfl)
theorem dJ8_init_2_28 : decode cJ8_init_2 28 = .ok (.aload_n 0, 1) := dk_42 (dk_at dksJ8_init_2_1 5 rfl rfl)
theorem dJ8_init_2_29 : decode cJ8_init_2 29 = .ok (.invokevirtual 27, 3) := dk_182 0 27 (dk_at dksJ8_init_2_1 6 rfl rfl)
theorem dJ8_init_2_32 : decode cJ8_init_2 32 = .ok (.pop, 1) := dk_87 (dk_at dksJ8_init_2_1 9 rfl rfl)
theorem dJ8_init_2_33 : decode cJ8_init_2 33 = .ok (.goto 8, 3) := dk_167 0 8 (dk_at dksJ8_init_2_1 10 rfl rfl)
theorem dJ8_init_2_36 : decode cJ8_init_2 36 = .ok (.aload_n 0, 1) := dk_42 (dk_at dksJ8_init_2_1 13 rfl rfl)
theorem dJ8_init_2_37 : decode cJ8_init_2 37 = .ok (.aconst_null, 1) := dk_1 (dk_at dksJ8_init_2_1 14 rfl rfl)
theorem dJ8_init_2_38 : decode cJ8_init_2 38 = .ok (.putfield 17, 3) := dk_181 0 17 (dk_at dksJ8_init_2_1 15 rfl rfl)
theorem dJ8_init_2_41 : decode cJ8_init_2 41 = .ok (.aload_n 0, 1) := dk_42 (dk_at dksJ8_init_2_1 18 rfl rfl)
theorem dJ8_init_2_42 : decode cJ8_init_2 42 = .ok (.aload_n 1, 1) := dk_43 (dk_at dksJ8_init_2_1 19 rfl rfl)
theorem dJ8_init_2_43 : decode cJ8_init_2 43 = .ok (.putfield 31, 3) := dk_181 0 31 (dk_at dksJ8_init_2_1 20 rfl rfl)
theorem dJ8_init_2_46 : decode cJ8_init_2 46 = .ok (.aload_n 0, 1) := dk_42 (dk_at dksJ8_init_2_1 23 rfl rfl)
theorem dJ8_init_2_47 : decode cJ8_init_2 47 = .ok (.aload_n 2, 1) := dk_44 (dk_at dksJ8_init_2_2 0 rfl rfl)
theorem dJ8_init_2_48 : decode cJ8_init_2 48 = .ok (.putfield 7, 3) := dk_181 0 7 (dk_at dksJ8_init_2_2 1 rfl rfl)
theorem dJ8_init_2_51 : decode cJ8_init_2 51 = .ok (.iload_n 3, 1) := dk_29 (dk_at dksJ8_init_2_2 4 rfl rfl)
theorem dJ8_init_2_52 : decode cJ8_init_2 52 = .ok (.ifCond .ne 8, 3) := dk_154 0 8 (dk_at dksJ8_init_2_2 5 rfl rfl)
theorem dJ8_init_2_55 : decode cJ8_init_2 55 = .ok (.aload_n 0, 1) := dk_42 (dk_at dksJ8_init_2_2 8 rfl rfl)
theorem dJ8_init_2_56 : decode cJ8_init_2 56 = .ok (.aconst_null, 1) := dk_1 (dk_at dksJ8_init_2_2 9 rfl rfl)
theorem dJ8_init_2_57 : decode cJ8_init_2 57 = .ok (.putfield 24, 3) := dk_181 0 24 (dk_at dksJ8_init_2_2 10 rfl rfl)
theorem dJ8_init_2_60 : decode cJ8_init_2 60 = .ok (.return_, 1) := dk_177 (dk_at dksJ8_init_2_2 13 rfl rfl)
theorem okIJ8_init_2 : wOkI yJ8_init_2 cJ8_init_2 5 4 := ⟨q154, q641, q642, rfl, by decide, by decide, by decide +kernel⟩
theorem tJ8_init_2 (l : Launch) {D : va_G} {q : Nat → Nat} {ca : wCA} {sp : List wCell} {b : Nat} {f0 f1 f2 f3 f4 f5 f6 f7 : Nat × Nat} (hb : sp[b]? = some (.inl (8, [f0, f1, f2, f3, f4, f5, f6, f7]))) (μ : wMem) : wMPv wZq l yJ8_init_2 cJ8_init_2 5 none ({ frames := 1, cells := 0, slots := 0, locals := 20 } : Room) D vwCl sp (sp.set b (.inl (8, [(3, 0), (3, 0), (3, 0), (3, 0), f4, f5, f6, f7]))) q ca [.ref (q b), .null, .null, .int 0, .int 0] μ μ := by
  have hlt : b < sp.length := (List.getElem?_eq_some_iff.mp hb).1
  refine wMPv_intro (by decide) (Nat.le_of_ble_eq_true rfl) ?_
  intro p e s m args below meth c A C hZ
  obtain ⟨u, h3u, hZu⟩ := va_Zq_lit hZ.1.1
  obtain ⟨v, h3v, hZv⟩ := va_Zq_lit hZ.2.1
  refine wr_sub [(0, .ref (q b)), (1, .null), (2, .null), (3, .int 0), (4, .int 0)] [0, 1, 2, 3, 4] rfl ?_
  refine wr_aload_n 0 C dJ8_init_2_0 0 rfl rfl ?_
  refine wr_objInit 1 C dJ8_init_2_1 q603 q174 q175 ⟨Nat.le_of_ble_eq_true rfl, Nat.le_of_ble_eq_true rfl⟩ (Nat.le_of_ble_eq_true rfl) ?_
  refine wr_aload_n 4 C dJ8_init_2_4 0 rfl rfl ?_
  refine wr_aload_n 5 C dJ8_init_2_5 0 rfl rfl ?_
  refine wr_putR (c0 := b) (x := b) 6 0 (sp.set b (.inl (8, [(2, b), f1, f2, f3, f4, f5, f6, f7]))) C dJ8_init_2_6 hb rfl in_X8 tyX8 tyX8_ok nmX8 (by decide) (by show 0 < 8; decide) q649 rfl (fun _ => rfl) (fun _ => rfl) rfl ?_
  clear C
  intro C
  refine wr_aload_n 9 C dJ8_init_2_9 0 rfl rfl ?_
  refine wr_getsLit 10 C dJ8_init_2_10 hZu q604 ?_
  refine wr_putLit (c0 := b) (d := u) 13 1 (sp.set b (.inl (8, [(2, b), (u, 0), f2, f3, f4, f5, f6, f7]))) C dJ8_init_2_13 h3u (List.getElem?_set_self hlt) rfl in_X8 tyX8 tyX8_ok nmX8 (by decide) (by show 1 < 8; decide) q650 rfl (wLit_all (P := fun v => narrow _ v = v) rfl (fun _ => rfl) _) (wLit_all (P := fun v => fits _ v = true) rfl (fun _ => rfl) _) (by rw [List.set_set]; rfl) ?_
  clear C
  intro C
  refine wr_aload_n 16 C dJ8_init_2_16 0 rfl rfl ?_
  refine wr_getsLit 17 C dJ8_init_2_17 hZv q606 ?_
  refine wr_putLit (c0 := b) (d := v) 20 2 (sp.set b (.inl (8, [(2, b), (u, 0), (v, 0), f3, f4, f5, f6, f7]))) C dJ8_init_2_20 h3v (List.getElem?_set_self hlt) rfl in_X8 tyX8 tyX8_ok nmX8 (by decide) (by show 2 < 8; decide) q651 rfl (wLit_all (P := fun v => narrow _ v = v) rfl (fun _ => rfl) _) (wLit_all (P := fun v => fits _ v = true) rfl (fun _ => rfl) _) (by rw [List.set_set]; rfl) ?_
  clear C
  intro C
  refine wr_iload 23 C dJ8_init_2_23 4 rfl ?_
  refine wr_if_eq 25 36 C dJ8_init_2_25 (by decide) (fun _ => ?_) (fun h => absurd rfl h)
  refine wr_aload_n 36 C dJ8_init_2_36 0 rfl rfl ?_
  refine wr_aconst 37 C dJ8_init_2_37 ?_
  refine wr_putLit (c0 := b) (d := 3) 38 1 (sp.set b (.inl (8, [(2, b), (3, 0), (v, 0), f3, f4, f5, f6, f7]))) C dJ8_init_2_38 (by decide) (List.getElem?_set_self hlt) rfl in_X8 tyX8 tyX8_ok nmX8 (by decide) (by show 1 < 8; decide) q650 rfl (wLit_all (P := fun v => narrow _ v = v) rfl (fun _ => rfl) _) (wLit_all (P := fun v => fits _ v = true) rfl (fun _ => rfl) _) (by rw [List.set_set]; rfl) ?_
  clear C
  intro C
  refine wr_aload_n 41 C dJ8_init_2_41 0 rfl rfl ?_
  refine wr_aload_nq (r := none) 42 C dJ8_init_2_42 1 rfl rfl ?_
  refine wr_putLit (c0 := b) (d := 3) 43 3 (sp.set b (.inl (8, [(2, b), (3, 0), (v, 0), (3, 0), f4, f5, f6, f7]))) C dJ8_init_2_43 (by decide) (List.getElem?_set_self hlt) rfl in_X8 tyX8 tyX8_ok nmX8 (by decide) (by show 3 < 8; decide) q648 rfl (wLit_all (P := fun v => narrow _ v = v) rfl (fun _ => rfl) _) (wLit_all (P := fun v => fits _ v = true) rfl (fun _ => rfl) _) (by rw [List.set_set]; rfl) ?_
  clear C
  intro C
  refine wr_aload_n 46 C dJ8_init_2_46 0 rfl rfl ?_
  refine wr_aload_nq (r := none) 47 C dJ8_init_2_47 2 rfl rfl ?_
  refine wr_putLit (c0 := b) (d := 3) 48 0 (sp.set b (.inl (8, [(3, 0), (3, 0), (v, 0), (3, 0), f4, f5, f6, f7]))) C dJ8_init_2_48 (by decide) (List.getElem?_set_self hlt) rfl in_X8 tyX8 tyX8_ok nmX8 (by decide) (by show 0 < 8; decide) q649 rfl (wLit_all (P := fun v => narrow _ v = v) rfl (fun _ => rfl) _) (wLit_all (P := fun v => fits _ v = true) rfl (fun _ => rfl) _) (by rw [List.set_set]; rfl) ?_
  clear C
  intro C
  refine wr_iload_n 51 C dJ8_init_2_51 3 rfl rfl ?_
  refine wr_if_ne 52 60 C dJ8_init_2_52 (by decide) (fun h => absurd rfl h) (fun _ => ?_)
  refine wr_aload_n 55 C dJ8_init_2_55 0 rfl rfl ?_
  refine wr_aconst 56 C dJ8_init_2_56 ?_
  refine wr_putLit (c0 := b) (d := 3) 57 2 (sp.set b (.inl (8, [(3, 0), (3, 0), (3, 0), (3, 0), f4, f5, f6, f7]))) C dJ8_init_2_57 (by decide) (List.getElem?_set_self hlt) rfl in_X8 tyX8 tyX8_ok nmX8 (by decide) (by show 2 < 8; decide) q651 rfl (wLit_all (P := fun v => narrow _ v = v) rfl (fun _ => rfl) _) (wLit_all (P := fun v => fits _ v = true) rfl (fun _ => rfl) _) (by rw [List.set_set]; rfl) ?_
  clear C
  intro C
  exact wr_retPv 60 C dJ8_init_2_60 ⟨Nat.le_refl _, Nat.le_refl _⟩ rfl
abbrev cJ9_init : ByteArray := prog_19_method_5_code
def yJ9_init : MethodName := ⟨RJ9, "<init>", "(Ljava/lang/String;Ljava/lang/Throwable;ZZ)V"⟩
def dkwJ9_init_0 : List UInt8 := [42, 43, 44, 29, 21, 4, 183, 0, 16, 177]
abbrev dktJ9_init_0 : List UInt8 := dkwJ9_init_0 ++ []
theorem dksJ9_init_0 : cJ9_init.data.toList.drop 0 = dktJ9_init_0 := by decide +kernel
theorem dJ9_init_0 : decode cJ9_init 0 = .ok (.aload_n 0, 1) := dk_42 (dk_at dksJ9_init_0 0 rfl rfl)
theorem dJ9_init_1 : decode cJ9_init 1 = .ok (.aload_n 1, 1) := dk_43 (dk_at dksJ9_init_0 1 rfl rfl)
theorem dJ9_init_2 : decode cJ9_init 2 = .ok (.aload_n 2, 1) := dk_44 (dk_at dksJ9_init_0 2 rfl rfl)
theorem dJ9_init_3 : decode cJ9_init 3 = .ok (.iload_n 3, 1) := dk_29 (dk_at dksJ9_init_0 3 rfl rfl)
theorem dJ9_init_4 : decode cJ9_init 4 = .ok (.iload 4, 2) := dk_21 4 (dk_at dksJ9_init_0 4 rfl rfl)
theorem dJ9_init_6 : decode cJ9_init 6 = .ok (.invokespecial 16, 3) := dk_183 0 16 (dk_at dksJ9_init_0 6 rfl rfl)
theorem dJ9_init_9 : decode cJ9_init 9 = .ok (.return_, 1) := dk_177 (dk_at dksJ9_init_0 9 rfl rfl)
theorem okIJ9_init : wOkI yJ9_init cJ9_init 5 4 := ⟨q155, q638, q639, rfl, by decide, by decide, by decide +kernel⟩
theorem tJ9_init (l : Launch) {D : va_G} {q : Nat → Nat} {ca : wCA} {sp : List wCell} {b : Nat} {f0 f1 f2 f3 f4 f5 f6 f7 : Nat × Nat} (hb : sp[b]? = some (.inl (8, [f0, f1, f2, f3, f4, f5, f6, f7]))) (μ : wMem) : wMPv wZq l yJ9_init cJ9_init 5 none ({ frames := 2, cells := 0, slots := 0, locals := 44 } : Room) D vwCl sp (sp.set b (.inl (8, [(3, 0), (3, 0), (3, 0), (3, 0), f4, f5, f6, f7]))) q ca [.ref (q b), .null, .null, .int 0, .int 0] μ μ := by
  refine wMPv_intro (by decide) (Nat.le_of_ble_eq_true rfl) ?_
  intro p e s m args below meth c A C hZ
  refine wr_sub [(0, .ref (q b)), (1, .null), (2, .null), (3, .int 0), (4, .int 0)] [0, 1, 2, 3, 4] rfl ?_
  refine wr_aload_n 0 C dJ9_init_0 0 rfl rfl ?_
  refine wr_aload_nq (r := none) 1 C dJ9_init_1 1 rfl rfl ?_
  refine wr_aload_nq (r := none) 2 C dJ9_init_2 2 rfl rfl ?_
  refine wr_iload_n 3 C dJ9_init_3 3 rfl rfl ?_
  refine wr_iload 4 C dJ9_init_4 4 rfl ?_
  refine wr_IPv (kc1 := 0) (ks1 := 0) (b := b) (As := [.null, .null, .int 0, .int 0]) 6 [] C dJ9_init_6 (tJ8_init_2 l hb μ) okIJ8_init_2 q640 wZq_ok hZ (by simp) ⟨rfl, rfl, Nat.le_of_ble_eq_true rfl, Nat.le_of_ble_eq_true rfl, Nat.zero_le _, Nat.zero_le _⟩ (Nat.le_of_ble_eq_true rfl) rfl ?_
  clear C
  intro C
  exact wr_retPv 9 C dJ9_init_9 ⟨Nat.le_refl _, Nat.le_refl _⟩ rfl
abbrev cX8_init : ByteArray := prog_5_method_1_code
def yX8_init : MethodName := ⟨RX8, "<init>", "(II)V"⟩
def dkwX8_init_0 : List UInt8 := [42, 1, 1, 3, 3, 183, 0, 1, 42, 27, 181, 0, 7, 42, 28, 181, 0, 13, 177]
abbrev dktX8_init_0 : List UInt8 := dkwX8_init_0 ++ []
theorem dksX8_init_0 : cX8_init.data.toList.drop 0 = dktX8_init_0 := by decide +kernel
theorem dX8_init_0 : decode cX8_init 0 = .ok (.aload_n 0, 1) := dk_42 (dk_at dksX8_init_0 0 rfl rfl)
theorem dX8_init_1 : decode cX8_init 1 = .ok (.aconst_null, 1) := dk_1 (dk_at dksX8_init_0 1 rfl rfl)
theorem dX8_init_2 : decode cX8_init 2 = .ok (.aconst_null, 1) := dk_1 (dk_at dksX8_init_0 2 rfl rfl)
theorem dX8_init_3 : decode cX8_init 3 = .ok (.iconst 0, 1) := dk_3 (dk_at dksX8_init_0 3 rfl rfl)
theorem dX8_init_4 : decode cX8_init 4 = .ok (.iconst 0, 1) := dk_3 (dk_at dksX8_init_0 4 rfl rfl)
theorem dX8_init_5 : decode cX8_init 5 = .ok (.invokespecial 1, 3) := dk_183 0 1 (dk_at dksX8_init_0 5 rfl rfl)
theorem dX8_init_8 : decode cX8_init 8 = .ok (.aload_n 0, 1) := dk_42 (dk_at dksX8_init_0 8 rfl rfl)
theorem dX8_init_9 : decode cX8_init 9 = .ok (.iload_n 1, 1) := dk_27 (dk_at dksX8_init_0 9 rfl rfl)
theorem dX8_init_10 : decode cX8_init 10 = .ok (.putfield 7, 3) := dk_181 0 7 (dk_at dksX8_init_0 10 rfl rfl)
theorem dX8_init_13 : decode cX8_init 13 = .ok (.aload_n 0, 1) := dk_42 (dk_at dksX8_init_0 13 rfl rfl)
theorem dX8_init_14 : decode cX8_init 14 = .ok (.iload_n 2, 1) := dk_28 (dk_at dksX8_init_0 14 rfl rfl)
theorem dX8_init_15 : decode cX8_init 15 = .ok (.putfield 13, 3) := dk_181 0 13 (dk_at dksX8_init_0 15 rfl rfl)
theorem dX8_init_18 : decode cX8_init 18 = .ok (.return_, 1) := dk_177 (dk_at dksX8_init_0 18 rfl rfl)
theorem okIX8_init : wOkI yX8_init cX8_init 3 2 := ⟨q156, q635, q636, rfl, by decide, by decide, by decide +kernel⟩
theorem tX8_init (l : Launch) {D : va_G} {q : Nat → Nat} {ca : wCA} {sp : List wCell} {b : Nat} {f0 f1 f2 f3 f4 f5 : Nat × Nat} (hb : sp[b]? = some (.inl (8, [f0, f1, f2, f3, f4, f5, (0, 0), (0, 0)]))) {k f : Int32} (μ : wMem) : wMPv wZq l yX8_init cX8_init 3 none ({ frames := 3, cells := 0, slots := 0, locals := 68 } : Room) D vwCl sp (sp.set b (.inl (8, [(3, 0), (3, 0), (3, 0), (3, 0), f4, f5, (0, 0), (0, 0)]))) q ca [.ref (q b), .int k, .int f] μ (wSI (wSI μ b 6 k) b 7 f) := by
  have hlt : b < sp.length := (List.getElem?_eq_some_iff.mp hb).1
  refine wMPv_introI (by decide) (Nat.le_of_ble_eq_true rfl) ?_
  intro p e s m args below meth c A hnm C hZ
  refine wr_sub [(0, .ref (q b)), (1, .int k), (2, .int f)] [0, 1, 2] rfl ?_
  refine wr_aload_n 0 C dX8_init_0 0 rfl rfl ?_
  refine wr_aconst 1 C dX8_init_1 ?_
  refine wr_aconst 2 C dX8_init_2 ?_
  refine wr_iconst 3 C dX8_init_3 (v := 0) rfl ?_
  refine wr_iconst 4 C dX8_init_4 (v := 0) rfl ?_
  refine wr_IPv (kc1 := 0) (ks1 := 0) (b := b) (As := [.null, .null, .int 0, .int 0]) 5 [] C dX8_init_5 (tJ9_init l hb μ) okIJ9_init q637 wZq_ok hZ (by simp) ⟨rfl, rfl, Nat.le_of_ble_eq_true rfl, Nat.le_of_ble_eq_true rfl, Nat.zero_le _, Nat.zero_le _⟩ (Nat.le_of_ble_eq_true rfl) rfl ?_
  clear C
  intro C
  have hb1 := List.getElem?_set_self (a := (.inl (8, [(3, 0), (3, 0), (3, 0), (3, 0), f4, f5, (0, 0), (0, 0)]) : wCell)) hlt
  refine wr_aload_n 8 C dX8_init_8 0 rfl rfl ?_
  refine wr_iload_n 9 C dX8_init_9 1 rfl rfl ?_
  refine wr_putFI 10 6 C dX8_init_10 hb1 rfl in_X8 tyX8 tyX8_ok nmX8 (by decide) rfl q643 rfl (hnm.trans rfl) rfl rfl rfl ?_
  refine wr_aload_n 13 C dX8_init_13 0 rfl rfl ?_
  refine wr_iload_n 14 C dX8_init_14 2 rfl rfl ?_
  refine wr_putFI 15 7 C dX8_init_15 hb1 rfl in_X8 tyX8 tyX8_ok nmX8 (by decide) rfl q645 rfl (hnm.trans rfl) rfl rfl rfl ?_
  exact wr_retPv 18 C dX8_init_18 ⟨Nat.le_refl _, Nat.le_refl _⟩ rfl
