set_option maxRecDepth 100000
def wOkI (y : MethodName) (cc : ByteArray) (nL n : Nat) : Prop := Cond.initialized y.cls ∈ lw_all ∧ Cond.instanceMethod y ∈ lw_all ∧ Cond.code y cc nL none ∈ lw_all ∧ y.name = "<init>" ∧ y.cls ≠ "java/lang/invoke/MethodHandle" ∧ y.cls ≠ "java/lang/invoke/VarHandle" ∧ (parseMethodDescriptor y.desc).map (fun d => d.parameters.length) = some n
/-- a constructor's call -/
theorem wr_Ig {p : Program} {l : Launch} {e : Env} {R : Room} {s : State} {m : MethodId} {args : Array Value} {below : List Frame} {meth : Method} {c : Code} {cc : ByteArray} {own : String} {nL : Nat} {ret : Option FieldType} {D : va_G} {cl : List vw_C} {sp : List wCell} {q : Nat → Nat} {ca : wCA} {A : Nat → Prop} {Q : State → Prop} {kc ks : Nat} {μ : wMem} {lv : List (Nat × Value)} {st : List Value} {y : MethodName} {cc1 : ByteArray} {nL1 ix b : Nat} {rm : Room} {As : List Value} {sp1 : List wCell} {μ1 : wMem} {kc1 ks1 : Nat} (pc : Nat) (rest : List Value) (C : wC p R s m args meth c cc own nL ret D cl sp q ca A) (hd : decode cc pc = .ok (.invokespecial ix, 3)) (hM : wMg l y cc1 nL1 rm D cl sp sp1 q ca (.ref (q b) :: As) μ μ1) (hO : wOkI y cc1 nL1 As.length) (hl : Cond.methodLink own ix y ∈ lw_all) (hF : wFit rm nL1 R kc ks kc1 ks1) (hw : (rest.map fun v => v.category).sum ≤ 8) (hst : st = As.reverse ++ .ref (q b) :: rest) (k : ∀ q1 : Nat → Nat, (∀ j, j < sp.length → q1 j = q j) → wC p R s m args meth c cc own nL ret D cl sp1 q1 ca A → wJ p l e R s m args below meth c nL D cl sp1 q1 ca A Q kc1 ks1 μ1 (pc + 3) lv rest) : wJ p l e R s m args below meth c nL D cl sp q ca A Q kc ks μ pc lv st := by
  intro H locs ls h1 h2 h3
  subst hst
  obtain ⟨f1, f2, f3, f4, f5, f6⟩ := hF
  subst f1; subst f2
  obtain ⟨o1, o2, o3, o4, o5⟩ := hO
  have hA := wA_in h2 C.2.2.2.2.2.2.2.2.2.1 C.2.2.2.2.2.2.2.2.2.2.1
  have hts := C.2.2.2.2.1
  exact va_callv (va_runI (rest := rest) (As := As) ⟨C.1, C.2.1, C.2.2.1, C.2.2.2.1, C.2.2.2.2.1⟩ (hM H.size) (cwI As.length hts (lw_meth o3) rfl rfl rfl (hts _ o1) (hts _ hl) (hts _ o2) o4 o5 ⟨f3, f4⟩) ⟨w_blind, fun U hU hW => ⟨rfl, by rw [hU], by rw [hU]; exact h1, va_K.moved hW.alike C.2.2.2.2.2.1, C.2.2.2.2.2.2.2.2.1, wNest_warm hW C.2.2.2.2.2.2.2.2.2.2.2⟩⟩ rfl rfl h3.1 rfl (lv_room hw) hd ⟨f5, f6⟩) h2 (fun a _ h => hA a h) hA (fun u t H1 locs1 ht hvm hpost hB hz hk hS => by
    rw [ht] at hB
    obtain ⟨a1, a2, a3, a4, a5, a6, a7, a8, a9, a10, a11, a12⟩ := C
    exact k u hpost ⟨a1, a2, a3, a4, a5, a6, a7, a8, hB.2.1, fun i hi => hA _ (hB.2.2 i hi), a11, a12⟩ H1 locs1 ls hB.1 hS h3)
/-- a memory with ints copied from one cell to another -/
def wCpy (μ : wMem) (c0 c1 a b n : Nat) : wMem := (va_up μ.1 c1 (va_cpy (μ.1 c0) (μ.1 c1) a b n), μ.2)
theorem wCv_up {q : Nat → Nat} {ca : wCA} {μ : wMem} {c k : Nat} {f : Nat → Int32} {d : wCell} (h : k ≠ c) : wCv q ca (va_up μ.1 c f, μ.2) k d = wCv q ca μ k d := by
  have hf : ∀ j g, wFv q (va_up μ.1 c f, μ.2) k j g = wFv q μ k j g := by
    intro j g
    unfold wFv va_up
    split <;> simp [h]
  cases d with
  | inl o => simp [wCv, wFs, hf]
  | inr a => simp [wCv, va_up, h]
theorem ok_b_fits {v : Int32} (h : ok_b v = true) : fits .boolean (.int v) = true := by
  simp only [ok_b, Bool.or_eq_true, beq_iff_eq] at h
  rcases h with rfl | rfl <;> rfl
theorem wr_copyI {p : Program} {l : Launch} {e : Env} {R : Room} {s : State} {m : MethodId} {args : Array Value} {below : List Frame} {meth : Method} {c : Code} {cc : ByteArray} {own : String} {nL : Nat} {ret : Option FieldType} {D : va_G} {cl : List vw_C} {sp : List wCell} {q : Nat → Nat} {ca : wCA} {A : Nat → Prop} {Q : State → Prop} {kc ks : Nat} {μ : wMem} {lv : List (Nat × Value)} {st : List Value} {c0 c1 n0 n1 ix : Nat} {a b n : Int32} {μ1 : wMem} (pc : Nat) (C : wC p R s m args meth c cc own nL ret D cl sp q ca A) (hd : decode cc pc = .ok (.invokestatic ix, 3)) (hl : Cond.methodLink own ix arraycopyName ∈ lw_all) (hnat : Cond.native arraycopyName ∈ lw_all) (hstat : Cond.static arraycopyName ∈ lw_all) (hini : Cond.initialized "java/lang/System" ∈ lw_all) (hs0 : sp[c0]? = some (.inr (0, n0))) (hs1 : sp[c1]? = some (.inr (0, n1))) (h1 : ¬ a < 0 ∧ ¬ b < 0 ∧ ¬ n < 0 ∧ a.toNatClampNeg + n.toNatClampNeg ≤ n0 ∧ b.toNatClampNeg + n.toNatClampNeg ≤ n1) (hF : 1 ≤ R.frames ∧ (st.map fun v => v.category).sum + 18 ≤ R.locals) (hμ : μ1 = wCpy μ c0 c1 a.toNatClampNeg b.toNatClampNeg n.toNatClampNeg) (k : wJ p l e R s m args below meth c nL D cl sp q ca A Q kc ks μ1 (pc + 3) lv st) : wJ p l e R s m args below meth c nL D cl sp q ca A Q kc ks μ pc lv (.int n :: .int b :: .ref (q c1) :: .int a :: .ref (q c0) :: st) :=
  fun H locs ls g1 g2 g3 => va_copyi C.1 C.2.1 (C.2.2.1.trans g3.1.symm) C.2.2.2.1 (C.2.2.2.2.1 _ hl) (C.2.2.2.2.1 _ hnat) (C.2.2.2.2.1 _ hstat) (C.2.2.2.2.1 _ hini) C.2.2.2.2.2.1 g1 (wWs_D C.2.2.2.2.2.2.2.2.1 C.2.2.2.2.2.2.2.2.2.1 μ) g2 c0 c1 0 0 (ty := .int) (wWs_get hs0) (wWs_get hs1) rfl rfl rfl h1.1 h1.2.1 h1.2.2.1 h1.2.2.2.1 h1.2.2.2.2 (fun _ _ => rfl) hF.1 hF.2 hd (fun H1 locs1 e1 e2 e3 => k H1 locs1 ls (by
    have hw : (wWs sp q ca μ).set c1 (q c1, .inl (ca.1 0, n1, .inl (va_cpy (μ.1 c0) (μ.1 c1) a.toNatClampNeg b.toNatClampNeg n.toNatClampNeg))) = wWs sp q ca μ1 := by
      rw [hμ]
      exact wWs_set hs1 (by simp [wCv, wCpy, va_up]) (fun k d h => wCv_up h)
    rw [← hw]; exact e1) e3 g3)
theorem wr_putZ {p : Program} {l : Launch} {e : Env} {R : Room} {s : State} {m : MethodId} {args : Array Value} {below : List Frame} {meth : Method} {c : Code} {cc : ByteArray} {own : String} {nL : Nat} {ret : Option FieldType} {D : va_G} {cl : List vw_C} {sp : List wCell} {q : Nat → Nat} {ca : wCA} {A : Nat → Prop} {Q : State → Prop} {kc ks : Nat} {μ : wMem} {lv : List (Nat × Value)} {st : List Value} {c0 ci N x ix : Nat} {Cn : String} {T : u_T} {fs : List (Nat × Nat)} {v : Int32} {μ' : wMem} (pc j : Nat) (C : wC p R s m args meth c cc own nL ret D cl sp q ca A) (hd : decode cc pc = .ok (.putfield ix, 3)) (hs : sp[c0]? = some (.inl (ci, fs))) (hc : cl[ci]? = some (Cn, T, N)) (hin : ∀ w ∈ u_ws Cn T N, w ∈ lw_all) (ty0 : Nat → FieldType) (hty : ∀ k, k < N → parseFieldDescriptor (T k).2.2.1 = some (ty0 k)) (hnm : ∀ a, a < N → ∀ b, b < N → a ≠ b → (T a).2.1 ≠ (T b).2.1) (hj : j < N) (hf : fs[j]? = some (0, x)) (hl : Cond.fieldLink own ix (T j).1 (T j).2.1 (T j).2.2.1 ∈ lw_all) (hfin : (T j).2.2.2 = false) (ht : ty0 j = .boolean) (hb : ok_b v = true) (hμ : μ' = wSI μ c0 j v) (k : wJ p l e R s m args below meth c nL D cl sp q ca A Q kc ks μ' (pc + 3) lv st) : wJ p l e R s m args below meth c nL D cl sp q ca A Q kc ks μ pc lv (.int v :: .ref (q c0) :: st) :=
  fun H locs ls h1 h2 h3 => va_put (ty := .boolean) C.1 C.2.1 C.2.2.2.2.1 hin ty0 hty hnm C.2.2.2.1 C.2.2.2.2.2.1 h1 (wWs_D C.2.2.2.2.2.2.2.2.1 C.2.2.2.2.2.2.2.2.2.1 μ) h2 c0 (wWs_get hs) hc j hj (C.2.2.2.2.1 _ hl) (fun _ h9 => h9) hfin (by rw [hty j hj, ht]) (ok_b_nar hb) (ok_b_fits hb) (by have := (List.getElem?_eq_some_iff.mp hf).1; simpa [wFs] using this) hd (fun H1 locs1 g1 g2 g3 => k H1 locs1 ls (by rw [hμ, ← wWs_setFI hs hf]; exact g1) g3 h3)
