set_option maxRecDepth 100000
def RJ0 : String := "java/util/AbstractCollection"
def RJ1 : String := "java/util/AbstractList"
theorem wr_IgN {p : Program} {l : Launch} {e : Env} {R : Room} {s : State} {m : MethodId} {args : Array Value} {below : List Frame} {meth : Method} {c : Code} {cc : ByteArray} {own : String} {nL : Nat} {ret : Option FieldType} {D : va_G} {cl : List vw_C} {sp : List wCell} {q : Nat → Nat} {ca : wCA} {A : Nat → Prop} {Q : State → Prop} {kc ks : Nat} {μ : wMem} {lv : List (Nat × Value)} {st : List Value} {y : MethodName} {cc1 : ByteArray} {nL1 ix b : Nat} {rm : Room} {As : List Value} {sp1 : List wCell} {host : String} {μ1 : wMem} {kc1 ks1 : Nat} (pc : Nat) (rest : List Value) (C : wC p R s m args meth c cc own nL ret D cl sp q ca A) (hd : decode cc pc = .ok (.invokespecial ix, 3)) (hM : wMg l y cc1 nL1 rm D cl sp sp1 q ca (.ref (q b) :: As) μ μ1) (hO : wOkI y cc1 nL1 As.length) (hl : Cond.methodLinkNest own ix y host ∈ lw_tbl) (hF : wFit rm nL1 R kc ks kc1 ks1) (hw : (rest.map fun v => v.category).sum ≤ 8) (hst : st = As.reverse ++ .ref (q b) :: rest) (k : ∀ q1 : Nat → Nat, (∀ j, j < sp.length → q1 j = q j) → wC p R s m args meth c cc own nL ret D cl sp1 q1 ca A → wJ p l e R s m args below meth c nL D cl sp1 q1 ca A Q kc1 ks1 μ1 (pc + 3) lv rest) : wJ p l e R s m args below meth c nL D cl sp q ca A Q kc ks μ pc lv st := by
  intro H locs ls h1 h2 h3
  subst hst
  obtain ⟨f1, f2, f3, f4, f5, f6⟩ := hF
  subst f1; subst f2
  obtain ⟨o1, o2, o3, o4, o5⟩ := hO
  have hA := wA_in h2 C.2.2.2.2.2.2.2.2.2.1 C.2.2.2.2.2.2.2.2.2.2.1
  have hts := C.2.2.2.2.1
  exact va_callv (va_runIN (rest := rest) (As := As) ⟨C.1, C.2.1, C.2.2.1, C.2.2.2.1, C.2.2.2.2.1⟩ (hM H.size) ⟨va_cnB As.length hts (lw_meth o3) rfl rfl rfl (C.2.2.2.2.2.2.2.2.2.2.2.1.1 _ hl rfl) (hts _ o1) o5 ⟨f3, f4⟩, o4, hts _ o2⟩ ⟨w_blind, fun U hU hW => ⟨rfl, by rw [hU], by rw [hU]; exact h1, va_K.moved hW.alike C.2.2.2.2.2.1, C.2.2.2.2.2.2.2.2.1, wNest_warm hW C.2.2.2.2.2.2.2.2.2.2.2⟩⟩ rfl rfl h3.1 rfl (lv_room hw) hd ⟨f5, f6⟩) h2 (fun a _ h => hA a h) hA (fun u t H1 locs1 ht hvm hpost hB hz hk hS => by
    rw [ht] at hB
    obtain ⟨a1, a2, a3, a4, a5, a6, a7, a8, a9, a10, a11, a12⟩ := C
    exact k u hpost ⟨a1, a2, a3, a4, a5, a6, a7, a8, hB.2.1, fun i hi => hA _ (hB.2.2 i hi), a11, a12⟩ H1 locs1 ls hB.1 hS h3)
theorem wr_IKv {p : Program} {l : Launch} {e : Env} {R : Room} {s : State} {m : MethodId} {args : Array Value} {below : List Frame} {meth : Method} {c : Code} {cc : ByteArray} {own : String} {nL : Nat} {ret : Option FieldType} {D : va_G} {cl : List vw_C} {sp : List wCell} {q : Nat → Nat} {ca : wCA} {A : Nat → Prop} {Q : State → Prop} {kc ks : Nat} {μ : wMem} {lv : List (Nat × Value)} {st : List Value} {Z : (Nat → Prop) → State → Heap → Prop} {y : MethodName} {cc1 : ByteArray} {nL1 ix b : Nat} {rm : Room} {As : List Value} {sp1 : List wCell} {μ1 : wMem} {kc1 ks1 : Nat} (pc : Nat) (rest : List Value) (C : wC p R s m args meth c cc own nL ret D cl sp q ca A) (hd : decode cc pc = .ok (.invokespecial ix, 3)) (hM : wMKv Z l y cc1 nL1 none rm D cl sp sp1 q ca (.ref (q b) :: As) μ μ1) (hO : wOkI y cc1 nL1 As.length) (hl : Cond.methodLink own ix y ∈ lw_all) (hok : wZok Z) (hZ : Z A s s.heap) (hF : wFit rm nL1 R kc ks kc1 ks1) (hw : (rest.map fun v => v.category).sum ≤ 8) (hst : st = As.reverse ++ .ref (q b) :: rest) (k : ∀ q1 : Nat → Nat, (∀ j, j < sp.length → q1 j = q j) → wC p R s m args meth c cc own nL ret D cl sp1 q1 ca A → wJ p l e R s m args below meth c nL D cl sp1 q1 ca A Q kc1 ks1 μ1 (pc + 3) lv rest) : wJ p l e R s m args below meth c nL D cl sp q ca A Q kc ks μ pc lv st := by
  intro H locs ls h1 h2 h3
  subst hst
  obtain ⟨f1, f2, f3, f4, f5, f6⟩ := hF
  subst f1; subst f2
  obtain ⟨o1, o2, o3, o4, o5⟩ := hO
  have hA := wA_in h2 C.2.2.2.2.2.2.2.2.2.1 C.2.2.2.2.2.2.2.2.2.2.1
  have hts := C.2.2.2.2.1
  exact va_callv (va_runI (rest := rest) (As := As) ⟨C.1, C.2.1, C.2.2.1, C.2.2.2.1, C.2.2.2.2.1⟩ (hM H.size) (cwI As.length hts (lw_meth o3) rfl rfl rfl (hts _ o1) (hts _ hl) (hts _ o2) o4 o5 ⟨f3, f4⟩) ⟨w_blindK hok, fun U hU hW => ⟨rfl, by rw [hU], by rw [hU]; exact h1, va_K.moved hW.alike C.2.2.2.2.2.1, C.2.2.2.2.2.2.2.2.1, wNest_warm hW C.2.2.2.2.2.2.2.2.2.2.2, by rw [hU]; exact hok A (wA sp q H.size) s U H (Or.inl hW) hZ h2.2.1 hA⟩⟩ rfl rfl h3.1 rfl (lv_room hw) hd ⟨f5, f6⟩) h2 (fun a _ h => hA a h) hA (fun u t H1 locs1 ht hvm hpost hB hz hk hS => by
    rw [ht] at hB
    obtain ⟨a1, a2, a3, a4, a5, a6, a7, a8, a9, a10, a11, a12⟩ := C
    exact k u hpost ⟨a1, a2, a3, a4, a5, a6, a7, a8, hB.2.1, fun i hi => hA _ (hB.2.2 i hi), a11, a12⟩ H1 locs1 ls hB.1 hS h3)
/-- an object into an array of its own class -/
theorem wr_aastS {p : Program} {l : Launch} {e : Env} {R : Room} {s : State} {m : MethodId} {args : Array Value} {below : List Frame} {meth : Method} {c : Code} {cc : ByteArray} {own : String} {nL : Nat} {ret : Option FieldType} {D : va_G} {cl : List vw_C} {sp : List wCell} {q : Nat → Nat} {ca : wCA} {A : Nat → Prop} {Q : State → Prop} {kc ks : Nat} {μ : wMem} {lv : List (Nat × Value)} {st : List Value} {c0 t t' n x ci N : Nat} {fs : List (Nat × Nat)} {Cn : String} {T : u_T} {i : Int32} (pc t0 : Nat) (sp1 : List wCell) (C : wC p R s m args meth c cc own nL ret D cl sp q ca A) (hd : decode cc pc = .ok (.aastore, 1)) (hs : sp[c0]? = some (.inr (t, n))) (h4 : 4 < t ∧ 4 < t') (hty : (wTy ca)[t0]? = some (ca.1 t, .object Cn)) (hx : sp[x]? = some (.inl (ci, fs))) (hc : cl[ci]? = some (Cn, T, N)) (hin : ok_in i n = true) (hdg : ∀ j, wRd t' j = if j = i.toNatClampNeg then x + 1 else wRd t j) (hct : ca.1 t' = ca.1 t) (hsp : sp1 = sp.set c0 (.inr (t', n))) (k : wC p R s m args meth c cc own nL ret D cl sp1 q ca A → wJ p l e R s m args below meth c nL D cl sp1 q ca A Q kc ks μ (pc + 1) lv st) : wJ p l e R s m args below meth c nL D cl sp q ca A Q kc ks μ pc lv (.ref (q x) :: .int i :: .ref (q c0) :: st) :=
  fun H locs ls h1 h2 h3 => va_astq C.1 C.2.1 C.2.2.2.2.2.1 h1 (wWs_D C.2.2.2.2.2.2.2.2.1 C.2.2.2.2.2.2.2.2.2.1 μ) h2 c0 t0 x ci (wWs_getR hs h4.1) hty (wWs_get hx) hc (ok_in_vp hin) hd (fun H1 locs1 g1 g2 g3 => by
    have e : (wWs sp q ca μ).set c0 (q c0, .inl (ca.1 t, n, .inr (.inr (.inr (.inr (va_up (wRa q t) i.toNatClampNeg (some (q x)))))))) = wWs sp1 q ca μ := by
      rw [hsp, wRa_set hdg]
      exact wWs_setQ hs h4.2 hct
    rw [e] at g1 g2
    exact k (wC_new C g2) H1 locs1 ls g1 g3 h3)
/-- a world that is closed, by looking at it -/
def wBel (d : wCell) (m : Nat) : Bool := match d with
  | .inl o => o.2.all (fun f => !(f.1 == 2) || decide (f.2 < m))
  | .inr a => !(decide (4 < a.1)) || (List.range 16).all fun i => decide (wRd a.1 i ≤ m)
theorem wClosed_of {sp : List wCell} (h : sp.all (fun d => wBel d sp.length) = true) : wClosed sp := fun n hn => by
  rw [wNoRef_iff]
  intro d hd
  have hb := List.all_eq_true.mp h d hd
  cases d with
  | inl o =>
    show (o.2.all fun f => !(f.1 == 2 && f.2 == n)) = true
    rw [List.all_eq_true]
    intro f hf
    have h1 := List.all_eq_true.mp hb f hf
    simp only [Bool.or_eq_true, Bool.not_eq_true', beq_eq_false_iff_ne, decide_eq_true_eq] at h1
    simp only [Bool.not_eq_true', Bool.and_eq_false_iff, beq_eq_false_iff_ne]
    rcases h1 with h1 | h1
    · exact Or.inl h1
    · exact Or.inr (by omega)
  | inr a =>
    show (!(decide (4 < a.1) && !wRno a.1 n)) = true
    by_cases h4 : 4 < a.1
    · have h1 : ((List.range 16).all fun i => decide (wRd a.1 i ≤ sp.length)) = true := by
        have h0 : (!(decide (4 < a.1)) || (List.range 16).all fun i => decide (wRd a.1 i ≤ sp.length)) = true := hb
        rw [decide_eq_true h4] at h0
        exact h0
      have h2 : wRno a.1 n = true := by
        unfold wRno
        rw [List.all_eq_true] at h1 ⊢
        intro i hi
        have h3 := h1 i hi
        simp only [decide_eq_true_eq] at h3
        have : ¬ wRd a.1 i = n + 1 := by omega
        simp [this]
      rw [h2, decide_eq_true h4]; rfl
    · rw [decide_eq_false h4]; rfl
theorem wDg {t t' i d : Nat} (hi : i < 16) (h : ∀ j, j < 16 → wRd t' j = if j = i then d else wRd t j) : ∀ j, wRd t' j = if j = i then d else wRd t j := fun j => by
  by_cases hj : j < 16
  · exact h j hj
  · have h1 : ¬ j = i := by omega
    rw [if_neg h1]
    unfold wRd
    rw [if_neg hj, if_neg hj]
/-- a reference into a final field of a class two of whose fields have one name: whether their slots are one is left open -/
theorem wr_putFE {p : Program} {l : Launch} {e : Env} {R : Room} {s : State} {m : MethodId} {args : Array Value} {below : List Frame} {meth : Method} {c : Code} {cc : ByteArray} {own : String} {nL : Nat} {ret : Option FieldType} {D : va_G} {cl : List vw_C} {sp : List wCell} {q : Nat → Nat} {ca : wCA} {A : Nat → Prop} {Q : State → Prop} {kc ks : Nat} {μ : wMem} {lv : List (Nat × Value)} {st : List Value} {c0 ci N ix x : Nat} {Cn : String} {T : u_T} {fs fs2 : List (Nat × Nat)} (pc j : Nat) (sp1 : List wCell) (C : wC p R s m args meth c cc own nL ret D cl sp q ca A) (hd : decode cc pc = .ok (.putfield ix, 3)) (hs : sp[c0]? = some (.inl (ci, fs))) (hc : cl[ci]? = some (Cn, T, N)) (hin : ∀ w ∈ u_ws Cn T N, w ∈ lw_all) (ty0 : Nat → FieldType) (hty : ∀ k, k < N → parseFieldDescriptor (T k).2.2.1 = some (ty0 k)) (hj : j < N) (hl : Cond.fieldLink own ix (T j).1 (T j).2.1 (T j).2.2.1 ∈ lw_all) (hfin : (T j).2.2.2 = true) (hinit : meth.name = "<init>") (hdecl : (T j).1 = own) (hnar : ∀ a : Nat, narrow (ty0 j) (.ref a) = .ref a) (hfit : ∀ a : Nat, fits (ty0 j) (.ref a) = true) (hv : ∀ i, i < N → fs2[i]? = if D.2 ci i = D.2 ci j then some (2, x) else fs[i]?) (hsp : sp1 = sp.set c0 (.inl (ci, fs2))) (k : wC p R s m args meth c cc own nL ret D cl sp1 q ca A → wJ p l e R s m args below meth c nL D cl sp1 q ca A Q kc ks μ (pc + 3) lv st) : wJ p l e R s m args below meth c nL D cl sp q ca A Q kc ks μ pc lv (.ref (q x) :: .ref (q c0) :: st) := by
  intro H locs ls h1 h2 h3
  have he := wWs_get (q := q) (ca := ca) (μ := μ) hs
  have hD := wWs_D (ca := ca) C.2.2.2.2.2.2.2.2.1 C.2.2.2.2.2.2.2.2.2.1 μ
  have hK := C.2.2.2.2.2.1
  have hts := C.2.2.2.2.1
  obtain ⟨r, g1, cell, q1, q2, q3, q4⟩ := h1 c0 _ he
  obtain rfl : r = (Cn, T, N) := Option.some.inj (g1.symm.trans hc)
  obtain ⟨hS, hfc, kC, hkC, hkind⟩ := hK.1 ci _ hc
  obtain ⟨cf, kf, fi, f, hi, hsl⟩ := hS j hj
  have hlay := hts _ (hin _ (u_in_lay hj))
  unfold u_lay at hlay
  rw [if_pos hfin] at hlay
  have hst := (u_facts hfc hkC (Or.inr hlay) hi).1
  have hcf : m.cls = cf := by
    obtain ⟨_, _, c2, _, _, _, -, -, hf2, -, -, -, hown2, -⟩ := Cond.laysFinal_spec hlay
    have e1 : c2 = cf := by
      have e2 := hi.symm.trans hf2
      simp at e2
      exact e2.1.symm
    rw [hdecl] at hown2
    rw [← e1]
    exact Option.some.inj (C.2.2.2.1.symm.trans hown2)
  have h6 := u_fits (v := .ref (q x)) hfc hkC hkind (Or.inr hlay) hi (hty j hj) (hnar _) (hfit _)
  refine W.putFinK C.1 C.2.1 C.2.2.2.1 (hts _ hl) hi hst hcf hinit (by rw [q2]; exact h6) q1 q3 (by rw [hsl]; exact k2_hasslot (q4 j hj)) rfl rfl hd fun H1 e1 e2 e3 => ?_
  rw [hsl] at e1 ⊢
  have hat : va_at D cl (q c0, wCv q ca μ c0 (.inl (ci, fs2))) H1 := by
    refine ⟨_, hc, _, e1, q2, q3, fun i hi2 => ?_⟩
    have hvi := hv i hi2
    by_cases hij : D.2 ci i = D.2 ci j
    · rw [if_pos hij] at hvi
      rw [hij, Cell.slots_setSlot_self _ (k2_hasslot (q4 j hj))]
      show some _ = some ((wFs q μ c0 fs2).getD i .null)
      rw [List.getD_eq_getElem?_getD, wFs_getR hvi]
      rfl
    · rw [if_neg hij] at hvi
      rw [slot_ne _ _ (fun e => hij e.symm), q4 i hi2]
      show some ((wFs q μ c0 fs).getD i .null) = some ((wFs q μ c0 fs2).getD i .null)
      rw [List.getD_eq_getElem?_getD, List.getD_eq_getElem?_getD]
      unfold wFs
      rw [List.getElem?_mapIdx, List.getElem?_mapIdx, hvi]
  have hP1 := h1.set hD he hat e3
  have hD1 : va_D A ((wWs sp q ca μ).set c0 (q c0, wCv q ca μ c0 (.inl (ci, fs2)))) := hD.set he
  have hw : (wWs sp q ca μ).set c0 (q c0, wCv q ca μ c0 (.inl (ci, fs2))) = wWs sp1 q ca μ := by
    rw [hsp]
    exact wWs_setD (List.getElem?_eq_some_iff.mp hs).1
  rw [hw] at hP1 hD1
  exact k (wC_new C hD1) H1 _ ls hP1 (h2.put e2 e3 (hD.2 c0 _ he)) h3
abbrev cX2_init : ByteArray := prog_3_method_1_code
def yX2_init : MethodName := ⟨RX2, "<init>", "(LOnePassport;)V"⟩
def dkwX2_init_0 : List UInt8 := [42, 43, 181, 0, 3, 42, 183, 0, 9, 177]
abbrev dktX2_init_0 : List UInt8 := dkwX2_init_0 ++ []
theorem dksX2_init_0 : cX2_init.data.toList.drop 0 = dktX2_init_0 := by decide +kernel
theorem dX2_init_0 : decode cX2_init 0 = .ok (.aload_n 0, 1) := dk_42 (dk_at dksX2_init_0 0 rfl rfl)
theorem dX2_init_1 : decode cX2_init 1 = .ok (.aload_n 1, 1) := dk_43 (dk_at dksX2_init_0 1 rfl rfl)
theorem dX2_init_2 : decode cX2_init 2 = .ok (.putfield 3, 3) := dk_181 0 3 (dk_at dksX2_init_0 2 rfl rfl)
theorem dX2_init_5 : decode cX2_init 5 = .ok (.aload_n 0, 1) := dk_42 (dk_at dksX2_init_0 5 rfl rfl)
theorem dX2_init_6 : decode cX2_init 6 = .ok (.invokespecial 9, 3) := dk_183 0 9 (dk_at dksX2_init_0 6 rfl rfl)
theorem dX2_init_9 : decode cX2_init 9 = .ok (.return_, 1) := dk_177 (dk_at dksX2_init_0 9 rfl rfl)
theorem okIX2_init : wOkI yX2_init cX2_init 2 1 := ⟨q138, q256, q257, rfl, by decide, by decide, by decide +kernel⟩
theorem tX2_init_2 (l : Launch) {D : va_G} {q : Nat → Nat} {ca : wCA} {sp : List wCell} {b : Nat} {x : Nat} {f0 : Nat × Nat} (hb : sp[b]? = some (.inl (2, [f0]))) (μ : wMem) : wMg l yX2_init cX2_init 2 ({ frames := 1, cells := 0, slots := 0, locals := 20 } : Room) D vwCl sp (sp.set b (.inl (2, [(2, x)]))) q ca [.ref (q b), .ref (q x)] μ μ := by
  refine wMg_intro (by decide) (Nat.le_of_ble_eq_true rfl) ?_
  intro p e s m args below meth c A hnm C
  refine wr_sub [(0, .ref (q b)), (1, .ref (q x))] [0, 1] rfl ?_
  refine wr_aload_n 0 C dX2_init_0 0 rfl rfl ?_
  refine wr_aload_n 1 C dX2_init_1 1 rfl rfl ?_
  refine wr_putFR (c0 := b) (x := x) 2 0 (sp.set b (.inl (2, [(2, x)]))) C dX2_init_2 hb rfl in_X2 tyX2 tyX2_ok nmX2 (by decide) (by show 0 < 1; decide) q259 rfl (hnm.trans rfl) rfl (fun _ => rfl) (fun _ => rfl) rfl ?_
  clear C
  intro C
  refine wr_aload_n 5 C dX2_init_5 0 rfl rfl ?_
  refine wr_objInit 6 C dX2_init_6 q258 q174 q175 ⟨Nat.le_of_ble_eq_true rfl, Nat.le_of_ble_eq_true rfl⟩ (Nat.le_of_ble_eq_true rfl) ?_
  exact wr_vretG 9 C dX2_init_9 ⟨Nat.le_refl _, Nat.le_refl _⟩ rfl (fun _ _ => rfl)
theorem tX2_init_3 (l : Launch) {D : va_G} {q : Nat → Nat} {ca : wCA} {sp : List wCell} {b : Nat} {x : Nat} {f0 : Nat × Nat} (hb : sp[b]? = some (.inl (3, [f0, (2, x)]))) (μ : wMem) : wMg l yX2_init cX2_init 2 ({ frames := 1, cells := 0, slots := 0, locals := 20 } : Room) D vwCl sp (sp.set b (.inl (3, [(2, x), (2, x)]))) q ca [.ref (q b), .ref (q x)] μ μ := by
  refine wMg_intro (by decide) (Nat.le_of_ble_eq_true rfl) ?_
  intro p e s m args below meth c A hnm C
  refine wr_sub [(0, .ref (q b)), (1, .ref (q x))] [0, 1] rfl ?_
  refine wr_aload_n 0 C dX2_init_0 0 rfl rfl ?_
  refine wr_aload_n 1 C dX2_init_1 1 rfl rfl ?_
  refine wr_putFE (c0 := b) (x := x) (fs2 := [(2, x), (2, x)]) 2 0 (sp.set b (.inl (3, [(2, x), (2, x)]))) C dX2_init_2 hb rfl in_X3 tyX3 tyX3_ok (by decide) q259 rfl (hnm.trans rfl) rfl (fun _ => rfl) (fun _ => rfl) (fun i hi => by
      rcases (by omega : i = 0 ∨ i = 1) with rfl | rfl
      · rw [if_pos rfl]; rfl
      · split <;> rfl) rfl ?_
  clear C
  intro C
  refine wr_aload_n 5 C dX2_init_5 0 rfl rfl ?_
  refine wr_objInit 6 C dX2_init_6 q258 q174 q175 ⟨Nat.le_of_ble_eq_true rfl, Nat.le_of_ble_eq_true rfl⟩ (Nat.le_of_ble_eq_true rfl) ?_
  exact wr_vretG 9 C dX2_init_9 ⟨Nat.le_refl _, Nat.le_refl _⟩ rfl (fun _ _ => rfl)
theorem tX2_init_4 (l : Launch) {D : va_G} {q : Nat → Nat} {ca : wCA} {sp : List wCell} {b : Nat} {x : Nat} {f0 : Nat × Nat} (hb : sp[b]? = some (.inl (4, [f0, (2, x)]))) (μ : wMem) : wMg l yX2_init cX2_init 2 ({ frames := 1, cells := 0, slots := 0, locals := 20 } : Room) D vwCl sp (sp.set b (.inl (4, [(2, x), (2, x)]))) q ca [.ref (q b), .ref (q x)] μ μ := by
  refine wMg_intro (by decide) (Nat.le_of_ble_eq_true rfl) ?_
  intro p e s m args below meth c A hnm C
  refine wr_sub [(0, .ref (q b)), (1, .ref (q x))] [0, 1] rfl ?_
  refine wr_aload_n 0 C dX2_init_0 0 rfl rfl ?_
  refine wr_aload_n 1 C dX2_init_1 1 rfl rfl ?_
  refine wr_putFE (c0 := b) (x := x) (fs2 := [(2, x), (2, x)]) 2 0 (sp.set b (.inl (4, [(2, x), (2, x)]))) C dX2_init_2 hb rfl in_X4 tyX4 tyX4_ok (by decide) q259 rfl (hnm.trans rfl) rfl (fun _ => rfl) (fun _ => rfl) (fun i hi => by
      rcases (by omega : i = 0 ∨ i = 1) with rfl | rfl
      · rw [if_pos rfl]; rfl
      · split <;> rfl) rfl ?_
  clear C
  intro C
  refine wr_aload_n 5 C dX2_init_5 0 rfl rfl ?_
  refine wr_objInit 6 C dX2_init_6 q258 q174 q175 ⟨Nat.le_of_ble_eq_true rfl, Nat.le_of_ble_eq_true rfl⟩ (Nat.le_of_ble_eq_true rfl) ?_
  exact wr_vretG 9 C dX2_init_9 ⟨Nat.le_refl _, Nat.le_refl _⟩ rfl (fun _ _ => rfl)
abbrev cX3_init : ByteArray := prog_7_method_1_code
def yX3_init : MethodName := ⟨RX3, "<init>", "(LOnePassport;)V"⟩
def dkwX3_init_0 : List UInt8 := [42, 43, 181, 0, 3, 42, 43, 183, 0, 9, 177]
abbrev dktX3_init_0 : List UInt8 := dkwX3_init_0 ++ []
theorem dksX3_init_0 : cX3_init.data.toList.drop 0 = dktX3_init_0 := by decide +kernel
theorem dX3_init_0 : decode cX3_init 0 = .ok (.aload_n 0, 1) := dk_42 (dk_at dksX3_init_0 0 rfl rfl)
theorem dX3_init_1 : decode cX3_init 1 = .ok (.aload_n 1, 1) := dk_43 (dk_at dksX3_init_0 1 rfl rfl)
theorem dX3_init_2 : decode cX3_init 2 = .ok (.putfield 3, 3) := dk_181 0 3 (dk_at dksX3_init_0 2 rfl rfl)
theorem dX3_init_5 : decode cX3_init 5 = .ok (.aload_n 0, 1) := dk_42 (dk_at dksX3_init_0 5 rfl rfl)
theorem dX3_init_6 : decode cX3_init 6 = .ok (.aload_n 1, 1) := dk_43 (dk_at dksX3_init_0 6 rfl rfl)
theorem dX3_init_7 : decode cX3_init 7 = .ok (.invokespecial 9, 3) := dk_183 0 9 (dk_at dksX3_init_0 7 rfl rfl)
theorem dX3_init_10 : decode cX3_init 10 = .ok (.return_, 1) := dk_177 (dk_at dksX3_init_0 10 rfl rfl)
theorem okIX3_init : wOkI yX3_init cX3_init 2 1 := ⟨q139, q267, q268, rfl, by decide, by decide, by decide +kernel⟩
theorem tX3_init (l : Launch) {D : va_G} {q : Nat → Nat} {ca : wCA} {sp : List wCell} {b : Nat} {x : Nat} {f0 f1 : Nat × Nat} (hb : sp[b]? = some (.inl (3, [f0, f1]))) (μ : wMem) : wMg l yX3_init cX3_init 2 ({ frames := 2, cells := 0, slots := 0, locals := 41 } : Room) D vwCl sp (sp.set b (.inl (3, [(2, x), (2, x)]))) q ca [.ref (q b), .ref (q x)] μ μ := by
  have hbl : b < sp.length := (List.getElem?_eq_some_iff.mp hb).1
  refine wMg_intro (by decide) (Nat.le_of_ble_eq_true rfl) ?_
  intro p e s m args below meth c A hnm C
  refine wr_sub [(0, .ref (q b)), (1, .ref (q x))] [0, 1] rfl ?_
  refine wr_aload_n 0 C dX3_init_0 0 rfl rfl ?_
  refine wr_aload_n 1 C dX3_init_1 1 rfl rfl ?_
  refine wr_putFE (c0 := b) (x := x) (fs2 := [(if D.2 3 0 = D.2 3 1 then (2, x) else f0), (2, x)]) 2 1 (sp.set b (.inl (3, [(if D.2 3 0 = D.2 3 1 then (2, x) else f0), (2, x)]))) C dX3_init_2 hb rfl in_X3 tyX3 tyX3_ok (by decide) q270 rfl (hnm.trans rfl) rfl (fun _ => rfl) (fun _ => rfl) (fun i hi => by
      rcases (by omega : i = 0 ∨ i = 1) with rfl | rfl
      · by_cases h : D.2 3 0 = D.2 3 1
        · simp [h]
        · simp [h]
      · rw [if_pos rfl]; rfl) rfl ?_
  clear C
  intro C
  refine wr_aload_n 5 C dX3_init_5 0 rfl rfl ?_
  refine wr_aload_n 6 C dX3_init_6 1 rfl rfl ?_
  refine wr_IgN (kc1 := 0) (ks1 := 0) (As := [.ref (q x)]) (b := b) 7 [] C dX3_init_7 (tX2_init_3 l (x := x) (List.getElem?_set_self hbl) μ) okIX2_init q269 ⟨rfl, rfl, Nat.le_of_ble_eq_true rfl, Nat.le_of_ble_eq_true rfl, Nat.le_of_ble_eq_true rfl, Nat.le_of_ble_eq_true rfl⟩ (Nat.le_of_ble_eq_true rfl) rfl ?_
  intro q1 hq1 C1
  rw [List.set_set] at C1 ⊢
  exact wr_vretG 10 C1 dX3_init_10 ⟨Nat.le_refl _, Nat.le_refl _⟩ rfl (fun j hj => hq1 j (by rw [List.length_set]; exact hj))
abbrev cX4_init : ByteArray := prog_2_method_1_code
def yX4_init : MethodName := ⟨RX4, "<init>", "(LOnePassport;)V"⟩
def dkwX4_init_0 : List UInt8 := [42, 43, 181, 0, 3, 42, 43, 183, 0, 9, 177]
abbrev dktX4_init_0 : List UInt8 := dkwX4_init_0 ++ []
theorem dksX4_init_0 : cX4_init.data.toList.drop 0 = dktX4_init_0 := by decide +kernel
theorem dX4_init_0 : decode cX4_init 0 = .ok (.aload_n 0, 1) := dk_42 (dk_at dksX4_init_0 0 rfl rfl)
theorem dX4_init_1 : decode cX4_init 1 = .ok (.aload_n 1, 1) := dk_43 (dk_at dksX4_init_0 1 rfl rfl)
theorem dX4_init_2 : decode cX4_init 2 = .ok (.putfield 3, 3) := dk_181 0 3 (dk_at dksX4_init_0 2 rfl rfl)
theorem dX4_init_5 : decode cX4_init 5 = .ok (.aload_n 0, 1) := dk_42 (dk_at dksX4_init_0 5 rfl rfl)
theorem dX4_init_6 : decode cX4_init 6 = .ok (.aload_n 1, 1) := dk_43 (dk_at dksX4_init_0 6 rfl rfl)
theorem dX4_init_7 : decode cX4_init 7 = .ok (.invokespecial 9, 3) := dk_183 0 9 (dk_at dksX4_init_0 7 rfl rfl)
theorem dX4_init_10 : decode cX4_init 10 = .ok (.return_, 1) := dk_177 (dk_at dksX4_init_0 10 rfl rfl)
theorem okIX4_init : wOkI yX4_init cX4_init 2 1 := ⟨q140, q278, q279, rfl, by decide, by decide, by decide +kernel⟩
theorem tX4_init (l : Launch) {D : va_G} {q : Nat → Nat} {ca : wCA} {sp : List wCell} {b : Nat} {x : Nat} {f0 f1 : Nat × Nat} (hb : sp[b]? = some (.inl (4, [f0, f1]))) (μ : wMem) : wMg l yX4_init cX4_init 2 ({ frames := 2, cells := 0, slots := 0, locals := 41 } : Room) D vwCl sp (sp.set b (.inl (4, [(2, x), (2, x)]))) q ca [.ref (q b), .ref (q x)] μ μ := by
  have hbl : b < sp.length := (List.getElem?_eq_some_iff.mp hb).1
  refine wMg_intro (by decide) (Nat.le_of_ble_eq_true rfl) ?_
  intro p e s m args below meth c A hnm C
  refine wr_sub [(0, .ref (q b)), (1, .ref (q x))] [0, 1] rfl ?_
  refine wr_aload_n 0 C dX4_init_0 0 rfl rfl ?_
  refine wr_aload_n 1 C dX4_init_1 1 rfl rfl ?_
  refine wr_putFE (c0 := b) (x := x) (fs2 := [(if D.2 4 0 = D.2 4 1 then (2, x) else f0), (2, x)]) 2 1 (sp.set b (.inl (4, [(if D.2 4 0 = D.2 4 1 then (2, x) else f0), (2, x)]))) C dX4_init_2 hb rfl in_X4 tyX4 tyX4_ok (by decide) q281 rfl (hnm.trans rfl) rfl (fun _ => rfl) (fun _ => rfl) (fun i hi => by
      rcases (by omega : i = 0 ∨ i = 1) with rfl | rfl
      · by_cases h : D.2 4 0 = D.2 4 1
        · simp [h]
        · simp [h]
      · rw [if_pos rfl]; rfl) rfl ?_
  clear C
  intro C
  refine wr_aload_n 5 C dX4_init_5 0 rfl rfl ?_
  refine wr_aload_n 6 C dX4_init_6 1 rfl rfl ?_
  refine wr_IgN (kc1 := 0) (ks1 := 0) (As := [.ref (q x)]) (b := b) 7 [] C dX4_init_7 (tX2_init_4 l (x := x) (List.getElem?_set_self hbl) μ) okIX2_init q280 ⟨rfl, rfl, Nat.le_of_ble_eq_true rfl, Nat.le_of_ble_eq_true rfl, Nat.le_of_ble_eq_true rfl, Nat.le_of_ble_eq_true rfl⟩ (Nat.le_of_ble_eq_true rfl) rfl ?_
  intro q1 hq1 C1
  rw [List.set_set] at C1 ⊢
  exact wr_vretG 10 C1 dX4_init_10 ⟨Nat.le_refl _, Nat.le_refl _⟩ rfl (fun j hj => hq1 j (by rw [List.length_set]; exact hj))
abbrev cX5_init : ByteArray := prog_8_method_1_code
def yX5_init : MethodName := ⟨RX5, "<init>", "()V"⟩
theorem dX5_init_0 : decode cX5_init 0 = .ok (.aload_n 0, 1) := by decide +kernel
theorem dX5_init_1 : decode cX5_init 1 = .ok (.invokespecial 1, 3) := by decide +kernel
theorem dX5_init_4 : decode cX5_init 4 = .ok (.return_, 1) := by decide +kernel
theorem okIX5_init : wOkI yX5_init cX5_init 1 0 := ⟨q141, q292, q293, rfl, by decide, by decide, by decide +kernel⟩
theorem tX5_init (l : Launch) {D : va_G} {q : Nat → Nat} {ca : wCA} {sp : List wCell} {b : Nat} (μ : wMem) : wMg l yX5_init cX5_init 1 ({ frames := 1, cells := 0, slots := 0, locals := 20 } : Room) D vwCl sp sp q ca [.ref (q b)] μ μ := by
  refine wMg_intro (by decide) (Nat.le_of_ble_eq_true rfl) ?_
  intro p e s m args below meth c A hnm C
  refine wr_sub [(0, .ref (q b))] [0] rfl ?_
  refine wr_aload_n 0 C dX5_init_0 0 rfl rfl ?_
  refine wr_objInit 1 C dX5_init_1 q294 q174 q175 ⟨Nat.le_of_ble_eq_true rfl, Nat.le_of_ble_eq_true rfl⟩ (Nat.le_of_ble_eq_true rfl) ?_
  exact wr_vretG 4 C dX5_init_4 ⟨Nat.le_refl _, Nat.le_refl _⟩ rfl (fun _ _ => rfl)
abbrev cJ0_init : ByteArray := prog_34_method_1_code
def yJ0_init : MethodName := ⟨RJ0, "<init>", "()V"⟩
theorem dJ0_init_0 : decode cJ0_init 0 = .ok (.aload_n 0, 1) := by decide +kernel
theorem dJ0_init_1 : decode cJ0_init 1 = .ok (.invokespecial 1, 3) := by decide +kernel
theorem dJ0_init_4 : decode cJ0_init 4 = .ok (.return_, 1) := by decide +kernel
theorem okIJ0_init : wOkI yJ0_init cJ0_init 1 0 := ⟨q142, q311, q312, rfl, by decide, by decide, by decide +kernel⟩
theorem tJ0_init (l : Launch) {D : va_G} {q : Nat → Nat} {ca : wCA} {sp : List wCell} {b : Nat} (μ : wMem) : wMg l yJ0_init cJ0_init 1 ({ frames := 1, cells := 0, slots := 0, locals := 20 } : Room) D vwCl sp sp q ca [.ref (q b)] μ μ := by
  refine wMg_intro (by decide) (Nat.le_of_ble_eq_true rfl) ?_
  intro p e s m args below meth c A hnm C
  refine wr_sub [(0, .ref (q b))] [0] rfl ?_
  refine wr_aload_n 0 C dJ0_init_0 0 rfl rfl ?_
  refine wr_objInit 1 C dJ0_init_1 q313 q174 q175 ⟨Nat.le_of_ble_eq_true rfl, Nat.le_of_ble_eq_true rfl⟩ (Nat.le_of_ble_eq_true rfl) ?_
  exact wr_vretG 4 C dJ0_init_4 ⟨Nat.le_refl _, Nat.le_refl _⟩ rfl (fun _ _ => rfl)
abbrev cJ1_init : ByteArray := prog_35_method_1_code
def yJ1_init : MethodName := ⟨RJ1, "<init>", "()V"⟩
def dkwJ1_init_0 : List UInt8 := [42, 183, 0, 1, 42, 3, 181, 0, 7, 177]
abbrev dktJ1_init_0 : List UInt8 := dkwJ1_init_0 ++ []
theorem dksJ1_init_0 : cJ1_init.data.toList.drop 0 = dktJ1_init_0 := by decide +kernel
theorem dJ1_init_0 : decode cJ1_init 0 = .ok (.aload_n 0, 1) := dk_42 (dk_at dksJ1_init_0 0 rfl rfl)
theorem dJ1_init_1 : decode cJ1_init 1 = .ok (.invokespecial 1, 3) := dk_183 0 1 (dk_at dksJ1_init_0 1 rfl rfl)
theorem dJ1_init_4 : decode cJ1_init 4 = .ok (.aload_n 0, 1) := dk_42 (dk_at dksJ1_init_0 4 rfl rfl)
theorem dJ1_init_5 : decode cJ1_init 5 = .ok (.iconst 0, 1) := dk_3 (dk_at dksJ1_init_0 5 rfl rfl)
theorem dJ1_init_6 : decode cJ1_init 6 = .ok (.putfield 7, 3) := dk_181 0 7 (dk_at dksJ1_init_0 6 rfl rfl)
theorem dJ1_init_9 : decode cJ1_init 9 = .ok (.return_, 1) := dk_177 (dk_at dksJ1_init_0 9 rfl rfl)
theorem okIJ1_init : wOkI yJ1_init cJ1_init 1 0 := ⟨q143, q308, q309, rfl, by decide, by decide, by decide +kernel⟩
theorem tJ1_init (l : Launch) {D : va_G} {q : Nat → Nat} {ca : wCA} {sp : List wCell} {b : Nat} {f1 : Nat × Nat} (hb : sp[b]? = some (.inl (9, [(0, 0), f1, (0, 0)]))) (μ : wMem) : wMg l yJ1_init cJ1_init 1 ({ frames := 2, cells := 0, slots := 0, locals := 40 } : Room) D vwCl sp sp q ca [.ref (q b)] μ (wSI μ b 0 0) := by
  have hbl : b < sp.length := (List.getElem?_eq_some_iff.mp hb).1
  refine wMg_intro (by decide) (Nat.le_of_ble_eq_true rfl) ?_
  intro p e s m args below meth c A hnm C
  refine wr_sub [(0, .ref (q b))] [0] rfl ?_
  refine wr_aload_n 0 C dJ1_init_0 0 rfl rfl ?_
  refine wr_Ig (kc1 := 0) (ks1 := 0) (As := []) (b := b) 1 [] C dJ1_init_1 (tJ0_init l μ) okIJ0_init q310 ⟨rfl, rfl, Nat.le_of_ble_eq_true rfl, Nat.le_of_ble_eq_true rfl, Nat.le_of_ble_eq_true rfl, Nat.le_of_ble_eq_true rfl⟩ (Nat.le_of_ble_eq_true rfl) rfl ?_
  intro q1 hq1 C1
  rw [← hq1 b hbl]
  refine wr_aload_n 4 C1 dJ1_init_4 0 rfl rfl ?_
  refine wr_iconst 5 C1 dJ1_init_5 (v := 0) rfl ?_
  refine wr_putI 6 0 C1 dJ1_init_6 hb rfl in_J2 tyJ2 tyJ2_ok nmJ2 (by decide) rfl q318 rfl rfl rfl ?_
  exact wr_vretG 9 C1 dJ1_init_9 ⟨Nat.le_refl _, Nat.le_refl _⟩ rfl hq1
abbrev cJ2_init : ByteArray := prog_36_method_2_code
def yJ2_init : MethodName := ⟨RJ2, "<init>", "()V"⟩
def dkwJ2_init_0 : List UInt8 := [42, 183, 0, 1, 42, 178, 0, 39, 181, 0, 9, 177]
abbrev dktJ2_init_0 : List UInt8 := dkwJ2_init_0 ++ []
theorem dksJ2_init_0 : cJ2_init.data.toList.drop 0 = dktJ2_init_0 := by decide +kernel
theorem dJ2_init_0 : decode cJ2_init 0 = .ok (.aload_n 0, 1) := dk_42 (dk_at dksJ2_init_0 0 rfl rfl)
theorem dJ2_init_1 : decode cJ2_init 1 = .ok (.invokespecial 1, 3) := dk_183 0 1 (dk_at dksJ2_init_0 1 rfl rfl)
theorem dJ2_init_4 : decode cJ2_init 4 = .ok (.aload_n 0, 1) := dk_42 (dk_at dksJ2_init_0 4 rfl rfl)
theorem dJ2_init_5 : decode cJ2_init 5 = .ok (.getstatic 39, 3) := dk_178 0 39 (dk_at dksJ2_init_0 5 rfl rfl)
theorem dJ2_init_8 : decode cJ2_init 8 = .ok (.putfield 9, 3) := dk_181 0 9 (dk_at dksJ2_init_0 8 rfl rfl)
theorem dJ2_init_11 : decode cJ2_init 11 = .ok (.return_, 1) := dk_177 (dk_at dksJ2_init_0 11 rfl rfl)
theorem okIJ2_init : wOkI yJ2_init cJ2_init 1 0 := ⟨q144, q305, q306, rfl, by decide, by decide, by decide +kernel⟩
theorem tJ2_init (l : Launch) {D : va_G} {q : Nat → Nat} {ca : wCA} {sp : List wCell} {b : Nat} {aE : Nat} (hb : sp[b]? = some (.inl (9, [(0, 0), (3, 0), (0, 0)]))) (μ : wMem) : wMKv (wZl aE) l yJ2_init cJ2_init 1 none ({ frames := 3, cells := 0, slots := 0, locals := 60 } : Room) D vwCl sp (sp.set b (wLoA aE)) q ca [.ref (q b)] μ (wSI μ b 0 0) := by
  have hbl : b < sp.length := (List.getElem?_eq_some_iff.mp hb).1
  refine wMKv_intro (by decide) (Nat.le_of_ble_eq_true rfl) ?_
  intro p e s m args below meth c A C hZ
  refine wr_sub [(0, .ref (q b))] [0] rfl ?_
  refine wr_aload_n 0 C dJ2_init_0 0 rfl rfl ?_
  refine wr_Ig (kc1 := 0) (ks1 := 0) (As := []) (b := b) 1 [] C dJ2_init_1 (tJ1_init l hb μ) okIJ1_init q307 ⟨rfl, rfl, Nat.le_of_ble_eq_true rfl, Nat.le_of_ble_eq_true rfl, Nat.le_of_ble_eq_true rfl, Nat.le_of_ble_eq_true rfl⟩ (Nat.le_of_ble_eq_true rfl) rfl ?_
  intro q1 hq1 C1
  rw [← hq1 b hbl]
  refine wr_aload_n 4 C1 dJ2_init_4 0 rfl rfl ?_
  refine wr_getsA 5 C1 dJ2_init_5 hZ.1 q314 ?_
  refine wr_putA (c0 := b) (a := aE) 8 1 (sp.set b (wLoA aE)) C1 dJ2_init_8 hb rfl in_J2 tyJ2 tyJ2_ok nmJ2 (by decide) (by show 1 < 3; decide) q316 rfl (fun _ => rfl) (fun _ => rfl) rfl ?_
  intro C2
  exact wr_retv 11 C2 dJ2_init_11 ⟨Nat.le_refl _, Nat.le_refl _⟩ rfl hq1
