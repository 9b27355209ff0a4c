/-! BASE: memories of numbers, worlds by a description, the judgement wJ, a row an instruction -/
/-- what the cells of a world hold: ints (fields, elements) and longs, by cell and place -/
abbrev wMem : Type := (Nat → Nat → Int32) × (Nat → Nat → Int64)
def wSI (μ : wMem) (c i : Nat) (v : Int32) : wMem := (va_up μ.1 c (upd (μ.1 c) i v), μ.2)
def wSL (μ : wMem) (c i : Nat) (v : Int64) : wMem := (μ.1, va_up μ.2 c (vp_updL (μ.2 c) i v))
/-- a cell: an object (its class, its fields: 0 an int, 1 a long, 2 a reference to a cell, 3 null, n + 4 the old address n) or an array (0 int, 1 long, 2 byte, 3 boolean, 4 short, from 5 on references; its length) -/
abbrev wCell : Type := (Nat × List (Nat × Nat)) ⊕ (Nat × Nat)
def wFv (q : Nat → Nat) (μ : wMem) (c k : Nat) (f : Nat × Nat) : Value := match f.1 with
  | 0 => .int (μ.1 c k)
  | 1 => .long (μ.2 c k)
  | 2 => .ref (q f.2)
  | 3 => .null
  | n + 4 => .ref n
def wFs (q : Nat → Nat) (μ : wMem) (c : Nat) (fs : List (Nat × Nat)) : List Value := fs.mapIdx (fun k f => wFv q μ c k f)
/-- the classes of the arrays by their kinds; further kinds of arrays that are known -/
abbrev wCA : Type := (Nat → ClassId) × List (ClassId × FieldType)
/-- an array of references, of kind 5 + the sum of d_i 65536^i, i below 16: its element i is the cell d_i - 1, or null where d_i is 0 -/
def wRd (t i : Nat) : Nat := if i < 16 then (t - 5) / 65536 ^ i % 65536 else 0
def wRa (q : Nat → Nat) (t i : Nat) : Option Nat := if wRd t i = 0 then none else some (q (wRd t i - 1))
def wCv (q : Nat → Nat) (ca : wCA) (μ : wMem) (c : Nat) (d : wCell) : va_E := match d with
  | .inl o => .inr (o.1, wFs q μ c o.2)
  | .inr a => .inl (ca.1 a.1, a.2, if a.1 = 1 then .inr (.inl (μ.2 c)) else if 4 < a.1 then .inr (.inr (.inr (.inr (wRa q a.1)))) else .inl (μ.1 c))
def wWs (sp : List wCell) (q : Nat → Nat) (ca : wCA) (μ : wMem) : va_W := sp.mapIdx (fun c d => (q c, wCv q ca μ c d))
def wTy (ca : wCA) : List (ClassId × FieldType) := (ca.1 0, .int) :: (ca.1 1, .long) :: (ca.1 2, .byte) :: (ca.1 3, .boolean) :: (ca.1 4, .short) :: ca.2
def wA (sp : List wCell) (q : Nat → Nat) (sz : Nat) : Nat → Prop := fun a => (∃ c, c < sp.length ∧ a = q c) ∨ sz ≤ a
/-- the cells are apart -/
def wInj (sp : List wCell) (q : Nat → Nat) : Prop := ∀ i j, i < sp.length → j < sp.length → q i = q j → i = j
theorem wWs_get {sp : List wCell} {q : Nat → Nat} {ca : wCA} {μ : wMem} {c : Nat} {d : wCell} (h : sp[c]? = some d) : (wWs sp q ca μ)[c]? = some (q c, wCv q ca μ c d) := by
  simp [wWs, List.getElem?_mapIdx, h]
theorem wWs_getR {sp : List wCell} {q : Nat → Nat} {ca : wCA} {μ : wMem} {c t n : Nat} (h : sp[c]? = some (.inr (t, n))) (h4 : 4 < t) : (wWs sp q ca μ)[c]? = some (q c, .inl (ca.1 t, n, .inr (.inr (.inr (.inr (wRa q t)))))) := by
  have h1 : ¬ t = 1 := by omega
  rw [wWs_get h]
  simp only [wCv, h1, h4, if_true, if_false]
theorem wRa_at {q : Nat → Nat} {t d i : Nat} (h : wRd t i = d + 1) : wRa q t i = some (q d) := by
  unfold wRa
  rw [h, if_neg (Nat.succ_ne_zero d), Nat.add_sub_cancel]
theorem wRa_no {q : Nat → Nat} {t i : Nat} (h : wRd t i = 0) : wRa q t i = none := by
  unfold wRa
  rw [h, if_pos rfl]
/-- no element is the cell n -/
def wRno (t n : Nat) : Bool := (List.range 16).all fun i => !(wRd t i == n + 1)
theorem wWs_len {sp : List wCell} {q : Nat → Nat} {ca : wCA} {μ : wMem} : (wWs sp q ca μ).length = sp.length := by
  simp [wWs]
theorem wWs_some {sp : List wCell} {q : Nat → Nat} {ca : wCA} {μ : wMem} {c : Nat} {x : Nat × va_E} (h : (wWs sp q ca μ)[c]? = some x) : c < sp.length ∧ x.1 = q c := by
  simp only [wWs, List.getElem?_mapIdx, Option.map_eq_some_iff] at h
  obtain ⟨d, h1, h2⟩ := h
  exact ⟨(List.getElem?_eq_some_iff.mp h1).1, by rw [← h2]⟩
theorem wWs_D {sp : List wCell} {q : Nat → Nat} {ca : wCA} {A : Nat → Prop} (hi : wInj sp q) (hA : ∀ i, i < sp.length → A (q i)) (μ : wMem) : va_D A (wWs sp q ca μ) := by
  refine ⟨fun i j x y hx hy hxy => ?_, fun k x hx => ?_⟩
  · obtain ⟨a, b⟩ := wWs_some hx
    obtain ⟨a', b'⟩ := wWs_some hy
    exact hi i j a a' (by rw [← b, ← b', hxy])
  · obtain ⟨a, b⟩ := wWs_some hx
    rw [b]; exact hA k a
theorem wFv_ne {q : Nat → Nat} {μ : wMem} {c i j k : Nat} {v : Int32} {f : Nat × Nat} (h : k ≠ c) : wFv q (wSI μ c i v) k j f = wFv q μ k j f := by
  unfold wFv wSI va_up
  split <;> simp [h]
theorem wFv_neL {q : Nat → Nat} {μ : wMem} {c i j k : Nat} {v : Int64} {f : Nat × Nat} (h : k ≠ c) : wFv q (wSL μ c i v) k j f = wFv q μ k j f := by
  unfold wFv wSL va_up
  split <;> simp [h]
theorem wCv_ne {q : Nat → Nat} {ca : wCA} {μ : wMem} {c i k : Nat} {v : Int32} {d : wCell} (h : k ≠ c) : wCv q ca (wSI μ c i v) k d = wCv q ca μ k d := by
  cases d with
  | inl o => simp [wCv, wFs, wFv_ne h]
  | inr a => simp [wCv, wSI, va_up, h]
theorem wCv_neL {q : Nat → Nat} {ca : wCA} {μ : wMem} {c i k : Nat} {v : Int64} {d : wCell} (h : k ≠ c) : wCv q ca (wSL μ c i v) k d = wCv q ca μ k d := by
  cases d with
  | inl o => simp [wCv, wFs, wFv_neL h]
  | inr a => simp [wCv, wSL, va_up, h]
theorem wWs_set {sp : List wCell} {q : Nat → Nat} {ca : wCA} {μ μ' : wMem} {c : Nat} {d : wCell} {x : va_E} (hs : sp[c]? = some d) (hx : x = wCv q ca μ' c d) (hne : ∀ k d, k ≠ c → wCv q ca μ' k d = wCv q ca μ k d) : (wWs sp q ca μ).set c (q c, x) = wWs sp q ca μ' := by
  apply List.ext_getElem?
  intro j
  rw [List.getElem?_set]
  simp only [wWs, List.getElem?_mapIdx, List.length_mapIdx]
  by_cases hj : c = j
  · subst hj
    have hl := (List.getElem?_eq_some_iff.mp hs).1
    rw [if_pos rfl, if_pos hl, hs, hx]; rfl
  · simp only [hj, if_false]
    cases hd : sp[j]? with
    | none => rfl
    | some d' => simp [hne j d' (fun e => hj e.symm)]
theorem wWs_setI {sp : List wCell} {q : Nat → Nat} {ca : wCA} {μ : wMem} {c t n i : Nat} {v : Int32} (hs : sp[c]? = some (.inr (t, n))) (ht : t ≠ 1 ∧ ¬ 4 < t) : (wWs sp q ca μ).set c (q c, .inl (ca.1 t, n, .inl (upd (μ.1 c) i v))) = wWs sp q ca (wSI μ c i v) :=
  wWs_set hs (by simp [wCv, ht.1, ht.2, wSI, va_up]) (fun k d h => wCv_ne h)
theorem wWs_setL {sp : List wCell} {q : Nat → Nat} {ca : wCA} {μ : wMem} {c n i : Nat} {v : Int64} (hs : sp[c]? = some (.inr (1, n))) : (wWs sp q ca μ).set c (q c, .inl (ca.1 1, n, .inr (.inl (vp_updL (μ.2 c) i v)))) = wWs sp q ca (wSL μ c i v) :=
  wWs_set hs (by simp [wCv, wSL, va_up]) (fun k d h => wCv_neL h)
theorem wFs_setI {q : Nat → Nat} {μ : wMem} {c k x : Nat} {fs : List (Nat × Nat)} {v : Int32} (hf : fs[k]? = some (0, x)) : (wFs q μ c fs).set k (.int v) = wFs q (wSI μ c k v) c fs := by
  apply List.ext_getElem?
  intro j
  rw [List.getElem?_set]
  simp only [wFs, List.getElem?_mapIdx, List.length_mapIdx]
  by_cases hj : k = j
  · subst hj
    have hl := (List.getElem?_eq_some_iff.mp hf).1
    rw [if_pos rfl, if_pos hl, hf]; simp [wFv, wSI, va_up, upd]
  · simp only [hj, if_false]
    cases hd : fs[j]? with
    | none => rfl
    | some d' =>
      have hj' : j ≠ k := fun e => hj e.symm
      simp only [Option.map_some, Option.some.injEq, wFv, wSI, va_up, upd, if_true, hj', if_false]
theorem wFs_setL {q : Nat → Nat} {μ : wMem} {c k x : Nat} {fs : List (Nat × Nat)} {v : Int64} (hf : fs[k]? = some (1, x)) : (wFs q μ c fs).set k (.long v) = wFs q (wSL μ c k v) c fs := by
  apply List.ext_getElem?
  intro j
  rw [List.getElem?_set]
  simp only [wFs, List.getElem?_mapIdx, List.length_mapIdx]
  by_cases hj : k = j
  · subst hj
    have hl := (List.getElem?_eq_some_iff.mp hf).1
    rw [if_pos rfl, if_pos hl, hf]; simp [wFv, wSL, va_up, vp_updL]
  · simp only [hj, if_false]
    cases hd : fs[j]? with
    | none => rfl
    | some d' =>
      have hj' : j ≠ k := fun e => hj e.symm
      simp only [Option.map_some, Option.some.injEq, wFv, wSL, va_up, vp_updL, if_true, hj', if_false]
theorem wWs_setFI {sp : List wCell} {q : Nat → Nat} {ca : wCA} {μ : wMem} {c ci k x : Nat} {fs : List (Nat × Nat)} {v : Int32} (hs : sp[c]? = some (.inl (ci, fs))) (hf : fs[k]? = some (0, x)) : (wWs sp q ca μ).set c (q c, .inr (ci, (wFs q μ c fs).set k (.int v))) = wWs sp q ca (wSI μ c k v) :=
  wWs_set hs (by simp only [wCv]; rw [wFs_setI hf]) (fun k d h => wCv_ne h)
theorem wWs_setFL {sp : List wCell} {q : Nat → Nat} {ca : wCA} {μ : wMem} {c ci k x : Nat} {fs : List (Nat × Nat)} {v : Int64} (hs : sp[c]? = some (.inl (ci, fs))) (hf : fs[k]? = some (1, x)) : (wWs sp q ca μ).set c (q c, .inr (ci, (wFs q μ c fs).set k (.long v))) = wWs sp q ca (wSL μ c k v) :=
  wWs_set hs (by simp only [wCv]; rw [wFs_setL hf]) (fun k d h => wCv_neL h)
/-- an index within a length; a truth value -/
def ok_in (i : Int32) (n : Nat) : Bool := decide (0 ≤ i) && decide (i.toNatClampNeg < n)
def ok_b (v : Int32) : Bool := v == 0 || v == 1
theorem ok_in_vp {i : Int32} {n : Nat} (h : ok_in i n = true) : vp_in i n := by
  simp only [ok_in, Bool.and_eq_true, decide_eq_true_eq] at h
  rintro (h1 | h1)
  · exact absurd h.1 (Int32.not_le.mpr h1)
  · omega
theorem ok_b_nar {v : Int32} (h : ok_b v = true) : narrow .boolean (.int v) = .int v := by
  simp only [ok_b, Bool.or_eq_true, beq_iff_eq] at h
  rcases h with rfl | rfl <;> rfl
theorem ok_b_vp {v : Int32} (h : ok_b v = true) : vp_nar .boolean v = v := by
  simp only [ok_b, Bool.or_eq_true, beq_iff_eq] at h
  rcases h with rfl | rfl <;> rfl
theorem wFs_getI {q : Nat → Nat} {μ : wMem} {c j x : Nat} {fs : List (Nat × Nat)} (h : fs[j]? = some (0, x)) : (wFs q μ c fs)[j]? = some (.int (μ.1 c j)) := by
  simp [wFs, List.getElem?_mapIdx, h, wFv]
theorem wFs_getL {q : Nat → Nat} {μ : wMem} {c j x : Nat} {fs : List (Nat × Nat)} (h : fs[j]? = some (1, x)) : (wFs q μ c fs)[j]? = some (.long (μ.2 c j)) := by
  simp [wFs, List.getElem?_mapIdx, h, wFv]
theorem wFs_getR {q : Nat → Nat} {μ : wMem} {c j x : Nat} {fs : List (Nat × Nat)} (h : fs[j]? = some (2, x)) : (wFs q μ c fs)[j]? = some (.ref (q x)) := by
  simp [wFs, List.getElem?_mapIdx, h, wFv]
/-- the pieces of the plain functions -/
def wLet {α β : Type} (a : α) (f : α → β) : β := f a
def wG {α : Type} (b : Bool) (x : Option α) : Option α := if b = true then x else none
def wBind {α β : Type} (o : Option (α × wMem)) (f : α → wMem → Option β) : Option β := match o with
  | none => none
  | some x => f x.1 x.2
def wBindV {β : Type} (o : Option wMem) (f : wMem → Option β) : Option β := match o with
  | none => none
  | some x => f x
theorem o_let {α β : Type} {a : α} {f : α → β} {r : β} (h : wLet a f = r) : ∃ x, x = a ∧ f x = r := ⟨a, rfl, h⟩
theorem o_g {α : Type} {b : Bool} {x : Option α} {r : α} (h : wG b x = some r) : b = true ∧ x = some r := by
  unfold wG at h
  split at h
  · exact ⟨by assumption, h⟩
  · cases h
theorem o_bind {α β : Type} {o : Option (α × wMem)} {f : α → wMem → Option β} {r : β} (h : wBind o f = some r) : ∃ a μ, o = some (a, μ) ∧ f a μ = some r := by
  cases o with
  | none => cases h
  | some x => exact ⟨x.1, x.2, rfl, h⟩
theorem o_bindV {β : Type} {o : Option wMem} {f : wMem → Option β} {r : β} (h : wBindV o f = some r) : ∃ μ, o = some μ ∧ f μ = some r := by
  cases o with
  | none => cases h
  | some x => exact ⟨x, rfl, h⟩
theorem o_pos {α : Sort _} {c : Prop} [Decidable c] {a b r : α} (hc : c) (h : (if c then a else b) = r) : a = r := by rw [if_pos hc] at h; exact h
theorem o_neg {α : Sort _} {c : Prop} [Decidable c] {a b r : α} (hc : ¬ c) (h : (if c then a else b) = r) : b = r := by rw [if_neg hc] at h; exact h
/-- the words of the tables that don't ride in the lists: nest mates' links -/
def wNestB (w : Cond) : Bool := match w with
  | .fieldLinkNest _ _ _ _ _ _ => true
  | .methodLinkNest _ _ _ _ => true
  | .castable _ _ => true
  | .declares _ => true
  | _ => false
/-- arrays of one kind are none of another, nor an exception of one class of another -/
def wNcs : List (String × String) := [("[S", "[B"), ("[I", "[B"), ("[I", "[S"), ("[J", "[B"), ("[J", "[S"), ("[J", "[I"), ("java/lang/ArrayIndexOutOfBoundsException", "java/lang/NullPointerException"), ("java/lang/ArrayIndexOutOfBoundsException", "java/lang/ArrayStoreException"), ("java/lang/ArrayStoreException", "java/lang/NullPointerException")]
def wAOs : List String := ["java/lang/Object", "OnePassport$Slot"]
def wNest (U : State) : Prop := ((∀ w ∈ lw_tbl, wNestB w = true → va_Nw w U) ∧ ∀ C ∈ wAOs, va_AO C U) ∧ ∀ x ∈ wNcs, va_Nc x.1 x.2 U
theorem wNest_on {w : Cond} (h : wNestB w = true) : w.onTables = true := by
  cases w <;> first | rfl | cases h
theorem wNest_warm {s U : State} (hW : s.WarmedH U.vm) (h : wNest s) : wNest U := by
  refine ⟨⟨fun w hw hb => ?_, fun C hC => va_AO.moved hW.alike (h.1.2 C hC)⟩, fun x hx => va_Nc.moved hW.alike (h.2 x hx)⟩
  have h1 := h.1.1 w hw hb
  cases w <;> first | exact va_Nw.warmF hW h1 | exact va_Nw.warmM hW h1 | exact va_Nw.warmC hW h1 | exact va_Nw.warmD hW h1 | cases hb
theorem wNest_same {s U : State} (hv : s.vm = U.vm) (h : wNest s) : wNest U := ⟨⟨fun w hw hb => va_Nw.same (wNest_on hb) hv (h.1.1 w hw hb), fun C hC => va_AO.moved (by rw [hv]; exact Vm.Alike.refl U.vm) (h.1.2 C hC)⟩, fun x hx => by have h2 := h.2 x hx; unfold va_Nc at h2 ⊢; rw [← hv]; exact h2⟩
theorem wNest_use {s : State} {A : Array Value} {w : Cond} (h : wNest s) (hw : w ∈ lw_tbl) (hb : wNestB w = true) : w.before A s = true := va_Nw.use (wNest_on hb) (h.1.1 w hw hb)
theorem wNest_of {s : State} {A : Array Value} (h : ∀ w ∈ lw_tbl, w.before A s = true) (h2 : ∀ x ∈ wNcs, va_Nc x.1 x.2 s) (h3 : ∀ C ∈ wAOs, Cond.arrayOver (.object C) ∈ lw_tbl) : wNest s := ⟨⟨fun w hw hb => va_Nw.of (wNest_on hb) (h w hw), fun C hC => va_AO.of (h _ (h3 C hC))⟩, h2⟩
/-- what holds all through a method's body -/
def wC (p : Program) (R : Room) (s : State) (m : MethodId) (args : Array Value) (meth : Method) (c : Code) (cc : ByteArray) (own : String) (nL : Nat) (ret : Option FieldType) (D : va_G) (cl : List vw_C) (sp : List wCell) (q : Nat → Nat) (ca : wCA) (A : Nat → Prop) : Prop :=
  p.tables.exec = Jvm.exec ∧ c.code = cc ∧ c.maxLocals = nL ∧ s.vm.findClass own = some m.cls ∧ (∀ w ∈ lw_all, w.before args s = true) ∧ va_K D cl (wTy ca) s ∧ meth.locks = false ∧ meth.sig.returnType = ret ∧ wInj sp q ∧ (∀ i, i < sp.length → A (q i)) ∧ (∀ a, s.heap.size ≤ a → A a) ∧ wNest s
/-- from here on, whatever the heap beside the world; kc cells of ks slots are new so far -/
def wJ (p : Program) (l : Launch) (e : Env) (R : Room) (s : State) (m : MethodId) (args : Array Value) (below : List Frame) (meth : Method) (c : Code) (nL : Nat) (D : va_G) (cl : List vw_C) (sp : List wCell) (q : Nat → Nat) (ca : wCA) (A : Nat → Prop) (Q : State → Prop) (kc ks : Nat) (μ : wMem) (pc : Nat) (lv : List (Nat × Value)) (st : List Value) : Prop :=
  ∀ (H : Heap) (locs : List Loc) (ls : Array Slot), va_P D cl (wWs sp q ca μ) H → va_S A s.heap H locs → lv_has ls nL lv → W p l e R s m args below meth c H locs kc ks Q (F0 m pc ls st)
def ok_nz (y : Int32) : Bool := !(y == 0)
def ok_nzL (y : Int64) : Bool := !(y == 0)
theorem ok_nz_ne {y : Int32} (h : ok_nz y = true) : ¬ y = 0 := by
  rintro rfl
  cases h
theorem ok_nzL_ne {y : Int64} (h : ok_nzL y = true) : ¬ y = 0 := by
  rintro rfl
  cases h
section WR
variable {p : Program} {l : Launch} {e : Env} {R : Room} {s : State} {m : MethodId} {args : Array Value} {below : List Frame} {meth : Method} {c : Code} {cc : ByteArray} {own : String} {nL : Nat} {ret : Option FieldType} {D : va_G} {cl : List vw_C} {sp : List wCell} {q : Nat → Nat} {ca : wCA} {A : Nat → Prop} {Q : State → Prop} {kc ks : Nat} {μ : wMem} {lv : List (Nat × Value)} {st rest : List Value}
theorem wr_iconst {v : Int32} {n : Int} (pc : Nat) (C : wC p R s m args meth c cc own nL ret D cl sp q ca A) (hd : decode cc pc = .ok (.iconst n, 1)) (hv : Int32.ofInt n = v) (k : wJ p l e R s m args below meth c nL D cl sp q ca A Q kc ks μ (pc + 1) lv (.int v :: st)) : wJ p l e R s m args below meth c nL D cl sp q ca A Q kc ks μ pc lv st :=
  fun H locs ls h1 h2 h3 => lv_iconst C.1 C.2.1 hd hv (k H locs ls h1 h2 h3)
theorem wr_bipush {v : Int32} {n : Int} (pc : Nat) (C : wC p R s m args meth c cc own nL ret D cl sp q ca A) (hd : decode cc pc = .ok (.bipush n, 2)) (hv : (Int8.ofInt n).toInt32 = v) (k : wJ p l e R s m args below meth c nL D cl sp q ca A Q kc ks μ (pc + 2) lv (.int v :: st)) : wJ p l e R s m args below meth c nL D cl sp q ca A Q kc ks μ pc lv st :=
  fun H locs ls h1 h2 h3 => lv_bipush C.1 C.2.1 hd hv (k H locs ls h1 h2 h3)
theorem wr_sipush {v : Int32} {n : Int} (pc : Nat) (C : wC p R s m args meth c cc own nL ret D cl sp q ca A) (hd : decode cc pc = .ok (.sipush n, 3)) (hv : (Int16.ofInt n).toInt32 = v) (k : wJ p l e R s m args below meth c nL D cl sp q ca A Q kc ks μ (pc + 3) lv (.int v :: st)) : wJ p l e R s m args below meth c nL D cl sp q ca A Q kc ks μ pc lv st :=
  fun H locs ls h1 h2 h3 => lv_sipush C.1 C.2.1 hd hv (k H locs ls h1 h2 h3)
theorem wr_lconst {v : Int64} {n : Fin 2} (pc : Nat) (C : wC p R s m args meth c cc own nL ret D cl sp q ca A) (hd : decode cc pc = .ok (.lconst n, 1)) (hv : Int64.ofNat (n : Nat) = v) (k : wJ p l e R s m args below meth c nL D cl sp q ca A Q kc ks μ (pc + 1) lv (.long v :: st)) : wJ p l e R s m args below meth c nL D cl sp q ca A Q kc ks μ pc lv st :=
  fun H locs ls h1 h2 h3 => lv_lconst C.1 C.2.1 hd hv (k H locs ls h1 h2 h3)
theorem wr_ldc {v : Int32} {ix : Nat} (pc : Nat) (C : wC p R s m args meth c cc own nL ret D cl sp q ca A) (hd : decode cc pc = .ok (.ldc ix, 2)) (hw : Jvm.Cond.constant own ix v ∈ lw_all) (k : wJ p l e R s m args below meth c nL D cl sp q ca A Q kc ks μ (pc + 2) lv (.int v :: st)) : wJ p l e R s m args below meth c nL D cl sp q ca A Q kc ks μ pc lv st :=
  fun H locs ls h1 h2 h3 => lv_ldc C.1 C.2.1 C.2.2.2.1 (C.2.2.2.2.1 _ hw) hd (k H locs ls h1 h2 h3)
theorem wr_ldcw {v : Int32} {ix : Nat} (pc : Nat) (C : wC p R s m args meth c cc own nL ret D cl sp q ca A) (hd : decode cc pc = .ok (.ldc_w ix, 3)) (hw : Jvm.Cond.constant own ix v ∈ lw_all) (k : wJ p l e R s m args below meth c nL D cl sp q ca A Q kc ks μ (pc + 3) lv (.int v :: st)) : wJ p l e R s m args below meth c nL D cl sp q ca A Q kc ks μ pc lv st :=
  fun H locs ls h1 h2 h3 => lv_ldcw C.1 C.2.1 C.2.2.2.1 (C.2.2.2.2.1 _ hw) hd (k H locs ls h1 h2 h3)
theorem wr_ldc2 {v : Int64} {ix : Nat} (pc : Nat) (C : wC p R s m args meth c cc own nL ret D cl sp q ca A) (hd : decode cc pc = .ok (.ldc2_w ix, 3)) (hw : Jvm.Cond.constantLong own ix v ∈ lw_all) (k : wJ p l e R s m args below meth c nL D cl sp q ca A Q kc ks μ (pc + 3) lv (.long v :: st)) : wJ p l e R s m args below meth c nL D cl sp q ca A Q kc ks μ pc lv st :=
  fun H locs ls h1 h2 h3 => lv_ldc2 C.1 C.2.1 C.2.2.2.1 (C.2.2.2.2.1 _ hw) hd (k H locs ls h1 h2 h3)
theorem wr_iload_n {x : Int32} {k0 : Fin 4} {i : Nat} (pc : Nat) (C : wC p R s m args meth c cc own nL ret D cl sp q ca A) (hd : decode cc pc = .ok (.iload_n k0, 1)) (j : Nat) (hi : (k0 : Nat) = i) (hl : lv[j]? = some (i, .int x)) (k : wJ p l e R s m args below meth c nL D cl sp q ca A Q kc ks μ (pc + 1) lv (.int x :: st)) : wJ p l e R s m args below meth c nL D cl sp q ca A Q kc ks μ pc lv st :=
  fun H locs ls h1 h2 h3 => lv_iload_n C.1 C.2.1 hd hi (lv_at h3 j hl) (k H locs ls h1 h2 h3)
theorem wr_iload {x : Int32} {i : Nat} (pc : Nat) (C : wC p R s m args meth c cc own nL ret D cl sp q ca A) (hd : decode cc pc = .ok (.iload i, 2)) (j : Nat) (hl : lv[j]? = some (i, .int x)) (k : wJ p l e R s m args below meth c nL D cl sp q ca A Q kc ks μ (pc + 2) lv (.int x :: st)) : wJ p l e R s m args below meth c nL D cl sp q ca A Q kc ks μ pc lv st :=
  fun H locs ls h1 h2 h3 => lv_iload C.1 C.2.1 hd (lv_at h3 j hl) (k H locs ls h1 h2 h3)
theorem wr_istore_n {x v : Int32} {k0 : Fin 4} {i : Nat} (pc : Nat) (lv' : List (Nat × Value)) (C : wC p R s m args meth c cc own nL ret D cl sp q ca A) (hd : decode cc pc = .ok (.istore_n k0, 1)) (hx : x = v) (hi : (k0 : Nat) = i) (hn : i < nL) (hl : (i, Value.int x) :: lv.filter (fun q => !(q.1 == i) && !(q.1 + 1 == i && q.2.category == 2)) = lv') (k : wJ p l e R s m args below meth c nL D cl sp q ca A Q kc ks μ (pc + 1) lv' st) : wJ p l e R s m args below meth c nL D cl sp q ca A Q kc ks μ pc lv (.int v :: st) := by
  subst hx
  exact fun H locs ls h1 h2 h3 => lv_istore_n C.1 C.2.1 hd hi h3 hn hl (fun ls' h3' => k H locs ls' h1 h2 h3')
theorem wr_istore {x v : Int32} {i : Nat} (pc : Nat) (lv' : List (Nat × Value)) (C : wC p R s m args meth c cc own nL ret D cl sp q ca A) (hd : decode cc pc = .ok (.istore i, 2)) (hx : x = v) (hn : i < nL) (hl : (i, Value.int x) :: lv.filter (fun q => !(q.1 == i) && !(q.1 + 1 == i && q.2.category == 2)) = lv') (k : wJ p l e R s m args below meth c nL D cl sp q ca A Q kc ks μ (pc + 2) lv' st) : wJ p l e R s m args below meth c nL D cl sp q ca A Q kc ks μ pc lv (.int v :: st) := by
  subst hx
  exact fun H locs ls h1 h2 h3 => lv_istore C.1 C.2.1 hd h3 hn hl (fun ls' h3' => k H locs ls' h1 h2 h3')
theorem wr_lload_n {x : Int64} {k0 : Fin 4} {i : Nat} (pc : Nat) (C : wC p R s m args meth c cc own nL ret D cl sp q ca A) (hd : decode cc pc = .ok (.lload_n k0, 1)) (j : Nat) (hi : (k0 : Nat) = i) (hl : lv[j]? = some (i, .long x)) (k : wJ p l e R s m args below meth c nL D cl sp q ca A Q kc ks μ (pc + 1) lv (.long x :: st)) : wJ p l e R s m args below meth c nL D cl sp q ca A Q kc ks μ pc lv st :=
  fun H locs ls h1 h2 h3 => lv_lload_n C.1 C.2.1 hd hi (lv_at h3 j hl) (k H locs ls h1 h2 h3)
theorem wr_lload {x : Int64} {i : Nat} (pc : Nat) (C : wC p R s m args meth c cc own nL ret D cl sp q ca A) (hd : decode cc pc = .ok (.lload i, 2)) (j : Nat) (hl : lv[j]? = some (i, .long x)) (k : wJ p l e R s m args below meth c nL D cl sp q ca A Q kc ks μ (pc + 2) lv (.long x :: st)) : wJ p l e R s m args below meth c nL D cl sp q ca A Q kc ks μ pc lv st :=
  fun H locs ls h1 h2 h3 => lv_lload C.1 C.2.1 hd (lv_at h3 j hl) (k H locs ls h1 h2 h3)
theorem wr_lstore_n {x v : Int64} {k0 : Fin 4} {i : Nat} (pc : Nat) (lv' : List (Nat × Value)) (C : wC p R s m args meth c cc own nL ret D cl sp q ca A) (hd : decode cc pc = .ok (.lstore_n k0, 1)) (hx : x = v) (hi : (k0 : Nat) = i) (hn : i + 1 < nL) (hl : (i, Value.long x) :: lv.filter (fun q => !(q.1 == i) && (!(q.1 == i + 1) && !(q.1 + 1 == i && q.2.category == 2))) = lv') (k : wJ p l e R s m args below meth c nL D cl sp q ca A Q kc ks μ (pc + 1) lv' st) : wJ p l e R s m args below meth c nL D cl sp q ca A Q kc ks μ pc lv (.long v :: st) := by
  subst hx
  exact fun H locs ls h1 h2 h3 => lv_lstore_n C.1 C.2.1 hd hi h3 hn hl (fun ls' h3' => k H locs ls' h1 h2 h3')
theorem wr_lstore {x v : Int64} {i : Nat} (pc : Nat) (lv' : List (Nat × Value)) (C : wC p R s m args meth c cc own nL ret D cl sp q ca A) (hd : decode cc pc = .ok (.lstore i, 2)) (hx : x = v) (hn : i + 1 < nL) (hl : (i, Value.long x) :: lv.filter (fun q => !(q.1 == i) && (!(q.1 == i + 1) && !(q.1 + 1 == i && q.2.category == 2))) = lv') (k : wJ p l e R s m args below meth c nL D cl sp q ca A Q kc ks μ (pc + 2) lv' st) : wJ p l e R s m args below meth c nL D cl sp q ca A Q kc ks μ pc lv (.long v :: st) := by
  subst hx
  exact fun H locs ls h1 h2 h3 => lv_lstore C.1 C.2.1 hd h3 hn hl (fun ls' h3' => k H locs ls' h1 h2 h3')
theorem wr_aload_n {x : Nat} {k0 : Fin 4} {i : Nat} (pc : Nat) (C : wC p R s m args meth c cc own nL ret D cl sp q ca A) (hd : decode cc pc = .ok (.aload_n k0, 1)) (j : Nat) (hi : (k0 : Nat) = i) (hl : lv[j]? = some (i, .ref x)) (k : wJ p l e R s m args below meth c nL D cl sp q ca A Q kc ks μ (pc + 1) lv (.ref x :: st)) : wJ p l e R s m args below meth c nL D cl sp q ca A Q kc ks μ pc lv st :=
  fun H locs ls h1 h2 h3 => lv_aload_n C.1 C.2.1 hd hi (lv_at h3 j hl) (k H locs ls h1 h2 h3)
theorem wr_aload {x : Nat} {i : Nat} (pc : Nat) (C : wC p R s m args meth c cc own nL ret D cl sp q ca A) (hd : decode cc pc = .ok (.aload i, 2)) (j : Nat) (hl : lv[j]? = some (i, .ref x)) (k : wJ p l e R s m args below meth c nL D cl sp q ca A Q kc ks μ (pc + 2) lv (.ref x :: st)) : wJ p l e R s m args below meth c nL D cl sp q ca A Q kc ks μ pc lv st :=
  fun H locs ls h1 h2 h3 => lv_aload C.1 C.2.1 hd (lv_at h3 j hl) (k H locs ls h1 h2 h3)
theorem wr_astore_n {x v : Nat} {k0 : Fin 4} {i : Nat} (pc : Nat) (lv' : List (Nat × Value)) (C : wC p R s m args meth c cc own nL ret D cl sp q ca A) (hd : decode cc pc = .ok (.astore_n k0, 1)) (hx : x = v) (hi : (k0 : Nat) = i) (hn : i < nL) (hl : (i, Value.ref x) :: lv.filter (fun q => !(q.1 == i) && !(q.1 + 1 == i && q.2.category == 2)) = lv') (k : wJ p l e R s m args below meth c nL D cl sp q ca A Q kc ks μ (pc + 1) lv' st) : wJ p l e R s m args below meth c nL D cl sp q ca A Q kc ks μ pc lv (.ref v :: st) := by
  subst hx
  exact fun H locs ls h1 h2 h3 => lv_astore_n C.1 C.2.1 hd hi h3 hn hl (fun ls' h3' => k H locs ls' h1 h2 h3')
theorem wr_astore {x v : Nat} {i : Nat} (pc : Nat) (lv' : List (Nat × Value)) (C : wC p R s m args meth c cc own nL ret D cl sp q ca A) (hd : decode cc pc = .ok (.astore i, 2)) (hx : x = v) (hn : i < nL) (hl : (i, Value.ref x) :: lv.filter (fun q => !(q.1 == i) && !(q.1 + 1 == i && q.2.category == 2)) = lv') (k : wJ p l e R s m args below meth c nL D cl sp q ca A Q kc ks μ (pc + 2) lv' st) : wJ p l e R s m args below meth c nL D cl sp q ca A Q kc ks μ pc lv (.ref v :: st) := by
  subst hx
  exact fun H locs ls h1 h2 h3 => lv_astore C.1 C.2.1 hd h3 hn hl (fun ls' h3' => k H locs ls' h1 h2 h3')
theorem wr_iinc {x v : Int32} {n : Int} {i : Nat} (pc : Nat) (lv' : List (Nat × Value)) (C : wC p R s m args meth c cc own nL ret D cl sp q ca A) (hd : decode cc pc = .ok (.iinc i n, 3)) (j : Nat) (hj : lv[j]? = some (i, .int x)) (hv : v = x + Int32.ofInt n) (hn : i < nL) (hl : (i, Value.int v) :: lv.filter (fun q => !(q.1 == i) && !(q.1 + 1 == i && q.2.category == 2)) = lv') (k : wJ p l e R s m args below meth c nL D cl sp q ca A Q kc ks μ (pc + 3) lv' st) : wJ p l e R s m args below meth c nL D cl sp q ca A Q kc ks μ pc lv st :=
  fun H locs ls h1 h2 h3 => lv_iinc C.1 C.2.1 hd h3 hj hv.symm hn hl (fun ls' h3' => k H locs ls' h1 h2 h3')
theorem wr_iadd {x y : Int32} (pc : Nat) (C : wC p R s m args meth c cc own nL ret D cl sp q ca A) (hd : decode cc pc = .ok (.iadd, 1))  (k : wJ p l e R s m args below meth c nL D cl sp q ca A Q kc ks μ (pc + 1) lv (.int (x + y) :: st)) : wJ p l e R s m args below meth c nL D cl sp q ca A Q kc ks μ pc lv (.int y :: .int x :: st) :=
  fun H locs ls h1 h2 h3 => lv_iadd C.1 C.2.1 hd (k H locs ls h1 h2 h3)
theorem wr_isub {x y : Int32} (pc : Nat) (C : wC p R s m args meth c cc own nL ret D cl sp q ca A) (hd : decode cc pc = .ok (.isub, 1))  (k : wJ p l e R s m args below meth c nL D cl sp q ca A Q kc ks μ (pc + 1) lv (.int (x - y) :: st)) : wJ p l e R s m args below meth c nL D cl sp q ca A Q kc ks μ pc lv (.int y :: .int x :: st) :=
  fun H locs ls h1 h2 h3 => lv_isub C.1 C.2.1 hd (k H locs ls h1 h2 h3)
theorem wr_imul {x y : Int32} (pc : Nat) (C : wC p R s m args meth c cc own nL ret D cl sp q ca A) (hd : decode cc pc = .ok (.imul, 1))  (k : wJ p l e R s m args below meth c nL D cl sp q ca A Q kc ks μ (pc + 1) lv (.int (x * y) :: st)) : wJ p l e R s m args below meth c nL D cl sp q ca A Q kc ks μ pc lv (.int y :: .int x :: st) :=
  fun H locs ls h1 h2 h3 => lv_imul C.1 C.2.1 hd (k H locs ls h1 h2 h3)
theorem wr_iand {x y : Int32} (pc : Nat) (C : wC p R s m args meth c cc own nL ret D cl sp q ca A) (hd : decode cc pc = .ok (.iand, 1))  (k : wJ p l e R s m args below meth c nL D cl sp q ca A Q kc ks μ (pc + 1) lv (.int (x &&& y) :: st)) : wJ p l e R s m args below meth c nL D cl sp q ca A Q kc ks μ pc lv (.int y :: .int x :: st) :=
  fun H locs ls h1 h2 h3 => lv_iand C.1 C.2.1 hd (k H locs ls h1 h2 h3)
theorem wr_ior {x y : Int32} (pc : Nat) (C : wC p R s m args meth c cc own nL ret D cl sp q ca A) (hd : decode cc pc = .ok (.ior, 1))  (k : wJ p l e R s m args below meth c nL D cl sp q ca A Q kc ks μ (pc + 1) lv (.int (x ||| y) :: st)) : wJ p l e R s m args below meth c nL D cl sp q ca A Q kc ks μ pc lv (.int y :: .int x :: st) :=
  fun H locs ls h1 h2 h3 => lv_ior C.1 C.2.1 hd (k H locs ls h1 h2 h3)
theorem wr_ixor {x y : Int32} (pc : Nat) (C : wC p R s m args meth c cc own nL ret D cl sp q ca A) (hd : decode cc pc = .ok (.ixor, 1))  (k : wJ p l e R s m args below meth c nL D cl sp q ca A Q kc ks μ (pc + 1) lv (.int (x ^^^ y) :: st)) : wJ p l e R s m args below meth c nL D cl sp q ca A Q kc ks μ pc lv (.int y :: .int x :: st) :=
  fun H locs ls h1 h2 h3 => lv_ixor C.1 C.2.1 hd (k H locs ls h1 h2 h3)
theorem wr_ishl {x y : Int32} (pc : Nat) (C : wC p R s m args meth c cc own nL ret D cl sp q ca A) (hd : decode cc pc = .ok (.ishl, 1))  (k : wJ p l e R s m args below meth c nL D cl sp q ca A Q kc ks μ (pc + 1) lv (.int (x <<< (y &&& 31)) :: st)) : wJ p l e R s m args below meth c nL D cl sp q ca A Q kc ks μ pc lv (.int y :: .int x :: st) :=
  fun H locs ls h1 h2 h3 => lv_ishl C.1 C.2.1 hd (k H locs ls h1 h2 h3)
theorem wr_ishr {x y : Int32} (pc : Nat) (C : wC p R s m args meth c cc own nL ret D cl sp q ca A) (hd : decode cc pc = .ok (.ishr, 1))  (k : wJ p l e R s m args below meth c nL D cl sp q ca A Q kc ks μ (pc + 1) lv (.int (x >>> (y &&& 31)) :: st)) : wJ p l e R s m args below meth c nL D cl sp q ca A Q kc ks μ pc lv (.int y :: .int x :: st) :=
  fun H locs ls h1 h2 h3 => lv_ishr C.1 C.2.1 hd (k H locs ls h1 h2 h3)
theorem wr_idiv {x y : Int32} (pc : Nat) (C : wC p R s m args meth c cc own nL ret D cl sp q ca A) (hd : decode cc pc = .ok (.idiv, 1)) (hne : ¬ y = 0) (k : wJ p l e R s m args below meth c nL D cl sp q ca A Q kc ks μ (pc + 1) lv (.int (x / y) :: st)) : wJ p l e R s m args below meth c nL D cl sp q ca A Q kc ks μ pc lv (.int y :: .int x :: st) :=
  fun H locs ls h1 h2 h3 => lv_idiv C.1 C.2.1 hd hne (k H locs ls h1 h2 h3)
theorem wr_irem {x y : Int32} (pc : Nat) (C : wC p R s m args meth c cc own nL ret D cl sp q ca A) (hd : decode cc pc = .ok (.irem, 1)) (hne : ¬ y = 0) (k : wJ p l e R s m args below meth c nL D cl sp q ca A Q kc ks μ (pc + 1) lv (.int (x - x / y * y) :: st)) : wJ p l e R s m args below meth c nL D cl sp q ca A Q kc ks μ pc lv (.int y :: .int x :: st) :=
  fun H locs ls h1 h2 h3 => lv_irem C.1 C.2.1 hd hne (k H locs ls h1 h2 h3)
theorem wr_ineg {x : Int32} (pc : Nat) (C : wC p R s m args meth c cc own nL ret D cl sp q ca A) (hd : decode cc pc = .ok (.ineg, 1))  (k : wJ p l e R s m args below meth c nL D cl sp q ca A Q kc ks μ (pc + 1) lv (.int (-x) :: st)) : wJ p l e R s m args below meth c nL D cl sp q ca A Q kc ks μ pc lv (.int x :: st) :=
  fun H locs ls h1 h2 h3 => lv_ineg C.1 C.2.1 hd (k H locs ls h1 h2 h3)
theorem wr_iushr {x y : Int32} (pc : Nat) (C : wC p R s m args meth c cc own nL ret D cl sp q ca A) (hd : decode cc pc = .ok (.iushr, 1))  (k : wJ p l e R s m args below meth c nL D cl sp q ca A Q kc ks μ (pc + 1) lv (.int (x.toUInt32 >>> (y.toUInt32 &&& Int32.toUInt32 31)).toInt32 :: st)) : wJ p l e R s m args below meth c nL D cl sp q ca A Q kc ks μ pc lv (.int y :: .int x :: st) :=
  fun H locs ls h1 h2 h3 => lv_iushr C.1 C.2.1 hd rfl (k H locs ls h1 h2 h3)
theorem wr_ladd {x y : Int64} (pc : Nat) (C : wC p R s m args meth c cc own nL ret D cl sp q ca A) (hd : decode cc pc = .ok (.ladd, 1))  (k : wJ p l e R s m args below meth c nL D cl sp q ca A Q kc ks μ (pc + 1) lv (.long (x + y) :: st)) : wJ p l e R s m args below meth c nL D cl sp q ca A Q kc ks μ pc lv (.long y :: .long x :: st) :=
  fun H locs ls h1 h2 h3 => lv_ladd C.1 C.2.1 hd (k H locs ls h1 h2 h3)
theorem wr_lsub {x y : Int64} (pc : Nat) (C : wC p R s m args meth c cc own nL ret D cl sp q ca A) (hd : decode cc pc = .ok (.lsub, 1))  (k : wJ p l e R s m args below meth c nL D cl sp q ca A Q kc ks μ (pc + 1) lv (.long (x - y) :: st)) : wJ p l e R s m args below meth c nL D cl sp q ca A Q kc ks μ pc lv (.long y :: .long x :: st) :=
  fun H locs ls h1 h2 h3 => lv_lsub C.1 C.2.1 hd (k H locs ls h1 h2 h3)
theorem wr_lmul {x y : Int64} (pc : Nat) (C : wC p R s m args meth c cc own nL ret D cl sp q ca A) (hd : decode cc pc = .ok (.lmul, 1))  (k : wJ p l e R s m args below meth c nL D cl sp q ca A Q kc ks μ (pc + 1) lv (.long (x * y) :: st)) : wJ p l e R s m args below meth c nL D cl sp q ca A Q kc ks μ pc lv (.long y :: .long x :: st) :=
  fun H locs ls h1 h2 h3 => lv_lmul C.1 C.2.1 hd (k H locs ls h1 h2 h3)
theorem wr_land {x y : Int64} (pc : Nat) (C : wC p R s m args meth c cc own nL ret D cl sp q ca A) (hd : decode cc pc = .ok (.land, 1))  (k : wJ p l e R s m args below meth c nL D cl sp q ca A Q kc ks μ (pc + 1) lv (.long (x &&& y) :: st)) : wJ p l e R s m args below meth c nL D cl sp q ca A Q kc ks μ pc lv (.long y :: .long x :: st) :=
  fun H locs ls h1 h2 h3 => lv_land C.1 C.2.1 hd (k H locs ls h1 h2 h3)
theorem wr_lor {x y : Int64} (pc : Nat) (C : wC p R s m args meth c cc own nL ret D cl sp q ca A) (hd : decode cc pc = .ok (.lor, 1))  (k : wJ p l e R s m args below meth c nL D cl sp q ca A Q kc ks μ (pc + 1) lv (.long (x ||| y) :: st)) : wJ p l e R s m args below meth c nL D cl sp q ca A Q kc ks μ pc lv (.long y :: .long x :: st) :=
  fun H locs ls h1 h2 h3 => lv_lor C.1 C.2.1 hd (k H locs ls h1 h2 h3)
theorem wr_ldiv {x y : Int64} (pc : Nat) (C : wC p R s m args meth c cc own nL ret D cl sp q ca A) (hd : decode cc pc = .ok (.ldiv, 1)) (hne : ¬ y = 0) (k : wJ p l e R s m args below meth c nL D cl sp q ca A Q kc ks μ (pc + 1) lv (.long (x / y) :: st)) : wJ p l e R s m args below meth c nL D cl sp q ca A Q kc ks μ pc lv (.long y :: .long x :: st) :=
  fun H locs ls h1 h2 h3 => lv_ldiv C.1 C.2.1 hd hne (k H locs ls h1 h2 h3)
theorem wr_lrem {x y : Int64} (pc : Nat) (C : wC p R s m args meth c cc own nL ret D cl sp q ca A) (hd : decode cc pc = .ok (.lrem, 1)) (hne : ¬ y = 0) (k : wJ p l e R s m args below meth c nL D cl sp q ca A Q kc ks μ (pc + 1) lv (.long (x - x / y * y) :: st)) : wJ p l e R s m args below meth c nL D cl sp q ca A Q kc ks μ pc lv (.long y :: .long x :: st) :=
  fun H locs ls h1 h2 h3 => lv_lrem C.1 C.2.1 hd hne (k H locs ls h1 h2 h3)
theorem wr_lshl {x : Int64} {y : Int32} (pc : Nat) (C : wC p R s m args meth c cc own nL ret D cl sp q ca A) (hd : decode cc pc = .ok (.lshl, 1))  (k : wJ p l e R s m args below meth c nL D cl sp q ca A Q kc ks μ (pc + 1) lv (.long (x <<< (y.toInt64 &&& 63)) :: st)) : wJ p l e R s m args below meth c nL D cl sp q ca A Q kc ks μ pc lv (.int y :: .long x :: st) :=
  fun H locs ls h1 h2 h3 => lv_lshl C.1 C.2.1 hd rfl (k H locs ls h1 h2 h3)
theorem wr_i2l {x : Int32} (pc : Nat) (C : wC p R s m args meth c cc own nL ret D cl sp q ca A) (hd : decode cc pc = .ok (.i2l, 1))  (k : wJ p l e R s m args below meth c nL D cl sp q ca A Q kc ks μ (pc + 1) lv (.long (x.toInt64) :: st)) : wJ p l e R s m args below meth c nL D cl sp q ca A Q kc ks μ pc lv (.int x :: st) :=
  fun H locs ls h1 h2 h3 => lv_i2l C.1 C.2.1 hd rfl (k H locs ls h1 h2 h3)
theorem wr_l2i {x : Int64} (pc : Nat) (C : wC p R s m args meth c cc own nL ret D cl sp q ca A) (hd : decode cc pc = .ok (.l2i, 1))  (k : wJ p l e R s m args below meth c nL D cl sp q ca A Q kc ks μ (pc + 1) lv (.int (x.toInt32) :: st)) : wJ p l e R s m args below meth c nL D cl sp q ca A Q kc ks μ pc lv (.long x :: st) :=
  fun H locs ls h1 h2 h3 => lv_l2i C.1 C.2.1 hd rfl (k H locs ls h1 h2 h3)
theorem wr_i2b {x : Int32} (pc : Nat) (C : wC p R s m args meth c cc own nL ret D cl sp q ca A) (hd : decode cc pc = .ok (.i2b, 1))  (k : wJ p l e R s m args below meth c nL D cl sp q ca A Q kc ks μ (pc + 1) lv (.int (x.toInt8.toInt32) :: st)) : wJ p l e R s m args below meth c nL D cl sp q ca A Q kc ks μ pc lv (.int x :: st) :=
  fun H locs ls h1 h2 h3 => lv_i2b C.1 C.2.1 hd rfl (k H locs ls h1 h2 h3)
theorem wr_i2s {x : Int32} (pc : Nat) (C : wC p R s m args meth c cc own nL ret D cl sp q ca A) (hd : decode cc pc = .ok (.i2s, 1))  (k : wJ p l e R s m args below meth c nL D cl sp q ca A Q kc ks μ (pc + 1) lv (.int (x.toInt16.toInt32) :: st)) : wJ p l e R s m args below meth c nL D cl sp q ca A Q kc ks μ pc lv (.int x :: st) :=
  fun H locs ls h1 h2 h3 => lv_i2s C.1 C.2.1 hd rfl (k H locs ls h1 h2 h3)
theorem wr_dup {va : Value} (pc : Nat) (C : wC p R s m args meth c cc own nL ret D cl sp q ca A) (hd : decode cc pc = .ok (.dup, 1)) (hva : va.category = 1) (k : wJ p l e R s m args below meth c nL D cl sp q ca A Q kc ks μ (pc + 1) lv (va :: va :: st)) : wJ p l e R s m args below meth c nL D cl sp q ca A Q kc ks μ pc lv (va :: st) :=
  fun H locs ls h1 h2 h3 => lv_dup C.1 C.2.1 hd hva (k H locs ls h1 h2 h3)
theorem wr_pop {va : Value} (pc : Nat) (C : wC p R s m args meth c cc own nL ret D cl sp q ca A) (hd : decode cc pc = .ok (.pop, 1)) (hva : va.category = 1) (k : wJ p l e R s m args below meth c nL D cl sp q ca A Q kc ks μ (pc + 1) lv st) : wJ p l e R s m args below meth c nL D cl sp q ca A Q kc ks μ pc lv (va :: st) :=
  fun H locs ls h1 h2 h3 => lv_pop C.1 C.2.1 hd hva (k H locs ls h1 h2 h3)
theorem wr_dup2 {va vb : Value} (pc : Nat) (C : wC p R s m args meth c cc own nL ret D cl sp q ca A) (hd : decode cc pc = .ok (.dup2, 1)) (hva : va.category = 1) (hvb : vb.category = 1) (k : wJ p l e R s m args below meth c nL D cl sp q ca A Q kc ks μ (pc + 1) lv (va :: vb :: va :: vb :: st)) : wJ p l e R s m args below meth c nL D cl sp q ca A Q kc ks μ pc lv (va :: vb :: st) :=
  fun H locs ls h1 h2 h3 => lv_dup2_11 C.1 C.2.1 hd hva hvb (k H locs ls h1 h2 h3)
theorem wr_if_eq {x : Int32} {off : Int} (pc tgt : Nat) (C : wC p R s m args meth c cc own nL ret D cl sp q ca A) (hd : decode cc pc = .ok (.ifCond .eq off, 3)) (ht : (pc : Int) + off = (tgt : Int)) (kt : x = 0 → wJ p l e R s m args below meth c nL D cl sp q ca A Q kc ks μ tgt lv st) (kf : ¬ x = 0 → wJ p l e R s m args below meth c nL D cl sp q ca A Q kc ks μ (pc + 3) lv st) : wJ p l e R s m args below meth c nL D cl sp q ca A Q kc ks μ pc lv (.int x :: st) :=
  fun H locs ls h1 h2 h3 => lv_if_eq C.1 C.2.1 hd ht (fun cw => kt cw H locs ls h1 h2 h3) (fun cw => kf cw H locs ls h1 h2 h3)
theorem wr_icmp_eq {x y : Int32} {off : Int} (pc tgt : Nat) (C : wC p R s m args meth c cc own nL ret D cl sp q ca A) (hd : decode cc pc = .ok (.if_icmp .eq off, 3)) (ht : (pc : Int) + off = (tgt : Int)) (kt : x = y → wJ p l e R s m args below meth c nL D cl sp q ca A Q kc ks μ tgt lv st) (kf : ¬ x = y → wJ p l e R s m args below meth c nL D cl sp q ca A Q kc ks μ (pc + 3) lv st) : wJ p l e R s m args below meth c nL D cl sp q ca A Q kc ks μ pc lv (.int y :: .int x :: st) :=
  fun H locs ls h1 h2 h3 => lv_icmp_eq C.1 C.2.1 hd ht (fun cw => kt cw H locs ls h1 h2 h3) (fun cw => kf cw H locs ls h1 h2 h3)
theorem wr_if_ne {x : Int32} {off : Int} (pc tgt : Nat) (C : wC p R s m args meth c cc own nL ret D cl sp q ca A) (hd : decode cc pc = .ok (.ifCond .ne off, 3)) (ht : (pc : Int) + off = (tgt : Int)) (kt : ¬ x = 0 → wJ p l e R s m args below meth c nL D cl sp q ca A Q kc ks μ tgt lv st) (kf : x = 0 → wJ p l e R s m args below meth c nL D cl sp q ca A Q kc ks μ (pc + 3) lv st) : wJ p l e R s m args below meth c nL D cl sp q ca A Q kc ks μ pc lv (.int x :: st) :=
  fun H locs ls h1 h2 h3 => lv_if_ne C.1 C.2.1 hd ht (fun cw => kt cw H locs ls h1 h2 h3) (fun cw => kf cw H locs ls h1 h2 h3)
theorem wr_icmp_ne {x y : Int32} {off : Int} (pc tgt : Nat) (C : wC p R s m args meth c cc own nL ret D cl sp q ca A) (hd : decode cc pc = .ok (.if_icmp .ne off, 3)) (ht : (pc : Int) + off = (tgt : Int)) (kt : ¬ x = y → wJ p l e R s m args below meth c nL D cl sp q ca A Q kc ks μ tgt lv st) (kf : x = y → wJ p l e R s m args below meth c nL D cl sp q ca A Q kc ks μ (pc + 3) lv st) : wJ p l e R s m args below meth c nL D cl sp q ca A Q kc ks μ pc lv (.int y :: .int x :: st) :=
  fun H locs ls h1 h2 h3 => lv_icmp_ne C.1 C.2.1 hd ht (fun cw => kt cw H locs ls h1 h2 h3) (fun cw => kf cw H locs ls h1 h2 h3)
theorem wr_if_lt {x : Int32} {off : Int} (pc tgt : Nat) (C : wC p R s m args meth c cc own nL ret D cl sp q ca A) (hd : decode cc pc = .ok (.ifCond .lt off, 3)) (ht : (pc : Int) + off = (tgt : Int)) (kt : x < 0 → wJ p l e R s m args below meth c nL D cl sp q ca A Q kc ks μ tgt lv st) (kf : ¬ x < 0 → wJ p l e R s m args below meth c nL D cl sp q ca A Q kc ks μ (pc + 3) lv st) : wJ p l e R s m args below meth c nL D cl sp q ca A Q kc ks μ pc lv (.int x :: st) :=
  fun H locs ls h1 h2 h3 => lv_if_lt C.1 C.2.1 hd ht (fun cw => kt cw H locs ls h1 h2 h3) (fun cw => kf cw H locs ls h1 h2 h3)
theorem wr_icmp_lt {x y : Int32} {off : Int} (pc tgt : Nat) (C : wC p R s m args meth c cc own nL ret D cl sp q ca A) (hd : decode cc pc = .ok (.if_icmp .lt off, 3)) (ht : (pc : Int) + off = (tgt : Int)) (kt : x < y → wJ p l e R s m args below meth c nL D cl sp q ca A Q kc ks μ tgt lv st) (kf : ¬ x < y → wJ p l e R s m args below meth c nL D cl sp q ca A Q kc ks μ (pc + 3) lv st) : wJ p l e R s m args below meth c nL D cl sp q ca A Q kc ks μ pc lv (.int y :: .int x :: st) :=
  fun H locs ls h1 h2 h3 => lv_icmp_lt C.1 C.2.1 hd ht (fun cw => kt cw H locs ls h1 h2 h3) (fun cw => kf cw H locs ls h1 h2 h3)
theorem wr_if_ge {x : Int32} {off : Int} (pc tgt : Nat) (C : wC p R s m args meth c cc own nL ret D cl sp q ca A) (hd : decode cc pc = .ok (.ifCond .ge off, 3)) (ht : (pc : Int) + off = (tgt : Int)) (kt : 0 ≤ x → wJ p l e R s m args below meth c nL D cl sp q ca A Q kc ks μ tgt lv st) (kf : ¬ 0 ≤ x → wJ p l e R s m args below meth c nL D cl sp q ca A Q kc ks μ (pc + 3) lv st) : wJ p l e R s m args below meth c nL D cl sp q ca A Q kc ks μ pc lv (.int x :: st) :=
  fun H locs ls h1 h2 h3 => lv_if_ge C.1 C.2.1 hd ht (fun cw => kt cw H locs ls h1 h2 h3) (fun cw => kf cw H locs ls h1 h2 h3)
theorem wr_icmp_ge {x y : Int32} {off : Int} (pc tgt : Nat) (C : wC p R s m args meth c cc own nL ret D cl sp q ca A) (hd : decode cc pc = .ok (.if_icmp .ge off, 3)) (ht : (pc : Int) + off = (tgt : Int)) (kt : y ≤ x → wJ p l e R s m args below meth c nL D cl sp q ca A Q kc ks μ tgt lv st) (kf : ¬ y ≤ x → wJ p l e R s m args below meth c nL D cl sp q ca A Q kc ks μ (pc + 3) lv st) : wJ p l e R s m args below meth c nL D cl sp q ca A Q kc ks μ pc lv (.int y :: .int x :: st) :=
  fun H locs ls h1 h2 h3 => lv_icmp_ge C.1 C.2.1 hd ht (fun cw => kt cw H locs ls h1 h2 h3) (fun cw => kf cw H locs ls h1 h2 h3)
theorem wr_if_gt {x : Int32} {off : Int} (pc tgt : Nat) (C : wC p R s m args meth c cc own nL ret D cl sp q ca A) (hd : decode cc pc = .ok (.ifCond .gt off, 3)) (ht : (pc : Int) + off = (tgt : Int)) (kt : 0 < x → wJ p l e R s m args below meth c nL D cl sp q ca A Q kc ks μ tgt lv st) (kf : ¬ 0 < x → wJ p l e R s m args below meth c nL D cl sp q ca A Q kc ks μ (pc + 3) lv st) : wJ p l e R s m args below meth c nL D cl sp q ca A Q kc ks μ pc lv (.int x :: st) :=
  fun H locs ls h1 h2 h3 => lv_if_gt C.1 C.2.1 hd ht (fun cw => kt cw H locs ls h1 h2 h3) (fun cw => kf cw H locs ls h1 h2 h3)
theorem wr_icmp_gt {x y : Int32} {off : Int} (pc tgt : Nat) (C : wC p R s m args meth c cc own nL ret D cl sp q ca A) (hd : decode cc pc = .ok (.if_icmp .gt off, 3)) (ht : (pc : Int) + off = (tgt : Int)) (kt : y < x → wJ p l e R s m args below meth c nL D cl sp q ca A Q kc ks μ tgt lv st) (kf : ¬ y < x → wJ p l e R s m args below meth c nL D cl sp q ca A Q kc ks μ (pc + 3) lv st) : wJ p l e R s m args below meth c nL D cl sp q ca A Q kc ks μ pc lv (.int y :: .int x :: st) :=
  fun H locs ls h1 h2 h3 => lv_icmp_gt C.1 C.2.1 hd ht (fun cw => kt cw H locs ls h1 h2 h3) (fun cw => kf cw H locs ls h1 h2 h3)
theorem wr_if_le {x : Int32} {off : Int} (pc tgt : Nat) (C : wC p R s m args meth c cc own nL ret D cl sp q ca A) (hd : decode cc pc = .ok (.ifCond .le off, 3)) (ht : (pc : Int) + off = (tgt : Int)) (kt : x ≤ 0 → wJ p l e R s m args below meth c nL D cl sp q ca A Q kc ks μ tgt lv st) (kf : ¬ x ≤ 0 → wJ p l e R s m args below meth c nL D cl sp q ca A Q kc ks μ (pc + 3) lv st) : wJ p l e R s m args below meth c nL D cl sp q ca A Q kc ks μ pc lv (.int x :: st) :=
  fun H locs ls h1 h2 h3 => lv_if_le C.1 C.2.1 hd ht (fun cw => kt cw H locs ls h1 h2 h3) (fun cw => kf cw H locs ls h1 h2 h3)
theorem wr_icmp_le {x y : Int32} {off : Int} (pc tgt : Nat) (C : wC p R s m args meth c cc own nL ret D cl sp q ca A) (hd : decode cc pc = .ok (.if_icmp .le off, 3)) (ht : (pc : Int) + off = (tgt : Int)) (kt : x ≤ y → wJ p l e R s m args below meth c nL D cl sp q ca A Q kc ks μ tgt lv st) (kf : ¬ x ≤ y → wJ p l e R s m args below meth c nL D cl sp q ca A Q kc ks μ (pc + 3) lv st) : wJ p l e R s m args below meth c nL D cl sp q ca A Q kc ks μ pc lv (.int y :: .int x :: st) :=
  fun H locs ls h1 h2 h3 => lv_icmp_le C.1 C.2.1 hd ht (fun cw => kt cw H locs ls h1 h2 h3) (fun cw => kf cw H locs ls h1 h2 h3)
theorem wr_goto {off : Int} {tgt : Nat} (pc : Nat) (C : wC p R s m args meth c cc own nL ret D cl sp q ca A) (hd : decode cc pc = .ok (.goto off, 3)) (ht : (pc : Int) + off = (tgt : Int)) (k : wJ p l e R s m args below meth c nL D cl sp q ca A Q kc ks μ tgt lv st) : wJ p l e R s m args below meth c nL D cl sp q ca A Q kc ks μ pc lv st :=
  fun H locs ls h1 h2 h3 => lv_goto C.1 C.2.1 hd ht (k H locs ls h1 h2 h3)
theorem wr_tableIn {dflt lo hi : Int} {offs : Array Int} {len : Nat} {x : Int32} {off : Int} {tgt : Nat} (pc : Nat) (C : wC p R s m args meth c cc own nL ret D cl sp q ca A) (hd : decode cc pc = .ok (.tableswitch dflt lo hi offs, len)) (a1 : ¬ x.toInt < lo) (a2 : ¬ hi < x.toInt) (ho : offs[(x.toInt - lo).toNat]? = some off) (ht : (pc : Int) + off = (tgt : Int)) (k : wJ p l e R s m args below meth c nL D cl sp q ca A Q kc ks μ tgt lv st) : wJ p l e R s m args below meth c nL D cl sp q ca A Q kc ks μ pc lv (.int x :: st) :=
  fun H locs ls h1 h2 h3 => lv_tableIn C.1 C.2.1 hd a1 a2 ho ht (k H locs ls h1 h2 h3)
theorem wr_tableOut {dflt lo hi : Int} {offs : Array Int} {len : Nat} {x : Int32} {tgt : Nat} (pc : Nat) (C : wC p R s m args meth c cc own nL ret D cl sp q ca A) (hd : decode cc pc = .ok (.tableswitch dflt lo hi offs, len)) (a1 : x.toInt < lo ∨ hi < x.toInt) (ht : (pc : Int) + dflt = (tgt : Int)) (k : wJ p l e R s m args below meth c nL D cl sp q ca A Q kc ks μ tgt lv st) : wJ p l e R s m args below meth c nL D cl sp q ca A Q kc ks μ pc lv (.int x :: st) :=
  fun H locs ls h1 h2 h3 => lv_tableOut C.1 C.2.1 hd a1 ht (k H locs ls h1 h2 h3)
theorem wl_gt (x y : Int64) : (0 < lg_cmp x y) = (y < x) := by
  unfold lg_cmp
  by_cases h : y < x
  · rw [if_pos h]; simp [h]
  · rw [if_neg h]
    by_cases h2 : x = y
    · rw [if_pos h2]; simp [h]
    · rw [if_neg h2]; simp only [h, eq_iff_iff, iff_false]; decide
theorem wl_eq (x y : Int64) : (lg_cmp x y = 0) = (x = y) := by
  unfold lg_cmp
  by_cases h : y < x
  · rw [if_pos h]
    have hne : ¬ x = y := fun e => absurd h (by rw [e]; exact Int64.lt_irrefl)
    simp only [hne, eq_iff_iff, iff_false]; decide
  · rw [if_neg h]
    by_cases h2 : x = y
    · rw [if_pos h2]; simp [h2]
    · rw [if_neg h2]; simp only [h2, eq_iff_iff, iff_false]; decide
theorem wl_lt (x y : Int64) : (lg_cmp x y < 0) = (x < y) := by
  have hh : ∀ a b : Int64, ¬ b < a → ¬ a = b → a < b := fun a b h1 h2 => by
    rcases Int64.lt_or_le a b with h | h
    · exact h
    · exact absurd (Int64.le_antisymm (Int64.not_lt.mp h1) h) h2
  have hi : ∀ a b : Int64, b < a → ¬ a < b := fun a b h => Int64.not_lt.mpr (Int64.le_of_lt h)
  unfold lg_cmp; by_cases h : y < x
  · simp [h, hi x y h]
  · by_cases h2 : x = y
    · simp [h2]
    · simp [h, h2, hh x y h h2]
theorem wl_ge (x y : Int64) : (0 ≤ lg_cmp x y) = (y ≤ x) := by
  have h := wl_lt x y
  rw [← Int32.not_lt, ← Int64.not_lt, h]
theorem wl_le (x y : Int64) : (lg_cmp x y ≤ 0) = (x ≤ y) := by
  have h := wl_gt x y
  rw [← Int32.not_lt, ← Int64.not_lt, h]
theorem wr_lcmp_eq {x y : Int64} {off : Int} (pc tgt : Nat) (C : wC p R s m args meth c cc own nL ret D cl sp q ca A) (hd : decode cc pc = .ok (.lcmp, 1)) (hd2 : decode cc (pc + 1) = .ok (.ifCond .eq off, 3)) (ht : ((pc + 1 : Nat) : Int) + off = (tgt : Int)) (kt : x = y → wJ p l e R s m args below meth c nL D cl sp q ca A Q kc ks μ tgt lv st) (kf : ¬ x = y → wJ p l e R s m args below meth c nL D cl sp q ca A Q kc ks μ (pc + 4) lv st) : wJ p l e R s m args below meth c nL D cl sp q ca A Q kc ks μ pc lv (.long y :: .long x :: st) :=
  fun H locs ls h1 h2 h3 => W.lcmp C.1 C.2.1 hd (lv_if_eq C.1 C.2.1 hd2 ht (fun cw => kt (by simpa only [wl_eq] using cw) H locs ls h1 h2 h3) (fun cw => kf (by simpa only [wl_eq] using cw) H locs ls h1 h2 h3))
theorem wr_lcmp_ne {x y : Int64} {off : Int} (pc tgt : Nat) (C : wC p R s m args meth c cc own nL ret D cl sp q ca A) (hd : decode cc pc = .ok (.lcmp, 1)) (hd2 : decode cc (pc + 1) = .ok (.ifCond .ne off, 3)) (ht : ((pc + 1 : Nat) : Int) + off = (tgt : Int)) (kt : ¬ x = y → wJ p l e R s m args below meth c nL D cl sp q ca A Q kc ks μ tgt lv st) (kf : x = y → wJ p l e R s m args below meth c nL D cl sp q ca A Q kc ks μ (pc + 4) lv st) : wJ p l e R s m args below meth c nL D cl sp q ca A Q kc ks μ pc lv (.long y :: .long x :: st) :=
  fun H locs ls h1 h2 h3 => W.lcmp C.1 C.2.1 hd (lv_if_ne C.1 C.2.1 hd2 ht (fun cw => kt (by simpa only [wl_eq] using cw) H locs ls h1 h2 h3) (fun cw => kf (by simpa only [wl_eq] using cw) H locs ls h1 h2 h3))
theorem wr_lcmp_lt {x y : Int64} {off : Int} (pc tgt : Nat) (C : wC p R s m args meth c cc own nL ret D cl sp q ca A) (hd : decode cc pc = .ok (.lcmp, 1)) (hd2 : decode cc (pc + 1) = .ok (.ifCond .lt off, 3)) (ht : ((pc + 1 : Nat) : Int) + off = (tgt : Int)) (kt : x < y → wJ p l e R s m args below meth c nL D cl sp q ca A Q kc ks μ tgt lv st) (kf : ¬ x < y → wJ p l e R s m args below meth c nL D cl sp q ca A Q kc ks μ (pc + 4) lv st) : wJ p l e R s m args below meth c nL D cl sp q ca A Q kc ks μ pc lv (.long y :: .long x :: st) :=
  fun H locs ls h1 h2 h3 => W.lcmp C.1 C.2.1 hd (lv_if_lt C.1 C.2.1 hd2 ht (fun cw => kt (by simpa only [wl_lt] using cw) H locs ls h1 h2 h3) (fun cw => kf (by simpa only [wl_lt] using cw) H locs ls h1 h2 h3))
theorem wr_lcmp_ge {x y : Int64} {off : Int} (pc tgt : Nat) (C : wC p R s m args meth c cc own nL ret D cl sp q ca A) (hd : decode cc pc = .ok (.lcmp, 1)) (hd2 : decode cc (pc + 1) = .ok (.ifCond .ge off, 3)) (ht : ((pc + 1 : Nat) : Int) + off = (tgt : Int)) (kt : y ≤ x → wJ p l e R s m args below meth c nL D cl sp q ca A Q kc ks μ tgt lv st) (kf : ¬ y ≤ x → wJ p l e R s m args below meth c nL D cl sp q ca A Q kc ks μ (pc + 4) lv st) : wJ p l e R s m args below meth c nL D cl sp q ca A Q kc ks μ pc lv (.long y :: .long x :: st) :=
  fun H locs ls h1 h2 h3 => W.lcmp C.1 C.2.1 hd (lv_if_ge C.1 C.2.1 hd2 ht (fun cw => kt (by simpa only [wl_ge] using cw) H locs ls h1 h2 h3) (fun cw => kf (by simpa only [wl_ge] using cw) H locs ls h1 h2 h3))
theorem wr_lcmp_gt {x y : Int64} {off : Int} (pc tgt : Nat) (C : wC p R s m args meth c cc own nL ret D cl sp q ca A) (hd : decode cc pc = .ok (.lcmp, 1)) (hd2 : decode cc (pc + 1) = .ok (.ifCond .gt off, 3)) (ht : ((pc + 1 : Nat) : Int) + off = (tgt : Int)) (kt : y < x → wJ p l e R s m args below meth c nL D cl sp q ca A Q kc ks μ tgt lv st) (kf : ¬ y < x → wJ p l e R s m args below meth c nL D cl sp q ca A Q kc ks μ (pc + 4) lv st) : wJ p l e R s m args below meth c nL D cl sp q ca A Q kc ks μ pc lv (.long y :: .long x :: st) :=
  fun H locs ls h1 h2 h3 => W.lcmp C.1 C.2.1 hd (lv_if_gt C.1 C.2.1 hd2 ht (fun cw => kt (by simpa only [wl_gt] using cw) H locs ls h1 h2 h3) (fun cw => kf (by simpa only [wl_gt] using cw) H locs ls h1 h2 h3))
theorem wr_lcmp_le {x y : Int64} {off : Int} (pc tgt : Nat) (C : wC p R s m args meth c cc own nL ret D cl sp q ca A) (hd : decode cc pc = .ok (.lcmp, 1)) (hd2 : decode cc (pc + 1) = .ok (.ifCond .le off, 3)) (ht : ((pc + 1 : Nat) : Int) + off = (tgt : Int)) (kt : x ≤ y → wJ p l e R s m args below meth c nL D cl sp q ca A Q kc ks μ tgt lv st) (kf : ¬ x ≤ y → wJ p l e R s m args below meth c nL D cl sp q ca A Q kc ks μ (pc + 4) lv st) : wJ p l e R s m args below meth c nL D cl sp q ca A Q kc ks μ pc lv (.long y :: .long x :: st) :=
  fun H locs ls h1 h2 h3 => W.lcmp C.1 C.2.1 hd (lv_if_le C.1 C.2.1 hd2 ht (fun cw => kt (by simpa only [wl_le] using cw) H locs ls h1 h2 h3) (fun cw => kf (by simpa only [wl_le] using cw) H locs ls h1 h2 h3))
theorem wr_iald {c0 n : Nat} {i : Int32} (pc : Nat) (C : wC p R s m args meth c cc own nL ret D cl sp q ca A) (hd : decode cc pc = .ok (.iaload, 1)) (hs : sp[c0]? = some (.inr (0, n))) (hin : ok_in i n = true) (k : wJ p l e R s m args below meth c nL D cl sp q ca A Q kc ks μ (pc + 1) lv (.int (μ.1 c0 i.toNatClampNeg) :: st)) : wJ p l e R s m args below meth c nL D cl sp q ca A Q kc ks μ pc lv (.int i :: .ref (q c0) :: st) :=
  fun H locs ls h1 h2 h3 => va_iald C.1 C.2.1 C.2.2.2.2.2.1 h1 c0 0 (wWs_get hs) rfl (ok_in_vp hin) hd (k H locs ls h1 h2 h3)
theorem wr_bald {c0 n : Nat} {i : Int32} (pc : Nat) (C : wC p R s m args meth c cc own nL ret D cl sp q ca A) (hd : decode cc pc = .ok (.baload, 1)) (hs : sp[c0]? = some (.inr (2, n))) (hin : ok_in i n = true) (k : wJ p l e R s m args below meth c nL D cl sp q ca A Q kc ks μ (pc + 1) lv (.int (μ.1 c0 i.toNatClampNeg) :: st)) : wJ p l e R s m args below meth c nL D cl sp q ca A Q kc ks μ pc lv (.int i :: .ref (q c0) :: st) :=
  fun H locs ls h1 h2 h3 => va_bald C.1 C.2.1 C.2.2.2.2.2.1 h1 c0 2 (wWs_get hs) rfl (ok_in_vp hin) hd (k H locs ls h1 h2 h3)
theorem wr_zald {c0 n : Nat} {i : Int32} (pc : Nat) (C : wC p R s m args meth c cc own nL ret D cl sp q ca A) (hd : decode cc pc = .ok (.baload, 1)) (hs : sp[c0]? = some (.inr (3, n))) (hin : ok_in i n = true) (k : wJ p l e R s m args below meth c nL D cl sp q ca A Q kc ks μ (pc + 1) lv (.int (μ.1 c0 i.toNatClampNeg) :: st)) : wJ p l e R s m args below meth c nL D cl sp q ca A Q kc ks μ pc lv (.int i :: .ref (q c0) :: st) :=
  fun H locs ls h1 h2 h3 => va_zald C.1 C.2.1 C.2.2.2.2.2.1 h1 c0 3 (wWs_get hs) rfl (ok_in_vp hin) hd (k H locs ls h1 h2 h3)
theorem wr_sald {c0 n : Nat} {i : Int32} (pc : Nat) (C : wC p R s m args meth c cc own nL ret D cl sp q ca A) (hd : decode cc pc = .ok (.saload, 1)) (hs : sp[c0]? = some (.inr (4, n))) (hin : ok_in i n = true) (k : wJ p l e R s m args below meth c nL D cl sp q ca A Q kc ks μ (pc + 1) lv (.int (μ.1 c0 i.toNatClampNeg) :: st)) : wJ p l e R s m args below meth c nL D cl sp q ca A Q kc ks μ pc lv (.int i :: .ref (q c0) :: st) :=
  fun H locs ls h1 h2 h3 => va_sald C.1 C.2.1 C.2.2.2.2.2.1 h1 c0 4 (wWs_get hs) rfl (ok_in_vp hin) hd (k H locs ls h1 h2 h3)
theorem wr_lald {c0 n : Nat} {i : Int32} (pc : Nat) (C : wC p R s m args meth c cc own nL ret D cl sp q ca A) (hd : decode cc pc = .ok (.laload, 1)) (hs : sp[c0]? = some (.inr (1, n))) (hin : ok_in i n = true) (k : wJ p l e R s m args below meth c nL D cl sp q ca A Q kc ks μ (pc + 1) lv (.long (μ.2 c0 i.toNatClampNeg) :: st)) : wJ p l e R s m args below meth c nL D cl sp q ca A Q kc ks μ pc lv (.int i :: .ref (q c0) :: st) :=
  fun H locs ls h1 h2 h3 => va_lald C.1 C.2.1 C.2.2.2.2.2.1 h1 c0 1 (wWs_get hs) rfl (ok_in_vp hin) hd (k H locs ls h1 h2 h3)
theorem wr_iast {c0 n : Nat} {i x : Int32} {μ' : wMem} (pc : Nat) (C : wC p R s m args meth c cc own nL ret D cl sp q ca A) (hd : decode cc pc = .ok (.iastore, 1)) (hs : sp[c0]? = some (.inr (0, n))) (hin : ok_in i n = true)  (hμ : μ' = wSI μ c0 i.toNatClampNeg x) (k : wJ p l e R s m args below meth c nL D cl sp q ca A Q kc ks μ' (pc + 1) lv st) : wJ p l e R s m args below meth c nL D cl sp q ca A Q kc ks μ pc lv (.int x :: .int i :: .ref (q c0) :: st) :=
  fun H locs ls h1 h2 h3 => va_iast C.1 C.2.1 C.2.2.2.2.2.1 h1 (wWs_D C.2.2.2.2.2.2.2.2.1 C.2.2.2.2.2.2.2.2.2.1 μ) h2 c0 0 (wWs_get hs) rfl (ok_in_vp hin) hd (fun H1 locs1 g1 g2 g3 => k H1 locs1 ls (by rw [hμ, ← wWs_setI hs (by decide)]; exact g1) g3 h3)
theorem wr_bast {c0 n : Nat} {i x : Int32} {μ' : wMem} (pc : Nat) (C : wC p R s m args meth c cc own nL ret D cl sp q ca A) (hd : decode cc pc = .ok (.bastore, 1)) (hs : sp[c0]? = some (.inr (2, n))) (hin : ok_in i n = true) (hx : vp_nar .byte x = x) (hμ : μ' = wSI μ c0 i.toNatClampNeg x) (k : wJ p l e R s m args below meth c nL D cl sp q ca A Q kc ks μ' (pc + 1) lv st) : wJ p l e R s m args below meth c nL D cl sp q ca A Q kc ks μ pc lv (.int x :: .int i :: .ref (q c0) :: st) :=
  fun H locs ls h1 h2 h3 => va_bast C.1 C.2.1 C.2.2.2.2.2.1 h1 (wWs_D C.2.2.2.2.2.2.2.2.1 C.2.2.2.2.2.2.2.2.2.1 μ) h2 c0 2 (wWs_get hs) rfl (ok_in_vp hin) hd (fun H1 locs1 g1 g2 g3 => k H1 locs1 ls (by rw [hμ, ← wWs_setI hs (by decide)]; rw [hx] at g1; exact g1) g3 h3)
theorem wr_zast {c0 n : Nat} {i x : Int32} {μ' : wMem} (pc : Nat) (C : wC p R s m args meth c cc own nL ret D cl sp q ca A) (hd : decode cc pc = .ok (.bastore, 1)) (hs : sp[c0]? = some (.inr (3, n))) (hin : ok_in i n = true) (hx : vp_nar .boolean x = x) (hμ : μ' = wSI μ c0 i.toNatClampNeg x) (k : wJ p l e R s m args below meth c nL D cl sp q ca A Q kc ks μ' (pc + 1) lv st) : wJ p l e R s m args below meth c nL D cl sp q ca A Q kc ks μ pc lv (.int x :: .int i :: .ref (q c0) :: st) :=
  fun H locs ls h1 h2 h3 => va_zast C.1 C.2.1 C.2.2.2.2.2.1 h1 (wWs_D C.2.2.2.2.2.2.2.2.1 C.2.2.2.2.2.2.2.2.2.1 μ) h2 c0 3 (wWs_get hs) rfl (ok_in_vp hin) hd (fun H1 locs1 g1 g2 g3 => k H1 locs1 ls (by rw [hμ, ← wWs_setI hs (by decide)]; rw [hx] at g1; exact g1) g3 h3)
theorem wr_sast {c0 n : Nat} {i x : Int32} {μ' : wMem} (pc : Nat) (C : wC p R s m args meth c cc own nL ret D cl sp q ca A) (hd : decode cc pc = .ok (.sastore, 1)) (hs : sp[c0]? = some (.inr (4, n))) (hin : ok_in i n = true) (hx : vp_nar .short x = x) (hμ : μ' = wSI μ c0 i.toNatClampNeg x) (k : wJ p l e R s m args below meth c nL D cl sp q ca A Q kc ks μ' (pc + 1) lv st) : wJ p l e R s m args below meth c nL D cl sp q ca A Q kc ks μ pc lv (.int x :: .int i :: .ref (q c0) :: st) :=
  fun H locs ls h1 h2 h3 => va_sast C.1 C.2.1 C.2.2.2.2.2.1 h1 (wWs_D C.2.2.2.2.2.2.2.2.1 C.2.2.2.2.2.2.2.2.2.1 μ) h2 c0 4 (wWs_get hs) rfl (ok_in_vp hin) hd (fun H1 locs1 g1 g2 g3 => k H1 locs1 ls (by rw [hμ, ← wWs_setI hs (by decide)]; rw [hx] at g1; exact g1) g3 h3)
theorem wr_last {c0 n : Nat} {i : Int32} {x : Int64} {μ' : wMem} (pc : Nat) (C : wC p R s m args meth c cc own nL ret D cl sp q ca A) (hd : decode cc pc = .ok (.lastore, 1)) (hs : sp[c0]? = some (.inr (1, n))) (hin : ok_in i n = true) (hμ : μ' = wSL μ c0 i.toNatClampNeg x) (k : wJ p l e R s m args below meth c nL D cl sp q ca A Q kc ks μ' (pc + 1) lv st) : wJ p l e R s m args below meth c nL D cl sp q ca A Q kc ks μ pc lv (.long x :: .int i :: .ref (q c0) :: st) :=
  fun H locs ls h1 h2 h3 => va_last C.1 C.2.1 C.2.2.2.2.2.1 h1 (wWs_D C.2.2.2.2.2.2.2.2.1 C.2.2.2.2.2.2.2.2.2.1 μ) h2 c0 1 (wWs_get hs) rfl (ok_in_vp hin) hd (fun H1 locs1 g1 g2 g3 => k H1 locs1 ls (by rw [hμ, ← wWs_setL hs]; exact g1) g3 h3)
theorem wr_aaldD {c0 n t d : Nat} {Cl : String} {i : Int32} (pc : Nat) (C : wC p R s m args meth c cc own nL ret D cl sp q ca A) (hd : decode cc pc = .ok (.aaload, 1)) (t0 : Nat) (hs : sp[c0]? = some (.inr (t, n))) (h4 : 4 < t) (hty : (wTy ca)[t0]? = some (ca.1 t, .object Cl)) (hin : ok_in i n = true) (hdg : wRd t i.toNatClampNeg = d + 1) (k : wJ p l e R s m args below meth c nL D cl sp q ca A Q kc ks μ (pc + 1) lv (.ref (q d) :: st)) : wJ p l e R s m args below meth c nL D cl sp q ca A Q kc ks μ pc lv (.int i :: .ref (q c0) :: st) :=
  fun H locs ls h1 h2 h3 => va_aldq C.1 C.2.1 C.2.2.2.2.2.1 h1 c0 t0 (wWs_getR hs h4) hty (ok_in_vp hin) hd (by rw [wRa_at hdg]; exact k H locs ls h1 h2 h3)
theorem wr_aaldN {c0 n t : Nat} {Cl : String} {i : Int32} (pc : Nat) (C : wC p R s m args meth c cc own nL ret D cl sp q ca A) (hd : decode cc pc = .ok (.aaload, 1)) (t0 : Nat) (hs : sp[c0]? = some (.inr (t, n))) (h4 : 4 < t) (hty : (wTy ca)[t0]? = some (ca.1 t, .object Cl)) (hin : ok_in i n = true) (hdg : wRd t i.toNatClampNeg = 0) (k : wJ p l e R s m args below meth c nL D cl sp q ca A Q kc ks μ (pc + 1) lv (.null :: st)) : wJ p l e R s m args below meth c nL D cl sp q ca A Q kc ks μ pc lv (.int i :: .ref (q c0) :: st) :=
  fun H locs ls h1 h2 h3 => va_aldq C.1 C.2.1 C.2.2.2.2.2.1 h1 c0 t0 (wWs_getR hs h4) hty (ok_in_vp hin) hd (by rw [wRa_no hdg]; exact k H locs ls h1 h2 h3)
theorem wr_len {c0 t n : Nat} {ty : FieldType} (pc : Nat) (C : wC p R s m args meth c cc own nL ret D cl sp q ca A) (hd : decode cc pc = .ok (.arraylength, 1)) (t0 : Nat) (hs : sp[c0]? = some (.inr (t, n))) (ht : (wTy ca)[t0]? = some (ca.1 t, ty)) (k : wJ p l e R s m args below meth c nL D cl sp q ca A Q kc ks μ (pc + 1) lv (.int (Int32.ofNat n) :: st)) : wJ p l e R s m args below meth c nL D cl sp q ca A Q kc ks μ pc lv (.ref (q c0) :: st) :=
  fun H locs ls h1 h2 h3 => va_alen C.1 C.2.1 C.2.2.2.2.2.1 h1 c0 t0 (wWs_get hs) ht rfl hd (k H locs ls h1 h2 h3)
theorem wr_castA {c0 t n ix : Nat} {nm : String} (pc : Nat) (C : wC p R s m args meth c cc own nL ret D cl sp q ca A) (hd : decode cc pc = .ok (.checkcast ix, 3)) (hl : Cond.classLink own ix nm ∈ lw_all) (hs : sp[c0]? = some (.inr (t, n))) (hn : s.vm.findClass nm = some (ca.1 t)) (k : wJ p l e R s m args below meth c nL D cl sp q ca A Q kc ks μ (pc + 3) lv (.ref (q c0) :: st)) : wJ p l e R s m args below meth c nL D cl sp q ca A Q kc ks μ pc lv (.ref (q c0) :: st) :=
  fun H locs ls h1 h2 h3 => va_castA C.1 C.2.1 C.2.2.2.1 (C.2.2.2.2.1 _ hl) h1 c0 (wWs_get hs) hn hd (k H locs ls h1 h2 h3)
theorem wcell_ok (cA : ClassId) (x : vp_A) : (vp_cell cA x).vm.isStatics = false ∧ (vp_cell cA x).cls = cA := by
  obtain ⟨n, f | f | f | f | f⟩ := x <;> exact ⟨rfl, rfl⟩
theorem wA_cell {H : Heap} {c0 t n : Nat} (h1 : va_P D cl (wWs sp q ca μ) H) (hs : sp[c0]? = some (.inr (t, n))) : ∃ cell : Cell, H[q c0]? = some cell ∧ cell.vm.isStatics = false ∧ cell.cls = ca.1 t := by
  have h : va_at D cl (q c0, .inl (ca.1 t, (n, if t = 1 then .inr (.inl (μ.2 c0)) else if 4 < t then .inr (.inr (.inr (.inr (wRa q t)))) else .inl (μ.1 c0)))) H := h1 c0 _ (wWs_get hs)
  exact ⟨_, h, (wcell_ok _ _).1, (wcell_ok _ _).2⟩
theorem wr_instA {c0 t n ix : Nat} {nm : String} (pc : Nat) (C : wC p R s m args meth c cc own nL ret D cl sp q ca A) (hd : decode cc pc = .ok (.instanceof ix, 3)) (hl : Cond.classLink own ix nm ∈ lw_all) (hs : sp[c0]? = some (.inr (t, n))) (hn : s.vm.findClass nm = some (ca.1 t)) (k : wJ p l e R s m args below meth c nL D cl sp q ca A Q kc ks μ (pc + 3) lv (.int 1 :: st)) : wJ p l e R s m args below meth c nL D cl sp q ca A Q kc ks μ pc lv (.ref (q c0) :: st) :=
  fun H locs ls h1 h2 h3 => va_instE C.1 C.2.1 C.2.2.2.1 (C.2.2.2.2.1 _ hl) (by obtain ⟨cell, e1, e2, e3⟩ := wA_cell h1 hs; exact ⟨cell, e1, e2, by rw [e3]; exact hn⟩) hd (k H locs ls h1 h2 h3)
theorem wr_instNo {c0 t n ix : Nat} {nm nm0 : String} (pc : Nat) (C : wC p R s m args meth c cc own nL ret D cl sp q ca A) (hd : decode cc pc = .ok (.instanceof ix, 3)) (hl : Cond.classLink own ix nm ∈ lw_all) (hs : sp[c0]? = some (.inr (t, n))) (hn : s.vm.findClass nm0 = some (ca.1 t)) (hno : (nm0, nm) ∈ wNcs) (k : wJ p l e R s m args below meth c nL D cl sp q ca A Q kc ks μ (pc + 3) lv (.int 0 :: st)) : wJ p l e R s m args below meth c nL D cl sp q ca A Q kc ks μ pc lv (.ref (q c0) :: st) :=
  fun H locs ls h1 h2 h3 => va_instNo C.1 C.2.1 C.2.2.2.1 (C.2.2.2.2.1 _ hl) (C.2.2.2.2.2.2.2.2.2.2.2.2 _ hno) (by obtain ⟨cell, e1, e2, e3⟩ := wA_cell h1 hs; exact ⟨cell, e1, e2, by rw [e3]; exact hn⟩) hd (k H locs ls h1 h2 h3)
theorem wr_instN {ix : Nat} (pc : Nat) (C : wC p R s m args meth c cc own nL ret D cl sp q ca A) (hd : decode cc pc = .ok (.instanceof ix, 3)) (k : wJ p l e R s m args below meth c nL D cl sp q ca A Q kc ks μ (pc + 3) lv (.int 0 :: st)) : wJ p l e R s m args below meth c nL D cl sp q ca A Q kc ks μ pc lv (.null :: st) :=
  fun H locs ls h1 h2 h3 => lv_instN C.1 C.2.1 hd (k H locs ls h1 h2 h3)
theorem wr_castN {ix : Nat} (pc : Nat) (C : wC p R s m args meth c cc own nL ret D cl sp q ca A) (hd : decode cc pc = .ok (.checkcast ix, 3)) (k : wJ p l e R s m args below meth c nL D cl sp q ca A Q kc ks μ (pc + 3) lv (.null :: st)) : wJ p l e R s m args below meth c nL D cl sp q ca A Q kc ks μ pc lv (.null :: st) :=
  fun H locs ls h1 h2 h3 => lv_castN C.1 C.2.1 hd (k H locs ls h1 h2 h3)
theorem wr_getI {c0 ci N x ix : Nat} {Cn : String} {T : u_T} {fs : List (Nat × Nat)} (pc j : Nat) (C : wC p R s m args meth c cc own nL ret D cl sp q ca A) (hd : decode cc pc = .ok (.getfield ix, 3)) (hs : sp[c0]? = some (.inl (ci, fs))) (hc : cl[ci]? = some (Cn, T, N)) (hin : ∀ w ∈ u_ws Cn T N, w ∈ lw_all) (hj : j < N) (hf : fs[j]? = some (0, x)) (hl : Cond.fieldLink own ix (T j).1 (T j).2.1 (T j).2.2.1 ∈ lw_all) (k : wJ p l e R s m args below meth c nL D cl sp q ca A Q kc ks μ (pc + 3) lv (.int (μ.1 c0 j) :: st)) : wJ p l e R s m args below meth c nL D cl sp q ca A Q kc ks μ pc lv (.ref (q c0) :: st) :=
  fun H locs ls h1 h2 h3 => va_get C.1 C.2.1 C.2.2.2.2.1 hin C.2.2.2.1 C.2.2.2.2.2.1 h1 c0 (wWs_get hs) hc j hj (C.2.2.2.2.1 _ hl) (fun _ h9 => h9) (wFs_getI hf) hd (k H locs ls h1 h2 h3)
theorem wr_getL {c0 ci N x ix : Nat} {Cn : String} {T : u_T} {fs : List (Nat × Nat)} (pc j : Nat) (C : wC p R s m args meth c cc own nL ret D cl sp q ca A) (hd : decode cc pc = .ok (.getfield ix, 3)) (hs : sp[c0]? = some (.inl (ci, fs))) (hc : cl[ci]? = some (Cn, T, N)) (hin : ∀ w ∈ u_ws Cn T N, w ∈ lw_all) (hj : j < N) (hf : fs[j]? = some (1, x)) (hl : Cond.fieldLink own ix (T j).1 (T j).2.1 (T j).2.2.1 ∈ lw_all) (k : wJ p l e R s m args below meth c nL D cl sp q ca A Q kc ks μ (pc + 3) lv (.long (μ.2 c0 j) :: st)) : wJ p l e R s m args below meth c nL D cl sp q ca A Q kc ks μ pc lv (.ref (q c0) :: st) :=
  fun H locs ls h1 h2 h3 => va_get C.1 C.2.1 C.2.2.2.2.1 hin C.2.2.2.1 C.2.2.2.2.2.1 h1 c0 (wWs_get hs) hc j hj (C.2.2.2.2.1 _ hl) (fun _ h9 => h9) (wFs_getL hf) hd (k H locs ls h1 h2 h3)
theorem wr_getR {c0 ci N x ix : Nat} {Cn : String} {T : u_T} {fs : List (Nat × Nat)} (pc j : Nat) (C : wC p R s m args meth c cc own nL ret D cl sp q ca A) (hd : decode cc pc = .ok (.getfield ix, 3)) (hs : sp[c0]? = some (.inl (ci, fs))) (hc : cl[ci]? = some (Cn, T, N)) (hin : ∀ w ∈ u_ws Cn T N, w ∈ lw_all) (hj : j < N) (hf : fs[j]? = some (2, x)) (hl : Cond.fieldLink own ix (T j).1 (T j).2.1 (T j).2.2.1 ∈ lw_all) (k : wJ p l e R s m args below meth c nL D cl sp q ca A Q kc ks μ (pc + 3) lv (.ref (q x) :: st)) : wJ p l e R s m args below meth c nL D cl sp q ca A Q kc ks μ pc lv (.ref (q c0) :: st) :=
  fun H locs ls h1 h2 h3 => va_get C.1 C.2.1 C.2.2.2.2.1 hin C.2.2.2.1 C.2.2.2.2.2.1 h1 c0 (wWs_get hs) hc j hj (C.2.2.2.2.1 _ hl) (fun _ h9 => h9) (wFs_getR hf) hd (k H locs ls h1 h2 h3)
theorem wr_putI {c0 ci N x ix : Nat} {Cn : String} {T : u_T} {fs : List (Nat × Nat)} {v : Int32} {μ' : wMem} (pc j : Nat) (C : wC p R s m args meth c cc own nL ret D cl sp q ca A) (hd : decode cc pc = .ok (.putfield ix, 3)) (hs : sp[c0]? = some (.inl (ci, fs))) (hc : cl[ci]? = some (Cn, T, N)) (hin : ∀ w ∈ u_ws Cn T N, w ∈ lw_all) (ty0 : Nat → FieldType) (hty : ∀ k, k < N → parseFieldDescriptor (T k).2.2.1 = some (ty0 k)) (hnm : ∀ a, a < N → ∀ b, b < N → a ≠ b → (T a).2.1 ≠ (T b).2.1) (hj : j < N) (hf : fs[j]? = some (0, x)) (hl : Cond.fieldLink own ix (T j).1 (T j).2.1 (T j).2.2.1 ∈ lw_all) (hfin : (T j).2.2.2 = false) (ht : ty0 j = .int) (hμ : μ' = wSI μ c0 j v) (k : wJ p l e R s m args below meth c nL D cl sp q ca A Q kc ks μ' (pc + 3) lv st) : wJ p l e R s m args below meth c nL D cl sp q ca A Q kc ks μ pc lv (.int v :: .ref (q c0) :: st) :=
  fun H locs ls h1 h2 h3 => va_put (ty := .int) C.1 C.2.1 C.2.2.2.2.1 hin ty0 hty hnm C.2.2.2.1 C.2.2.2.2.2.1 h1 (wWs_D C.2.2.2.2.2.2.2.2.1 C.2.2.2.2.2.2.2.2.2.1 μ) h2 c0 (wWs_get hs) hc j hj (C.2.2.2.2.1 _ hl) (fun _ h9 => h9) hfin (by rw [hty j hj, ht]) rfl rfl (by have := (List.getElem?_eq_some_iff.mp hf).1; simpa [wFs] using this) hd (fun H1 locs1 g1 g2 g3 => k H1 locs1 ls (by rw [hμ, ← wWs_setFI hs hf]; exact g1) g3 h3)
theorem wr_putL {c0 ci N x ix : Nat} {Cn : String} {T : u_T} {fs : List (Nat × Nat)} {v : Int64} {μ' : wMem} (pc j : Nat) (C : wC p R s m args meth c cc own nL ret D cl sp q ca A) (hd : decode cc pc = .ok (.putfield ix, 3)) (hs : sp[c0]? = some (.inl (ci, fs))) (hc : cl[ci]? = some (Cn, T, N)) (hin : ∀ w ∈ u_ws Cn T N, w ∈ lw_all) (ty0 : Nat → FieldType) (hty : ∀ k, k < N → parseFieldDescriptor (T k).2.2.1 = some (ty0 k)) (hnm : ∀ a, a < N → ∀ b, b < N → a ≠ b → (T a).2.1 ≠ (T b).2.1) (hj : j < N) (hf : fs[j]? = some (1, x)) (hl : Cond.fieldLink own ix (T j).1 (T j).2.1 (T j).2.2.1 ∈ lw_all) (hfin : (T j).2.2.2 = false) (ht : ty0 j = .long) (hμ : μ' = wSL μ c0 j v) (k : wJ p l e R s m args below meth c nL D cl sp q ca A Q kc ks μ' (pc + 3) lv st) : wJ p l e R s m args below meth c nL D cl sp q ca A Q kc ks μ pc lv (.long v :: .ref (q c0) :: st) :=
  fun H locs ls h1 h2 h3 => va_put (ty := .long) C.1 C.2.1 C.2.2.2.2.1 hin ty0 hty hnm C.2.2.2.1 C.2.2.2.2.2.1 h1 (wWs_D C.2.2.2.2.2.2.2.2.1 C.2.2.2.2.2.2.2.2.2.1 μ) h2 c0 (wWs_get hs) hc j hj (C.2.2.2.2.1 _ hl) (fun _ h9 => h9) hfin (by rw [hty j hj, ht]) rfl rfl (by have := (List.getElem?_eq_some_iff.mp hf).1; simpa [wFs] using this) hd (fun H1 locs1 g1 g2 g3 => k H1 locs1 ls (by rw [hμ, ← wWs_setFL hs hf]; exact g1) g3 h3)
theorem wr_getNI {c0 ci N x ix : Nat} {Cn host : String} {T : u_T} {fs : List (Nat × Nat)} (pc j : Nat) (C : wC p R s m args meth c cc own nL ret D cl sp q ca A) (hd : decode cc pc = .ok (.getfield ix, 3)) (hs : sp[c0]? = some (.inl (ci, fs))) (hc : cl[ci]? = some (Cn, T, N)) (hin : ∀ w ∈ u_ws Cn T N, w ∈ lw_all) (hj : j < N) (hf : fs[j]? = some (0, x)) (hl : Cond.fieldLinkNest own ix (T j).1 (T j).2.1 (T j).2.2.1 host ∈ lw_tbl) (k : wJ p l e R s m args below meth c nL D cl sp q ca A Q kc ks μ (pc + 3) lv (.int (μ.1 c0 j) :: st)) : wJ p l e R s m args below meth c nL D cl sp q ca A Q kc ks μ pc lv (.ref (q c0) :: st) :=
  fun H locs ls h1 h2 h3 => va_getN C.1 C.2.1 C.2.2.2.2.1 hin C.2.2.2.1 C.2.2.2.2.2.1 h1 c0 (wWs_get hs) hc j hj (wNest_use C.2.2.2.2.2.2.2.2.2.2.2 hl rfl) (fun _ h9 => h9) (wFs_getI hf) hd (k H locs ls h1 h2 h3)
theorem wr_getNL {c0 ci N x ix : Nat} {Cn host : String} {T : u_T} {fs : List (Nat × Nat)} (pc j : Nat) (C : wC p R s m args meth c cc own nL ret D cl sp q ca A) (hd : decode cc pc = .ok (.getfield ix, 3)) (hs : sp[c0]? = some (.inl (ci, fs))) (hc : cl[ci]? = some (Cn, T, N)) (hin : ∀ w ∈ u_ws Cn T N, w ∈ lw_all) (hj : j < N) (hf : fs[j]? = some (1, x)) (hl : Cond.fieldLinkNest own ix (T j).1 (T j).2.1 (T j).2.2.1 host ∈ lw_tbl) (k : wJ p l e R s m args below meth c nL D cl sp q ca A Q kc ks μ (pc + 3) lv (.long (μ.2 c0 j) :: st)) : wJ p l e R s m args below meth c nL D cl sp q ca A Q kc ks μ pc lv (.ref (q c0) :: st) :=
  fun H locs ls h1 h2 h3 => va_getN C.1 C.2.1 C.2.2.2.2.1 hin C.2.2.2.1 C.2.2.2.2.2.1 h1 c0 (wWs_get hs) hc j hj (wNest_use C.2.2.2.2.2.2.2.2.2.2.2 hl rfl) (fun _ h9 => h9) (wFs_getL hf) hd (k H locs ls h1 h2 h3)
theorem wr_getNR {c0 ci N x ix : Nat} {Cn host : String} {T : u_T} {fs : List (Nat × Nat)} (pc j : Nat) (C : wC p R s m args meth c cc own nL ret D cl sp q ca A) (hd : decode cc pc = .ok (.getfield ix, 3)) (hs : sp[c0]? = some (.inl (ci, fs))) (hc : cl[ci]? = some (Cn, T, N)) (hin : ∀ w ∈ u_ws Cn T N, w ∈ lw_all) (hj : j < N) (hf : fs[j]? = some (2, x)) (hl : Cond.fieldLinkNest own ix (T j).1 (T j).2.1 (T j).2.2.1 host ∈ lw_tbl) (k : wJ p l e R s m args below meth c nL D cl sp q ca A Q kc ks μ (pc + 3) lv (.ref (q x) :: st)) : wJ p l e R s m args below meth c nL D cl sp q ca A Q kc ks μ pc lv (.ref (q c0) :: st) :=
  fun H locs ls h1 h2 h3 => va_getN C.1 C.2.1 C.2.2.2.2.1 hin C.2.2.2.1 C.2.2.2.2.2.1 h1 c0 (wWs_get hs) hc j hj (wNest_use C.2.2.2.2.2.2.2.2.2.2.2 hl rfl) (fun _ h9 => h9) (wFs_getR hf) hd (k H locs ls h1 h2 h3)
theorem wr_putNI {c0 ci N x ix : Nat} {Cn host : String} {T : u_T} {fs : List (Nat × Nat)} {v : Int32} {μ' : wMem} (pc j : Nat) (C : wC p R s m args meth c cc own nL ret D cl sp q ca A) (hd : decode cc pc = .ok (.putfield ix, 3)) (hs : sp[c0]? = some (.inl (ci, fs))) (hc : cl[ci]? = some (Cn, T, N)) (hin : ∀ w ∈ u_ws Cn T N, w ∈ lw_all) (ty0 : Nat → FieldType) (hty : ∀ k, k < N → parseFieldDescriptor (T k).2.2.1 = some (ty0 k)) (hnm : ∀ a, a < N → ∀ b, b < N → a ≠ b → (T a).2.1 ≠ (T b).2.1) (hj : j < N) (hf : fs[j]? = some (0, x)) (hl : Cond.fieldLinkNest own ix (T j).1 (T j).2.1 (T j).2.2.1 host ∈ lw_tbl) (hfin : (T j).2.2.2 = false) (ht : ty0 j = .int) (hμ : μ' = wSI μ c0 j v) (k : wJ p l e R s m args below meth c nL D cl sp q ca A Q kc ks μ' (pc + 3) lv st) : wJ p l e R s m args below meth c nL D cl sp q ca A Q kc ks μ pc lv (.int v :: .ref (q c0) :: st) :=
  fun H locs ls h1 h2 h3 => va_putN (ty := .int) C.1 C.2.1 C.2.2.2.2.1 hin ty0 hty hnm C.2.2.2.1 C.2.2.2.2.2.1 h1 (wWs_D C.2.2.2.2.2.2.2.2.1 C.2.2.2.2.2.2.2.2.2.1 μ) h2 c0 (wWs_get hs) hc j hj (wNest_use C.2.2.2.2.2.2.2.2.2.2.2 hl rfl) (fun _ h9 => h9) hfin (by rw [hty j hj, ht]) rfl rfl (by have := (List.getElem?_eq_some_iff.mp hf).1; simpa [wFs] using this) hd (fun H1 locs1 g1 g2 g3 => k H1 locs1 ls (by rw [hμ, ← wWs_setFI hs hf]; exact g1) g3 h3)
theorem wr_sub {pc : Nat} (lv' : List (Nat × Value)) (js : List Nat) (hl : lv_pick lv js = lv') (k : wJ p l e R s m args below meth c nL D cl sp q ca A Q kc ks μ pc lv' st) : wJ p l e R s m args below meth c nL D cl sp q ca A Q kc ks μ pc lv st := fun H locs ls h1 h2 h3 => k H locs ls h1 h2 (lv_sub h3 js hl)
end WR
/-- a method's post, as a state's property (i) -/
def wQi (R : Room) (D : va_G) (cl : List vw_C) (sp : List wCell) (q : Nat → Nat) (ca : wCA) (below : List Frame) (args : Array Value) (s : State) (A : Nat → Prop) (r0 : Int32 × wMem) : State → Prop := MQ below (va_Qi (fun (r : Int32) (u : wMem) => (r, u) = r0) (fun (u : wMem) t => va_P D cl (wWs sp q ca u) t.heap) A) args s R.cells R.slots A
/-- a method's contract over a described world: called with the memory μ it answers, and leaves, r0 (i) -/
def wMi (l : Launch) (y : MethodName) (cc : ByteArray) (nL : Nat) (ret : Option FieldType) (rm : Room) (D : va_G) (cl : List vw_C) (sp : List wCell) (q : Nat → Nat) (ca : wCA) (av : List Value) (μ : wMem) (r0 : Int32 × wMem) : Prop := ∀ sz : Nat, Met l y (ws_ y cc nL ret) rm (va_Pc av (fun U => U.heap.size = sz ∧ va_P D cl (wWs sp q ca μ) U.heap ∧ va_K D cl (wTy ca) U ∧ wInj sp q ∧ wNest U)) (va_Qi (fun (r : Int32) (u : wMem) => (r, u) = r0) (fun (u : wMem) t => va_P D cl (wWs sp q ca u) t.heap) (wA sp q sz)) rm.cells rm.slots (wA sp q sz)
theorem wMi_intro {l : Launch} {y : MethodName} {cc : ByteArray} {nL : Nat} {ret : Option FieldType} {rm : Room} {D : va_G} {cl : List vw_C} {sp : List wCell} {q : Nat → Nat} {ca : wCA} {av : List Value} {μ : wMem} {r0 : Int32 × wMem} (hy : plainName y.cls = true) (hlen : (lg_sl av).length ≤ nL) (h : ∀ (p : Program) (e : Env) (s : State) (m : MethodId) (args : Array Value) (below : List Frame) (meth : Method) (c : Code) (A : Nat → Prop), wC p rm s m args meth c cc y.cls nL ret D cl sp q ca A → wJ p l e rm s m args below meth c nL D cl sp q ca A (wQi rm D cl sp q ca below args s A r0) 0 0 μ 0 (lv_args 0 av) []) : wMi l y cc nL ret rm D cl sp q ca av μ r0 := by
  intro sz
  refine Met.ofW (cc := cc) (maxL := nL) (ret := ret) hy rfl ?_
  intro p e s m args below meth c s₁ B hml hv
  obtain ⟨rfl, hsz, hP, hK, hI, hNe⟩ := hv
  have hts := atoms_spec (ws := ws_ y cc nL ret) B.pre
  have hts : ∀ w ∈ lw_all, w.before _ s = true := fun w h => hts w (List.mem_cons_of_mem _ h)
  have hown : s.vm.findClass y.cls = some m.cls := findClass_of_methodNamed B.named
  subst hsz
  have hl := lv_entry av (n := nL) hlen
  rw [lg_entry_eq]
  exact h p e s m av.toArray below meth c (wA sp q s.heap.size) ⟨B.exec, B.bytes, hml, hown, hts, hK, B.notSynchronized, B.returns, hI, fun i hi => Or.inl ⟨i, hi, rfl⟩, fun a ha => Or.inr ha, hNe⟩ s.heap [] _ hP va_S.rf hl
/-- a method's post, as a state's property (l) -/
def wQl (R : Room) (D : va_G) (cl : List vw_C) (sp : List wCell) (q : Nat → Nat) (ca : wCA) (below : List Frame) (args : Array Value) (s : State) (A : Nat → Prop) (r0 : Int64 × wMem) : State → Prop := MQ below (va_Ql (fun (r : Int64) (u : wMem) => (r, u) = r0) (fun (u : wMem) t => va_P D cl (wWs sp q ca u) t.heap) A) args s R.cells R.slots A
/-- a method's contract over a described world: called with the memory μ it answers, and leaves, r0 (l) -/
def wMl (l : Launch) (y : MethodName) (cc : ByteArray) (nL : Nat) (ret : Option FieldType) (rm : Room) (D : va_G) (cl : List vw_C) (sp : List wCell) (q : Nat → Nat) (ca : wCA) (av : List Value) (μ : wMem) (r0 : Int64 × wMem) : Prop := ∀ sz : Nat, Met l y (ws_ y cc nL ret) rm (va_Pc av (fun U => U.heap.size = sz ∧ va_P D cl (wWs sp q ca μ) U.heap ∧ va_K D cl (wTy ca) U ∧ wInj sp q ∧ wNest U)) (va_Ql (fun (r : Int64) (u : wMem) => (r, u) = r0) (fun (u : wMem) t => va_P D cl (wWs sp q ca u) t.heap) (wA sp q sz)) rm.cells rm.slots (wA sp q sz)
theorem wMl_intro {l : Launch} {y : MethodName} {cc : ByteArray} {nL : Nat} {ret : Option FieldType} {rm : Room} {D : va_G} {cl : List vw_C} {sp : List wCell} {q : Nat → Nat} {ca : wCA} {av : List Value} {μ : wMem} {r0 : Int64 × wMem} (hy : plainName y.cls = true) (hlen : (lg_sl av).length ≤ nL) (h : ∀ (p : Program) (e : Env) (s : State) (m : MethodId) (args : Array Value) (below : List Frame) (meth : Method) (c : Code) (A : Nat → Prop), wC p rm s m args meth c cc y.cls nL ret D cl sp q ca A → wJ p l e rm s m args below meth c nL D cl sp q ca A (wQl rm D cl sp q ca below args s A r0) 0 0 μ 0 (lv_args 0 av) []) : wMl l y cc nL ret rm D cl sp q ca av μ r0 := by
  intro sz
  refine Met.ofW (cc := cc) (maxL := nL) (ret := ret) hy rfl ?_
  intro p e s m args below meth c s₁ B hml hv
  obtain ⟨rfl, hsz, hP, hK, hI, hNe⟩ := hv
  have hts := atoms_spec (ws := ws_ y cc nL ret) B.pre
  have hts : ∀ w ∈ lw_all, w.before _ s = true := fun w h => hts w (List.mem_cons_of_mem _ h)
  have hown : s.vm.findClass y.cls = some m.cls := findClass_of_methodNamed B.named
  subst hsz
  have hl := lv_entry av (n := nL) hlen
  rw [lg_entry_eq]
  exact h p e s m av.toArray below meth c (wA sp q s.heap.size) ⟨B.exec, B.bytes, hml, hown, hts, hK, B.notSynchronized, B.returns, hI, fun i hi => Or.inl ⟨i, hi, rfl⟩, fun a ha => Or.inr ha, hNe⟩ s.heap [] _ hP va_S.rf hl
/-- a method's post, as a state's property (v) -/
def wQv (R : Room) (D : va_G) (cl : List vw_C) (sp : List wCell) (q : Nat → Nat) (ca : wCA) (below : List Frame) (args : Array Value) (s : State) (A : Nat → Prop) (r0 : wMem) : State → Prop := MQ below (va_Qv (fun (u : wMem) => u = r0) (fun (u : wMem) t => va_P D cl (wWs sp q ca u) t.heap) A) args s R.cells R.slots A
/-- a method's contract over a described world: called with the memory μ it answers, and leaves, r0 (v) -/
def wMv (l : Launch) (y : MethodName) (cc : ByteArray) (nL : Nat) (ret : Option FieldType) (rm : Room) (D : va_G) (cl : List vw_C) (sp : List wCell) (q : Nat → Nat) (ca : wCA) (av : List Value) (μ : wMem) (r0 : wMem) : Prop := ∀ sz : Nat, Met l y (ws_ y cc nL ret) rm (va_Pc av (fun U => U.heap.size = sz ∧ va_P D cl (wWs sp q ca μ) U.heap ∧ va_K D cl (wTy ca) U ∧ wInj sp q ∧ wNest U)) (va_Qv (fun (u : wMem) => u = r0) (fun (u : wMem) t => va_P D cl (wWs sp q ca u) t.heap) (wA sp q sz)) rm.cells rm.slots (wA sp q sz)
theorem wMv_intro {l : Launch} {y : MethodName} {cc : ByteArray} {nL : Nat} {ret : Option FieldType} {rm : Room} {D : va_G} {cl : List vw_C} {sp : List wCell} {q : Nat → Nat} {ca : wCA} {av : List Value} {μ : wMem} {r0 : wMem} (hy : plainName y.cls = true) (hlen : (lg_sl av).length ≤ nL) (h : ∀ (p : Program) (e : Env) (s : State) (m : MethodId) (args : Array Value) (below : List Frame) (meth : Method) (c : Code) (A : Nat → Prop), wC p rm s m args meth c cc y.cls nL ret D cl sp q ca A → wJ p l e rm s m args below meth c nL D cl sp q ca A (wQv rm D cl sp q ca below args s A r0) 0 0 μ 0 (lv_args 0 av) []) : wMv l y cc nL ret rm D cl sp q ca av μ r0 := by
  intro sz
  refine Met.ofW (cc := cc) (maxL := nL) (ret := ret) hy rfl ?_
  intro p e s m args below meth c s₁ B hml hv
  obtain ⟨rfl, hsz, hP, hK, hI, hNe⟩ := hv
  have hts := atoms_spec (ws := ws_ y cc nL ret) B.pre
  have hts : ∀ w ∈ lw_all, w.before _ s = true := fun w h => hts w (List.mem_cons_of_mem _ h)
  have hown : s.vm.findClass y.cls = some m.cls := findClass_of_methodNamed B.named
  subst hsz
  have hl := lv_entry av (n := nL) hlen
  rw [lg_entry_eq]
  exact h p e s m av.toArray below meth c (wA sp q s.heap.size) ⟨B.exec, B.bytes, hml, hown, hts, hK, B.notSynchronized, B.returns, hI, fun i hi => Or.inl ⟨i, hi, rfl⟩, fun a ha => Or.inr ha, hNe⟩ s.heap [] _ hP va_S.rf hl
section WR2
variable {p : Program} {l : Launch} {e : Env} {R : Room} {s : State} {m : MethodId} {args : Array Value} {below : List Frame} {meth : Method} {c : Code} {cc : ByteArray} {own : String} {nL : Nat} {ret : Option FieldType} {D : va_G} {cl : List vw_C} {sp : List wCell} {q : Nat → Nat} {ca : wCA} {A : Nat → Prop} {Q : State → Prop} {kc ks : Nat} {μ : wMem} {lv : List (Nat × Value)} {st rest : List Value}
theorem wr_iret {v : Int32} {r0 : Int32 × wMem} (pc : Nat) (C : wC p R s m args meth c cc own nL (some .int) D cl sp q ca A) (hd : decode cc pc = .ok (.ireturn, 1)) (hk : kc ≤ R.cells ∧ ks ≤ R.slots) (h : (v, μ) = r0) : wJ p l e R s m args below meth c nL D cl sp q ca A (wQi R D cl sp q ca below args s A r0) kc ks μ pc lv [.int v] :=
  fun H locs ls h1 h2 h3 => W.widen hk.1 hk.2 (W.iret C.1 C.2.1 C.2.2.2.2.2.2.2.1 (fun t ht hW => ⟨⟨v, μ, rfl, h, by rw [← ht] at h1; exact h1⟩, h2.F ht⟩) h2.2.2 hd C.2.2.2.2.2.2.1)
theorem wr_zret {v : Int32} {r0 : Int32 × wMem} (pc : Nat) (C : wC p R s m args meth c cc own nL (some .boolean) D cl sp q ca A) (hd : decode cc pc = .ok (.ireturn, 1)) (hb : ok_b v = true) (hk : kc ≤ R.cells ∧ ks ≤ R.slots) (h : (v, μ) = r0) : wJ p l e R s m args below meth c nL D cl sp q ca A (wQi R D cl sp q ca below args s A r0) kc ks μ pc lv [.int v] :=
  fun H locs ls h1 h2 h3 => W.widen hk.1 hk.2 (W.zret C.1 C.2.1 C.2.2.2.2.2.2.2.1 (ok_b_nar hb) (fun t ht hW => ⟨⟨v, μ, rfl, h, by rw [← ht] at h1; exact h1⟩, h2.F ht⟩) h2.2.2 hd C.2.2.2.2.2.2.1)
theorem wr_lret {v : Int64} {r0 : Int64 × wMem} (pc : Nat) (C : wC p R s m args meth c cc own nL (some .long) D cl sp q ca A) (hd : decode cc pc = .ok (.lreturn, 1)) (hk : kc ≤ R.cells ∧ ks ≤ R.slots) (h : (v, μ) = r0) : wJ p l e R s m args below meth c nL D cl sp q ca A (wQl R D cl sp q ca below args s A r0) kc ks μ pc lv [.long v] :=
  fun H locs ls h1 h2 h3 => W.widen hk.1 hk.2 (W.lret C.1 C.2.1 C.2.2.2.2.2.2.2.1 (fun t ht hW => ⟨⟨v, μ, rfl, h, by rw [← ht] at h1; exact h1⟩, h2.F ht⟩) h2.2.2 hd C.2.2.2.2.2.2.1)
theorem wr_vret {r0 : wMem} (pc : Nat) (C : wC p R s m args meth c cc own nL none D cl sp q ca A) (hd : decode cc pc = .ok (.return_, 1)) (hk : kc ≤ R.cells ∧ ks ≤ R.slots) (h : μ = r0) : wJ p l e R s m args below meth c nL D cl sp q ca A (wQv R D cl sp q ca below args s A r0) kc ks μ pc lv [] :=
  fun H locs ls h1 h2 h3 => W.widen hk.1 hk.2 (W.vret C.1 C.2.1 C.2.2.2.2.2.2.2.1 (fun t ht hW => ⟨⟨μ, rfl, h, by rw [← ht] at h1; exact h1⟩, h2.F ht⟩) h2.2.2 hd C.2.2.2.2.2.2.1)
/-- what a callee is, for every call of it through an object of its class -/
def wOkV (y : MethodName) (cc : ByteArray) (nL : Nat) (ret : Option FieldType) (n : Nat) : Prop := Cond.instanceMethod y ∈ lw_all ∧ Cond.selects y.cls y y ∈ lw_all ∧ Cond.initialized y.cls ∈ lw_all ∧ Cond.code y cc nL ret ∈ lw_all ∧ y.cls ≠ "java/lang/invoke/MethodHandle" ∧ y.cls ≠ "java/lang/invoke/VarHandle" ∧ (parseMethodDescriptor y.desc).map (fun d => d.parameters.length) = some n
def wOkS (y : MethodName) (cc : ByteArray) (nL : Nat) (ret : Option FieldType) (n : Nat) : Prop := Cond.static y ∈ lw_all ∧ Cond.initialized y.cls ∈ lw_all ∧ Cond.code y cc nL ret ∈ lw_all ∧ y.cls ≠ "java/lang/invoke/MethodHandle" ∧ y.cls ≠ "java/lang/invoke/VarHandle" ∧ (parseMethodDescriptor y.desc).map (fun d => d.parameters.length) = some n
/-- a callee's room within a caller's -/
def wFit (rm : Room) (nL : Nat) (R : Room) (kc ks kc1 ks1 : Nat) : Prop := kc + rm.cells = kc1 ∧ ks + rm.slots = ks1 ∧ rm.frames + 1 ≤ R.frames ∧ 8 + (nL + 11) + rm.locals ≤ R.locals ∧ kc1 ≤ R.cells ∧ ks1 ≤ R.slots
theorem wA_in {A : Nat → Prop} {H0 H : Heap} {locs : List Loc} (hS : va_S A H0 H locs) (h1 : ∀ i, i < sp.length → A (q i)) (h2 : ∀ a, H0.size ≤ a → A a) : ∀ a, wA sp q H.size a → A a := by
  rintro a (⟨i, hi, rfl⟩ | h)
  · exact h1 i hi
  · exact h2 a (Nat.le_trans hS.1 h)
theorem w_blind {av : List Value} {sz : Nat} : FrameBlind (va_Pc av (fun U => U.heap.size = sz ∧ va_P D cl (wWs sp q ca μ) U.heap ∧ va_K D cl (wTy ca) U ∧ wInj sp q ∧ wNest U)) := fun a U g mk h => by
  obtain ⟨q0, q1, qP, qK, qI, qN⟩ := h
  exact ⟨q0, q1, qP, va_K.moved (u := U) (U := U.calling g mk a) (Vm.Alike.refl U.vm) qK, qI, wNest_same (s := U) (U := U.calling g mk a) rfl qN⟩
theorem wr_Vi {y : MethodName} {cc1 : ByteArray} {nL1 ix ci N b : Nat} {ret1 : Option FieldType} {rm : Room} {As : List Value} {T : u_T} {fs : List (Nat × Nat)} {v : Int32} {μ1 : wMem} {kc1 ks1 : Nat} (pc : Nat) (rest : List Value) (C : wC p R s m args meth c cc own nL ret D cl sp q ca A) (hd : decode cc pc = .ok (.invokevirtual ix, 3)) (hM : wMi l y cc1 nL1 ret1 rm D cl sp q ca (.ref (q b) :: As) μ (v, μ1)) (hO : wOkV y cc1 nL1 ret1 As.length) (hl : Cond.methodLink own ix y ∈ lw_all) (hs : sp[b]? = some (.inl (ci, fs))) (hc : cl[ci]? = some (y.cls, T, N)) (hF : wFit rm nL1 R kc ks kc1 ks1) (hw : (rest.map fun v => v.category).sum ≤ 8) (hst : st = As.reverse ++ .ref (q b) :: rest) (k : wJ p l e R s m args below meth c nL D cl sp q ca A Q kc1 ks1 μ1 (pc + 3) lv (.int v :: rest)) : wJ p l e R s m args below meth c nL D cl sp q ca A Q kc ks μ pc lv st := by
  intro H locs ls h1 h2 h3
  subst hst
  obtain ⟨f1, f2, f3, f4, f5, f6⟩ := hF
  subst f1; subst f2
  obtain ⟨o1, o2, o3, o4, o5⟩ := hO
  have hA := wA_in h2 C.2.2.2.2.2.2.2.2.2.1 C.2.2.2.2.2.2.2.2.2.2.1
  exact va_calli (va_runV (rest := rest) (As := As) ⟨C.1, C.2.1, C.2.2.1, C.2.2.2.1, C.2.2.2.2.1⟩ (hM H.size) (cwV As.length C.2.2.2.2.1 (lw_V hl o1 o2 o3 o4) rfl rfl rfl ⟨rfl, o5⟩ ⟨f3, f4⟩) ⟨w_blind, va_recv C.2.2.2.2.2.1 h1 hc (wWs_get hs), fun U hU hW => ⟨rfl, by rw [hU], by rw [hU]; exact h1, va_K.moved hW.alike C.2.2.2.2.2.1, C.2.2.2.2.2.2.2.2.1, wNest_warm hW C.2.2.2.2.2.2.2.2.2.2.2⟩⟩ rfl rfl h3.1 rfl (lv_room hw) hd ⟨f5, f6⟩) h2 (fun a _ h => hA a h) hA (fun r u t H1 locs1 ht hvm hpost hB hz hk hS => by
    have e1 := (Prod.mk.inj hpost)
    rw [e1.1]
    rw [e1.2, ht] at hB
    exact k H1 locs1 ls hB hS h3)
theorem wr_Si {y : MethodName} {cc1 : ByteArray} {nL1 ix : Nat} {ret1 : Option FieldType} {rm : Room} {As : List Value} {v : Int32} {μ1 : wMem} {kc1 ks1 : Nat} (pc : Nat) (rest : List Value) (C : wC p R s m args meth c cc own nL ret D cl sp q ca A) (hd : decode cc pc = .ok (.invokestatic ix, 3)) (hM : wMi l y cc1 nL1 ret1 rm D cl sp q ca As μ (v, μ1)) (hO : wOkS y cc1 nL1 ret1 As.length) (hl : Cond.methodLink own ix y ∈ lw_all) (hF : wFit rm nL1 R kc ks kc1 ks1) (hw : (rest.map fun v => v.category).sum ≤ 8) (hst : st = As.reverse ++ rest) (k : wJ p l e R s m args below meth c nL D cl sp q ca A Q kc1 ks1 μ1 (pc + 3) lv (.int v :: rest)) : wJ p l e R s m args below meth c nL D cl sp q ca A Q kc ks μ pc lv st := by
  intro H locs ls h1 h2 h3
  subst hst
  obtain ⟨f1, f2, f3, f4, f5, f6⟩ := hF
  subst f1; subst f2
  obtain ⟨o1, o2, o3, o4⟩ := hO
  have hA := wA_in h2 C.2.2.2.2.2.2.2.2.2.1 C.2.2.2.2.2.2.2.2.2.2.1
  exact va_calli (va_runS (rest := rest) (As := As) ⟨C.1, C.2.1, C.2.2.1, C.2.2.2.1, C.2.2.2.2.1⟩ (hM H.size) (va_cwS As.length C.2.2.2.2.1 (lw_S hl o1 o2 o3) rfl rfl rfl o4 ⟨f3, f4⟩) ⟨w_blind, fun U hU hW => ⟨rfl, by rw [hU], by rw [hU]; exact h1, va_K.moved hW.alike C.2.2.2.2.2.1, C.2.2.2.2.2.2.2.2.1, wNest_warm hW C.2.2.2.2.2.2.2.2.2.2.2⟩⟩ rfl rfl h3.1 rfl (lv_room hw) hd ⟨f5, f6⟩) h2 (fun a _ h => hA a h) hA (fun r u t H1 locs1 ht hvm hpost hB hz hk hS => by
    have e1 := (Prod.mk.inj hpost)
    rw [e1.1]
    rw [e1.2, ht] at hB
    exact k H1 locs1 ls hB hS h3)
theorem wr_Vl {y : MethodName} {cc1 : ByteArray} {nL1 ix ci N b : Nat} {ret1 : Option FieldType} {rm : Room} {As : List Value} {T : u_T} {fs : List (Nat × Nat)} {v : Int64} {μ1 : wMem} {kc1 ks1 : Nat} (pc : Nat) (rest : List Value) (C : wC p R s m args meth c cc own nL ret D cl sp q ca A) (hd : decode cc pc = .ok (.invokevirtual ix, 3)) (hM : wMl l y cc1 nL1 ret1 rm D cl sp q ca (.ref (q b) :: As) μ (v, μ1)) (hO : wOkV y cc1 nL1 ret1 As.length) (hl : Cond.methodLink own ix y ∈ lw_all) (hs : sp[b]? = some (.inl (ci, fs))) (hc : cl[ci]? = some (y.cls, T, N)) (hF : wFit rm nL1 R kc ks kc1 ks1) (hw : (rest.map fun v => v.category).sum ≤ 8) (hst : st = As.reverse ++ .ref (q b) :: rest) (k : wJ p l e R s m args below meth c nL D cl sp q ca A Q kc1 ks1 μ1 (pc + 3) lv (.long v :: rest)) : wJ p l e R s m args below meth c nL D cl sp q ca A Q kc ks μ pc lv st := by
  intro H locs ls h1 h2 h3
  subst hst
  obtain ⟨f1, f2, f3, f4, f5, f6⟩ := hF
  subst f1; subst f2
  obtain ⟨o1, o2, o3, o4, o5⟩ := hO
  have hA := wA_in h2 C.2.2.2.2.2.2.2.2.2.1 C.2.2.2.2.2.2.2.2.2.2.1
  exact va_calll (va_runV (rest := rest) (As := As) ⟨C.1, C.2.1, C.2.2.1, C.2.2.2.1, C.2.2.2.2.1⟩ (hM H.size) (cwV As.length C.2.2.2.2.1 (lw_V hl o1 o2 o3 o4) rfl rfl rfl ⟨rfl, o5⟩ ⟨f3, f4⟩) ⟨w_blind, va_recv C.2.2.2.2.2.1 h1 hc (wWs_get hs), fun U hU hW => ⟨rfl, by rw [hU], by rw [hU]; exact h1, va_K.moved hW.alike C.2.2.2.2.2.1, C.2.2.2.2.2.2.2.2.1, wNest_warm hW C.2.2.2.2.2.2.2.2.2.2.2⟩⟩ rfl rfl h3.1 rfl (lv_room hw) hd ⟨f5, f6⟩) h2 (fun a _ h => hA a h) hA (fun r u t H1 locs1 ht hvm hpost hB hz hk hS => by
    have e1 := (Prod.mk.inj hpost)
    rw [e1.1]
    rw [e1.2, ht] at hB
    exact k H1 locs1 ls hB hS h3)
theorem wr_Sl {y : MethodName} {cc1 : ByteArray} {nL1 ix : Nat} {ret1 : Option FieldType} {rm : Room} {As : List Value} {v : Int64} {μ1 : wMem} {kc1 ks1 : Nat} (pc : Nat) (rest : List Value) (C : wC p R s m args meth c cc own nL ret D cl sp q ca A) (hd : decode cc pc = .ok (.invokestatic ix, 3)) (hM : wMl l y cc1 nL1 ret1 rm D cl sp q ca As μ (v, μ1)) (hO : wOkS y cc1 nL1 ret1 As.length) (hl : Cond.methodLink own ix y ∈ lw_all) (hF : wFit rm nL1 R kc ks kc1 ks1) (hw : (rest.map fun v => v.category).sum ≤ 8) (hst : st = As.reverse ++ rest) (k : wJ p l e R s m args below meth c nL D cl sp q ca A Q kc1 ks1 μ1 (pc + 3) lv (.long v :: rest)) : wJ p l e R s m args below meth c nL D cl sp q ca A Q kc ks μ pc lv st := by
  intro H locs ls h1 h2 h3
  subst hst
  obtain ⟨f1, f2, f3, f4, f5, f6⟩ := hF
  subst f1; subst f2
  obtain ⟨o1, o2, o3, o4⟩ := hO
  have hA := wA_in h2 C.2.2.2.2.2.2.2.2.2.1 C.2.2.2.2.2.2.2.2.2.2.1
  exact va_calll (va_runS (rest := rest) (As := As) ⟨C.1, C.2.1, C.2.2.1, C.2.2.2.1, C.2.2.2.2.1⟩ (hM H.size) (va_cwS As.length C.2.2.2.2.1 (lw_S hl o1 o2 o3) rfl rfl rfl o4 ⟨f3, f4⟩) ⟨w_blind, fun U hU hW => ⟨rfl, by rw [hU], by rw [hU]; exact h1, va_K.moved hW.alike C.2.2.2.2.2.1, C.2.2.2.2.2.2.2.2.1, wNest_warm hW C.2.2.2.2.2.2.2.2.2.2.2⟩⟩ rfl rfl h3.1 rfl (lv_room hw) hd ⟨f5, f6⟩) h2 (fun a _ h => hA a h) hA (fun r u t H1 locs1 ht hvm hpost hB hz hk hS => by
    have e1 := (Prod.mk.inj hpost)
    rw [e1.1]
    rw [e1.2, ht] at hB
    exact k H1 locs1 ls hB hS h3)
theorem wr_Vv {y : MethodName} {cc1 : ByteArray} {nL1 ix ci N b : Nat} {ret1 : Option FieldType} {rm : Room} {As : List Value} {T : u_T} {fs : List (Nat × Nat)} {μ1 : wMem} {kc1 ks1 : Nat} (pc : Nat) (rest : List Value) (C : wC p R s m args meth c cc own nL ret D cl sp q ca A) (hd : decode cc pc = .ok (.invokevirtual ix, 3)) (hM : wMv l y cc1 nL1 ret1 rm D cl sp q ca (.ref (q b) :: As) μ μ1) (hO : wOkV y cc1 nL1 ret1 As.length) (hl : Cond.methodLink own ix y ∈ lw_all) (hs : sp[b]? = some (.inl (ci, fs))) (hc : cl[ci]? = some (y.cls, T, N)) (hF : wFit rm nL1 R kc ks kc1 ks1) (hw : (rest.map fun v => v.category).sum ≤ 8) (hst : st = As.reverse ++ .ref (q b) :: rest) (k : wJ p l e R s m args below meth c nL D cl sp q ca A Q kc1 ks1 μ1 (pc + 3) lv (rest)) : wJ p l e R s m args below meth c nL D cl sp q ca A Q kc ks μ pc lv st := by
  intro H locs ls h1 h2 h3
  subst hst
  obtain ⟨f1, f2, f3, f4, f5, f6⟩ := hF
  subst f1; subst f2
  obtain ⟨o1, o2, o3, o4, o5⟩ := hO
  have hA := wA_in h2 C.2.2.2.2.2.2.2.2.2.1 C.2.2.2.2.2.2.2.2.2.2.1
  exact va_callv (va_runV (rest := rest) (As := As) ⟨C.1, C.2.1, C.2.2.1, C.2.2.2.1, C.2.2.2.2.1⟩ (hM H.size) (cwV As.length C.2.2.2.2.1 (lw_V hl o1 o2 o3 o4) rfl rfl rfl ⟨rfl, o5⟩ ⟨f3, f4⟩) ⟨w_blind, va_recv C.2.2.2.2.2.1 h1 hc (wWs_get hs), fun U hU hW => ⟨rfl, by rw [hU], by rw [hU]; exact h1, va_K.moved hW.alike C.2.2.2.2.2.1, C.2.2.2.2.2.2.2.2.1, wNest_warm hW C.2.2.2.2.2.2.2.2.2.2.2⟩⟩ rfl rfl h3.1 rfl (lv_room hw) hd ⟨f5, f6⟩) h2 (fun a _ h => hA a h) hA (fun u t H1 locs1 ht hvm hpost hB hz hk hS => by
    rw [hpost, ht] at hB
    exact k H1 locs1 ls hB hS h3)
theorem wr_Sv {y : MethodName} {cc1 : ByteArray} {nL1 ix : Nat} {ret1 : Option FieldType} {rm : Room} {As : List Value} {μ1 : wMem} {kc1 ks1 : Nat} (pc : Nat) (rest : List Value) (C : wC p R s m args meth c cc own nL ret D cl sp q ca A) (hd : decode cc pc = .ok (.invokestatic ix, 3)) (hM : wMv l y cc1 nL1 ret1 rm D cl sp q ca As μ μ1) (hO : wOkS y cc1 nL1 ret1 As.length) (hl : Cond.methodLink own ix y ∈ lw_all) (hF : wFit rm nL1 R kc ks kc1 ks1) (hw : (rest.map fun v => v.category).sum ≤ 8) (hst : st = As.reverse ++ rest) (k : wJ p l e R s m args below meth c nL D cl sp q ca A Q kc1 ks1 μ1 (pc + 3) lv (rest)) : wJ p l e R s m args below meth c nL D cl sp q ca A Q kc ks μ pc lv st := by
  intro H locs ls h1 h2 h3
  subst hst
  obtain ⟨f1, f2, f3, f4, f5, f6⟩ := hF
  subst f1; subst f2
  obtain ⟨o1, o2, o3, o4⟩ := hO
  have hA := wA_in h2 C.2.2.2.2.2.2.2.2.2.1 C.2.2.2.2.2.2.2.2.2.2.1
  exact va_callv (va_runS (rest := rest) (As := As) ⟨C.1, C.2.1, C.2.2.1, C.2.2.2.1, C.2.2.2.2.1⟩ (hM H.size) (va_cwS As.length C.2.2.2.2.1 (lw_S hl o1 o2 o3) rfl rfl rfl o4 ⟨f3, f4⟩) ⟨w_blind, fun U hU hW => ⟨rfl, by rw [hU], by rw [hU]; exact h1, va_K.moved hW.alike C.2.2.2.2.2.1, C.2.2.2.2.2.2.2.2.1, wNest_warm hW C.2.2.2.2.2.2.2.2.2.2.2⟩⟩ rfl rfl h3.1 rfl (lv_room hw) hd ⟨f5, f6⟩) h2 (fun a _ h => hA a h) hA (fun u t H1 locs1 ht hvm hpost hB hz hk hS => by
    rw [hpost, ht] at hB
    exact k H1 locs1 ls hB hS h3)
theorem wr_VNi {y : MethodName} {cc1 : ByteArray} {nL1 ix ci N b : Nat} {ret1 : Option FieldType} {rm : Room} {As : List Value} {T : u_T} {fs : List (Nat × Nat)} {host : String} {v : Int32} {μ1 : wMem} {kc1 ks1 : Nat} (pc : Nat) (rest : List Value) (C : wC p R s m args meth c cc own nL ret D cl sp q ca A) (hd : decode cc pc = .ok (.invokevirtual ix, 3)) (hM : wMi l y cc1 nL1 ret1 rm D cl sp q ca (.ref (q b) :: As) μ (v, μ1)) (hO : wOkV y cc1 nL1 ret1 As.length) (hl : Cond.methodLinkNest own ix y host ∈ lw_tbl) (hs : sp[b]? = some (.inl (ci, fs))) (hc : cl[ci]? = some (y.cls, T, N)) (hF : wFit rm nL1 R kc ks kc1 ks1) (hw : (rest.map fun v => v.category).sum ≤ 8) (hst : st = As.reverse ++ .ref (q b) :: rest) (k : wJ p l e R s m args below meth c nL D cl sp q ca A Q kc1 ks1 μ1 (pc + 3) lv (.int v :: rest)) : wJ p l e R s m args below meth c nL D cl sp q ca A Q kc ks μ pc lv st := by
  intro H locs ls h1 h2 h3
  subst hst
  obtain ⟨f1, f2, f3, f4, f5, f6⟩ := hF
  subst f1; subst f2
  obtain ⟨o1, o2, o3, o4, o5⟩ := hO
  have hA := wA_in h2 C.2.2.2.2.2.2.2.2.2.1 C.2.2.2.2.2.2.2.2.2.2.1
  have hts := C.2.2.2.2.1
  exact va_calli (va_runVN (rest := rest) (As := As) ⟨C.1, C.2.1, C.2.2.1, C.2.2.2.1, C.2.2.2.2.1⟩ (hM H.size) ⟨va_cnB As.length hts (lw_meth o4) rfl rfl rfl (C.2.2.2.2.2.2.2.2.2.2.2.1.1 _ hl rfl) (hts _ o3) o5 ⟨f3, f4⟩, hts _ o1, hts _ o2⟩ ⟨w_blind, va_recv C.2.2.2.2.2.1 h1 hc (wWs_get hs), fun U hU hW => ⟨rfl, by rw [hU], by rw [hU]; exact h1, va_K.moved hW.alike C.2.2.2.2.2.1, C.2.2.2.2.2.2.2.2.1, wNest_warm hW C.2.2.2.2.2.2.2.2.2.2.2⟩⟩ rfl rfl h3.1 rfl (lv_room hw) hd ⟨f5, f6⟩) h2 (fun a _ h => hA a h) hA (fun r u t H1 locs1 ht hvm hpost hB hz hk hS => by
    have e1 := (Prod.mk.inj hpost)
    rw [e1.1]
    rw [e1.2, ht] at hB
    exact k H1 locs1 ls hB hS h3)
theorem wr_SNi {y : MethodName} {cc1 : ByteArray} {nL1 ix : Nat} {ret1 : Option FieldType} {rm : Room} {As : List Value} {host : String} {v : Int32} {μ1 : wMem} {kc1 ks1 : Nat} (pc : Nat) (rest : List Value) (C : wC p R s m args meth c cc own nL ret D cl sp q ca A) (hd : decode cc pc = .ok (.invokestatic ix, 3)) (hM : wMi l y cc1 nL1 ret1 rm D cl sp q ca As μ (v, μ1)) (hO : wOkS y cc1 nL1 ret1 As.length) (hl : Cond.methodLinkNest own ix y host ∈ lw_tbl) (hF : wFit rm nL1 R kc ks kc1 ks1) (hw : (rest.map fun v => v.category).sum ≤ 8) (hst : st = As.reverse ++ rest) (k : wJ p l e R s m args below meth c nL D cl sp q ca A Q kc1 ks1 μ1 (pc + 3) lv (.int v :: rest)) : wJ p l e R s m args below meth c nL D cl sp q ca A Q kc ks μ pc lv st := by
  intro H locs ls h1 h2 h3
  subst hst
  obtain ⟨f1, f2, f3, f4, f5, f6⟩ := hF
  subst f1; subst f2
  obtain ⟨o1, o2, o3, o4⟩ := hO
  have hA := wA_in h2 C.2.2.2.2.2.2.2.2.2.1 C.2.2.2.2.2.2.2.2.2.2.1
  have hts := C.2.2.2.2.1
  exact va_calli (va_runSN (rest := rest) (As := As) ⟨C.1, C.2.1, C.2.2.1, C.2.2.2.1, C.2.2.2.2.1⟩ (hM H.size) ⟨va_cnB As.length hts (lw_meth o3) rfl rfl rfl (C.2.2.2.2.2.2.2.2.2.2.2.1.1 _ hl rfl) (hts _ o2) o4 ⟨f3, f4⟩, hts _ o1, trivial⟩ ⟨w_blind, fun U hU hW => ⟨rfl, by rw [hU], by rw [hU]; exact h1, va_K.moved hW.alike C.2.2.2.2.2.1, C.2.2.2.2.2.2.2.2.1, wNest_warm hW C.2.2.2.2.2.2.2.2.2.2.2⟩⟩ rfl rfl h3.1 rfl (lv_room hw) hd ⟨f5, f6⟩) h2 (fun a _ h => hA a h) hA (fun r u t H1 locs1 ht hvm hpost hB hz hk hS => by
    have e1 := (Prod.mk.inj hpost)
    rw [e1.1]
    rw [e1.2, ht] at hB
    exact k H1 locs1 ls hB hS h3)
theorem wr_VNl {y : MethodName} {cc1 : ByteArray} {nL1 ix ci N b : Nat} {ret1 : Option FieldType} {rm : Room} {As : List Value} {T : u_T} {fs : List (Nat × Nat)} {host : String} {v : Int64} {μ1 : wMem} {kc1 ks1 : Nat} (pc : Nat) (rest : List Value) (C : wC p R s m args meth c cc own nL ret D cl sp q ca A) (hd : decode cc pc = .ok (.invokevirtual ix, 3)) (hM : wMl l y cc1 nL1 ret1 rm D cl sp q ca (.ref (q b) :: As) μ (v, μ1)) (hO : wOkV y cc1 nL1 ret1 As.length) (hl : Cond.methodLinkNest own ix y host ∈ lw_tbl) (hs : sp[b]? = some (.inl (ci, fs))) (hc : cl[ci]? = some (y.cls, T, N)) (hF : wFit rm nL1 R kc ks kc1 ks1) (hw : (rest.map fun v => v.category).sum ≤ 8) (hst : st = As.reverse ++ .ref (q b) :: rest) (k : wJ p l e R s m args below meth c nL D cl sp q ca A Q kc1 ks1 μ1 (pc + 3) lv (.long v :: rest)) : wJ p l e R s m args below meth c nL D cl sp q ca A Q kc ks μ pc lv st := by
  intro H locs ls h1 h2 h3
  subst hst
  obtain ⟨f1, f2, f3, f4, f5, f6⟩ := hF
  subst f1; subst f2
  obtain ⟨o1, o2, o3, o4, o5⟩ := hO
  have hA := wA_in h2 C.2.2.2.2.2.2.2.2.2.1 C.2.2.2.2.2.2.2.2.2.2.1
  have hts := C.2.2.2.2.1
  exact va_calll (va_runVN (rest := rest) (As := As) ⟨C.1, C.2.1, C.2.2.1, C.2.2.2.1, C.2.2.2.2.1⟩ (hM H.size) ⟨va_cnB As.length hts (lw_meth o4) rfl rfl rfl (C.2.2.2.2.2.2.2.2.2.2.2.1.1 _ hl rfl) (hts _ o3) o5 ⟨f3, f4⟩, hts _ o1, hts _ o2⟩ ⟨w_blind, va_recv C.2.2.2.2.2.1 h1 hc (wWs_get hs), fun U hU hW => ⟨rfl, by rw [hU], by rw [hU]; exact h1, va_K.moved hW.alike C.2.2.2.2.2.1, C.2.2.2.2.2.2.2.2.1, wNest_warm hW C.2.2.2.2.2.2.2.2.2.2.2⟩⟩ rfl rfl h3.1 rfl (lv_room hw) hd ⟨f5, f6⟩) h2 (fun a _ h => hA a h) hA (fun r u t H1 locs1 ht hvm hpost hB hz hk hS => by
    have e1 := (Prod.mk.inj hpost)
    rw [e1.1]
    rw [e1.2, ht] at hB
    exact k H1 locs1 ls hB hS h3)
theorem wr_SNl {y : MethodName} {cc1 : ByteArray} {nL1 ix : Nat} {ret1 : Option FieldType} {rm : Room} {As : List Value} {host : String} {v : Int64} {μ1 : wMem} {kc1 ks1 : Nat} (pc : Nat) (rest : List Value) (C : wC p R s m args meth c cc own nL ret D cl sp q ca A) (hd : decode cc pc = .ok (.invokestatic ix, 3)) (hM : wMl l y cc1 nL1 ret1 rm D cl sp q ca As μ (v, μ1)) (hO : wOkS y cc1 nL1 ret1 As.length) (hl : Cond.methodLinkNest own ix y host ∈ lw_tbl) (hF : wFit rm nL1 R kc ks kc1 ks1) (hw : (rest.map fun v => v.category).sum ≤ 8) (hst : st = As.reverse ++ rest) (k : wJ p l e R s m args below meth c nL D cl sp q ca A Q kc1 ks1 μ1 (pc + 3) lv (.long v :: rest)) : wJ p l e R s m args below meth c nL D cl sp q ca A Q kc ks μ pc lv st := by
  intro H locs ls h1 h2 h3
  subst hst
  obtain ⟨f1, f2, f3, f4, f5, f6⟩ := hF
  subst f1; subst f2
  obtain ⟨o1, o2, o3, o4⟩ := hO
  have hA := wA_in h2 C.2.2.2.2.2.2.2.2.2.1 C.2.2.2.2.2.2.2.2.2.2.1
  have hts := C.2.2.2.2.1
  exact va_calll (va_runSN (rest := rest) (As := As) ⟨C.1, C.2.1, C.2.2.1, C.2.2.2.1, C.2.2.2.2.1⟩ (hM H.size) ⟨va_cnB As.length hts (lw_meth o3) rfl rfl rfl (C.2.2.2.2.2.2.2.2.2.2.2.1.1 _ hl rfl) (hts _ o2) o4 ⟨f3, f4⟩, hts _ o1, trivial⟩ ⟨w_blind, fun U hU hW => ⟨rfl, by rw [hU], by rw [hU]; exact h1, va_K.moved hW.alike C.2.2.2.2.2.1, C.2.2.2.2.2.2.2.2.1, wNest_warm hW C.2.2.2.2.2.2.2.2.2.2.2⟩⟩ rfl rfl h3.1 rfl (lv_room hw) hd ⟨f5, f6⟩) h2 (fun a _ h => hA a h) hA (fun r u t H1 locs1 ht hvm hpost hB hz hk hS => by
    have e1 := (Prod.mk.inj hpost)
    rw [e1.1]
    rw [e1.2, ht] at hB
    exact k H1 locs1 ls hB hS h3)
theorem wr_VNv {y : MethodName} {cc1 : ByteArray} {nL1 ix ci N b : Nat} {ret1 : Option FieldType} {rm : Room} {As : List Value} {T : u_T} {fs : List (Nat × Nat)} {host : String} {μ1 : wMem} {kc1 ks1 : Nat} (pc : Nat) (rest : List Value) (C : wC p R s m args meth c cc own nL ret D cl sp q ca A) (hd : decode cc pc = .ok (.invokevirtual ix, 3)) (hM : wMv l y cc1 nL1 ret1 rm D cl sp q ca (.ref (q b) :: As) μ μ1) (hO : wOkV y cc1 nL1 ret1 As.length) (hl : Cond.methodLinkNest own ix y host ∈ lw_tbl) (hs : sp[b]? = some (.inl (ci, fs))) (hc : cl[ci]? = some (y.cls, T, N)) (hF : wFit rm nL1 R kc ks kc1 ks1) (hw : (rest.map fun v => v.category).sum ≤ 8) (hst : st = As.reverse ++ .ref (q b) :: rest) (k : wJ p l e R s m args below meth c nL D cl sp q ca A Q kc1 ks1 μ1 (pc + 3) lv (rest)) : wJ p l e R s m args below meth c nL D cl sp q ca A Q kc ks μ pc lv st := by
  intro H locs ls h1 h2 h3
  subst hst
  obtain ⟨f1, f2, f3, f4, f5, f6⟩ := hF
  subst f1; subst f2
  obtain ⟨o1, o2, o3, o4, o5⟩ := hO
  have hA := wA_in h2 C.2.2.2.2.2.2.2.2.2.1 C.2.2.2.2.2.2.2.2.2.2.1
  have hts := C.2.2.2.2.1
  exact va_callv (va_runVN (rest := rest) (As := As) ⟨C.1, C.2.1, C.2.2.1, C.2.2.2.1, C.2.2.2.2.1⟩ (hM H.size) ⟨va_cnB As.length hts (lw_meth o4) rfl rfl rfl (C.2.2.2.2.2.2.2.2.2.2.2.1.1 _ hl rfl) (hts _ o3) o5 ⟨f3, f4⟩, hts _ o1, hts _ o2⟩ ⟨w_blind, va_recv C.2.2.2.2.2.1 h1 hc (wWs_get hs), fun U hU hW => ⟨rfl, by rw [hU], by rw [hU]; exact h1, va_K.moved hW.alike C.2.2.2.2.2.1, C.2.2.2.2.2.2.2.2.1, wNest_warm hW C.2.2.2.2.2.2.2.2.2.2.2⟩⟩ rfl rfl h3.1 rfl (lv_room hw) hd ⟨f5, f6⟩) h2 (fun a _ h => hA a h) hA (fun u t H1 locs1 ht hvm hpost hB hz hk hS => by
    rw [hpost, ht] at hB
    exact k H1 locs1 ls hB hS h3)
theorem wr_SNv {y : MethodName} {cc1 : ByteArray} {nL1 ix : Nat} {ret1 : Option FieldType} {rm : Room} {As : List Value} {host : String} {μ1 : wMem} {kc1 ks1 : Nat} (pc : Nat) (rest : List Value) (C : wC p R s m args meth c cc own nL ret D cl sp q ca A) (hd : decode cc pc = .ok (.invokestatic ix, 3)) (hM : wMv l y cc1 nL1 ret1 rm D cl sp q ca As μ μ1) (hO : wOkS y cc1 nL1 ret1 As.length) (hl : Cond.methodLinkNest own ix y host ∈ lw_tbl) (hF : wFit rm nL1 R kc ks kc1 ks1) (hw : (rest.map fun v => v.category).sum ≤ 8) (hst : st = As.reverse ++ rest) (k : wJ p l e R s m args below meth c nL D cl sp q ca A Q kc1 ks1 μ1 (pc + 3) lv (rest)) : wJ p l e R s m args below meth c nL D cl sp q ca A Q kc ks μ pc lv st := by
  intro H locs ls h1 h2 h3
  subst hst
  obtain ⟨f1, f2, f3, f4, f5, f6⟩ := hF
  subst f1; subst f2
  obtain ⟨o1, o2, o3, o4⟩ := hO
  have hA := wA_in h2 C.2.2.2.2.2.2.2.2.2.1 C.2.2.2.2.2.2.2.2.2.2.1
  have hts := C.2.2.2.2.1
  exact va_callv (va_runSN (rest := rest) (As := As) ⟨C.1, C.2.1, C.2.2.1, C.2.2.2.1, C.2.2.2.2.1⟩ (hM H.size) ⟨va_cnB As.length hts (lw_meth o3) rfl rfl rfl (C.2.2.2.2.2.2.2.2.2.2.2.1.1 _ hl rfl) (hts _ o2) o4 ⟨f3, f4⟩, hts _ o1, trivial⟩ ⟨w_blind, fun U hU hW => ⟨rfl, by rw [hU], by rw [hU]; exact h1, va_K.moved hW.alike C.2.2.2.2.2.1, C.2.2.2.2.2.2.2.2.1, wNest_warm hW C.2.2.2.2.2.2.2.2.2.2.2⟩⟩ rfl rfl h3.1 rfl (lv_room hw) hd ⟨f5, f6⟩) h2 (fun a _ h => hA a h) hA (fun u t H1 locs1 ht hvm hpost hB hz hk hS => by
    rw [hpost, ht] at hB
    exact k H1 locs1 ls hB hS h3)
theorem wr_Oi {x : MethodName} {Cn : String} {y : MethodName} {cc1 : ByteArray} {nL1 ix ci N b : Nat} {ret1 : Option FieldType} {rm : Room} {As : List Value} {T : u_T} {fs : List (Nat × Nat)} {b0 : ByteArray} {m0 : Nat} {r0 : Option FieldType} {v : Int32} {μ1 : wMem} {kc1 ks1 : Nat} (pc : Nat) (rest : List Value) (C : wC p R s m args meth c cc own nL ret D cl sp q ca A) (hd : decode cc pc = .ok (.invokevirtual ix, 3)) (hM : wMi l y cc1 nL1 ret1 rm D cl sp q ca (.ref (q b) :: As) μ (v, μ1)) (hl : Cond.methodLink own ix x ∈ lw_all) (hsm : Cond.sameMethod x.cls x.cls x.name x.desc ∈ lw_all) (hix : Cond.instanceMethod ⟨x.cls, x.name, x.desc⟩ ∈ lw_all) (hsel : Cond.selects Cn x y ∈ lw_all) (hiy : Cond.instanceMethod y ∈ lw_all) (hini : Cond.initialized y.cls ∈ lw_all) (hco : Cond.code y cc1 nL1 ret1 ∈ lw_all) (h0 : Cond.code ⟨x.cls, x.name, x.desc⟩ b0 m0 r0 ∈ lw_all) (hx : x.cls ≠ "java/lang/invoke/MethodHandle" ∧ x.cls ≠ "java/lang/invoke/VarHandle" ∧ (parseMethodDescriptor x.desc).map (fun d => d.parameters.length) = some As.length) (hs : sp[b]? = some (.inl (ci, fs))) (hc : cl[ci]? = some (Cn, T, N)) (hF : wFit rm nL1 R kc ks kc1 ks1) (hw : (rest.map fun v => v.category).sum ≤ 8) (hst : st = As.reverse ++ .ref (q b) :: rest) (k : wJ p l e R s m args below meth c nL D cl sp q ca A Q kc1 ks1 μ1 (pc + 3) lv (.int v :: rest)) : wJ p l e R s m args below meth c nL D cl sp q ca A Q kc ks μ pc lv st := by
  intro H locs ls h1 h2 h3
  subst hst
  obtain ⟨f1, f2, f3, f4, f5, f6⟩ := hF
  subst f1; subst f2
  have hA := wA_in h2 C.2.2.2.2.2.2.2.2.2.1 C.2.2.2.2.2.2.2.2.2.2.1
  have hG : GoodIn lw_all (va_wsO own ix Cn x.cls x y (ws_ y cc1 nL1 ret1)) := by
    refine lw_app ?_ (lw_meth hco)
    intro w hw
    simp only [List.mem_cons, List.not_mem_nil, or_false] at hw
    rcases hw with e | e | e | e | e | e
    · rw [e]; exact hl
    · rw [e]; exact hsm
    · rw [e]; exact hix
    · rw [e]; exact hsel
    · rw [e]; exact hiy
    · rw [e]; exact hini
  exact va_calli (va_runU (rest := rest) (As := As) ⟨C.1, C.2.1, C.2.2.1, C.2.2.2.1, C.2.2.2.2.1⟩ (hM H.size) (va_cwO As.length C.2.2.2.2.1 hG rfl rfl rfl h0 hx ⟨f3, f4⟩) ⟨w_blind, va_recv C.2.2.2.2.2.1 h1 hc (wWs_get hs), fun U hU hW => ⟨rfl, by rw [hU], by rw [hU]; exact h1, va_K.moved hW.alike C.2.2.2.2.2.1, C.2.2.2.2.2.2.2.2.1, wNest_warm hW C.2.2.2.2.2.2.2.2.2.2.2⟩⟩ rfl rfl h3.1 rfl (lv_room hw) hd ⟨f5, f6⟩) h2 (fun a _ h => hA a h) hA (fun r u t H1 locs1 ht hvm hpost hB hz hk hS => by
    have e1 := (Prod.mk.inj hpost)
    rw [e1.1]
    rw [e1.2, ht] at hB
    exact k H1 locs1 ls hB hS h3)
theorem wr_SUi {Cn : String} {y : MethodName} {cc1 : ByteArray} {nL1 ix ci N b : Nat} {ret1 : Option FieldType} {rm : Room} {As : List Value} {T : u_T} {fs : List (Nat × Nat)} {v : Int32} {μ1 : wMem} {kc1 ks1 : Nat} (pc : Nat) (rest : List Value) (C : wC p R s m args meth c cc own nL ret D cl sp q ca A) (hd : decode cc pc = .ok (.invokespecial ix, 3)) (hM : wMi l y cc1 nL1 ret1 rm D cl sp q ca (.ref (q b) :: As) μ (v, μ1)) (hl : Cond.methodLink own ix y ∈ lw_all) (hsm : Cond.sameMethod y.cls y.cls y.name y.desc ∈ lw_all) (hsu : Cond.superclass own y.cls ∈ lw_all) (hiy : Cond.instanceMethod y ∈ lw_all) (hini : Cond.initialized y.cls ∈ lw_all) (hco : Cond.code y cc1 nL1 ret1 ∈ lw_all) (hx : y.name ≠ "<init>" ∧ (parseMethodDescriptor y.desc).map (fun d => d.parameters.length) = some As.length) (hs : sp[b]? = some (.inl (ci, fs))) (hc : cl[ci]? = some (Cn, T, N)) (hF : wFit rm nL1 R kc ks kc1 ks1) (hw : (rest.map fun v => v.category).sum ≤ 8) (hst : st = As.reverse ++ .ref (q b) :: rest) (k : wJ p l e R s m args below meth c nL D cl sp q ca A Q kc1 ks1 μ1 (pc + 3) lv (.int v :: rest)) : wJ p l e R s m args below meth c nL D cl sp q ca A Q kc ks μ pc lv st := by
  intro H locs ls h1 h2 h3
  subst hst
  obtain ⟨f1, f2, f3, f4, f5, f6⟩ := hF
  subst f1; subst f2
  have hA := wA_in h2 C.2.2.2.2.2.2.2.2.2.1 C.2.2.2.2.2.2.2.2.2.2.1
  have hG : GoodIn lw_all (va_wsSU own ix y (ws_ y cc1 nL1 ret1)) := by
    refine lw_app ?_ (lw_meth hco)
    intro w hw
    simp only [List.mem_cons, List.not_mem_nil, or_false] at hw
    rcases hw with e | e | e | e | e
    · rw [e]; exact hl
    · rw [e]; exact hsm
    · rw [e]; exact hsu
    · rw [e]; exact hiy
    · rw [e]; exact hini
  exact va_calli (va_runSU (rest := rest) (As := As) (C.2.2.2.2.2.1.1 ci _ hc).2 ⟨C.1, C.2.1, C.2.2.1, C.2.2.2.1, C.2.2.2.2.1⟩ (hM H.size) (va_cwSU As.length C.2.2.2.2.1 hG rfl rfl rfl hx ⟨f3, f4⟩) ⟨w_blind, va_recv C.2.2.2.2.2.1 h1 hc (wWs_get hs), fun U hU hW => ⟨rfl, by rw [hU], by rw [hU]; exact h1, va_K.moved hW.alike C.2.2.2.2.2.1, C.2.2.2.2.2.2.2.2.1, wNest_warm hW C.2.2.2.2.2.2.2.2.2.2.2⟩⟩ rfl rfl h3.1 rfl (lv_room hw) hd ⟨f5, f6⟩) h2 (fun a _ h => hA a h) hA (fun r u t H1 locs1 ht hvm hpost hB hz hk hS => by
    have e1 := (Prod.mk.inj hpost)
    rw [e1.1]
    rw [e1.2, ht] at hB
    exact k H1 locs1 ls hB hS h3)
theorem wr_mmin {x y : Int32} {ix : Nat} (pc : Nat) (C : wC p R s m args meth c cc own nL ret D cl sp q ca A) (hd : decode cc pc = .ok (.invokestatic ix, 3)) (hl : Cond.methodLink own ix Lib.Math.min.name ∈ lw_all) (hs : Cond.static Lib.Math.min.name ∈ lw_all) (hi : Cond.initialized "java/lang/Math" ∈ lw_all) (hc : Cond.code Lib.Math.min.name Lib.Math.min.code 2 (some .int) ∈ lw_all) (hF : 1 ≤ R.frames ∧ 21 ≤ R.locals ∧ kc ≤ R.cells ∧ ks ≤ R.slots) (hw : (st.map fun v => v.category).sum ≤ 8) (k : wJ p l e R s m args below meth c nL D cl sp q ca A Q kc ks μ (pc + 3) lv (.int (if y < x then y else x) :: st)) : wJ p l e R s m args below meth c nL D cl sp q ca A Q kc ks μ pc lv (.int y :: .int x :: st) :=
  fun H locs ls h1 h2 h3 => va_mmin C.1 C.2.1 (C.2.2.1.trans h3.1.symm) C.2.2.2.1 (C.2.2.2.2.1 _ hl) (C.2.2.2.2.1 _ hs) (C.2.2.2.2.1 _ hi) (C.2.2.2.2.1 _ hc) hF.1 (by have := hF.2.1; omega) hF.2.2.1 hF.2.2.2 hd (k H locs ls h1 h2 h3)
theorem wr_mabs {x : Int32} {ix : Nat} (pc : Nat) (C : wC p R s m args meth c cc own nL ret D cl sp q ca A) (hd : decode cc pc = .ok (.invokestatic ix, 3)) (hl : Cond.methodLink own ix Lib.Math.abs.name ∈ lw_all) (hs : Cond.static Lib.Math.abs.name ∈ lw_all) (hi : Cond.initialized "java/lang/Math" ∈ lw_all) (hc : Cond.code Lib.Math.abs.name Lib.Math.abs.code 1 (some .int) ∈ lw_all) (hF : 1 ≤ R.frames ∧ 21 ≤ R.locals ∧ kc ≤ R.cells ∧ ks ≤ R.slots) (hw : (st.map fun v => v.category).sum ≤ 8) (k : wJ p l e R s m args below meth c nL D cl sp q ca A Q kc ks μ (pc + 3) lv (.int (if 0 ≤ x then x else 0 - x) :: st)) : wJ p l e R s m args below meth c nL D cl sp q ca A Q kc ks μ pc lv (.int x :: st) :=
  fun H locs ls h1 h2 h3 => va_mabs C.1 C.2.1 (C.2.2.1.trans h3.1.symm) C.2.2.2.1 (C.2.2.2.2.1 _ hl) (C.2.2.2.2.1 _ hs) (C.2.2.2.2.1 _ hi) (C.2.2.2.2.1 _ hc) hF.1 (by have := hF.2.1; omega) hF.2.2.1 hF.2.2.2 hd (k H locs ls h1 h2 h3)
end WR2
theorem wSw3 (lo : Int) (X : Int32) (h0 : ¬ X = 0) (h1 : ¬ X = 1) (h2 : ¬ X = 2) (h3 : ¬ X = 3) : X.toInt < 0 ∨ (3 : Int) < X.toInt := by
  have g0 : X.toInt ≠ 0 := fun e => h0 (Int32.toInt_inj.mp (e.trans (by decide)))
  have g1 : X.toInt ≠ 1 := fun e => h1 (Int32.toInt_inj.mp (e.trans (by decide)))
  have g2 : X.toInt ≠ 2 := fun e => h2 (Int32.toInt_inj.mp (e.trans (by decide)))
  have g3 : X.toInt ≠ 3 := fun e => h3 (Int32.toInt_inj.mp (e.trans (by decide)))
  omega
theorem wSw9 (lo : Int) (X : Int32) (h0 : ¬ X = 0) (h1 : ¬ X = 1) (h2 : ¬ X = 2) (h3 : ¬ X = 3) (h4 : ¬ X = 4) (h5 : ¬ X = 5) (h6 : ¬ X = 6) (h7 : ¬ X = 7) (h8 : ¬ X = 8) (h9 : ¬ X = 9) : X.toInt < 0 ∨ (9 : Int) < X.toInt := by
  have g0 : X.toInt ≠ 0 := fun e => h0 (Int32.toInt_inj.mp (e.trans (by decide)))
  have g1 : X.toInt ≠ 1 := fun e => h1 (Int32.toInt_inj.mp (e.trans (by decide)))
  have g2 : X.toInt ≠ 2 := fun e => h2 (Int32.toInt_inj.mp (e.trans (by decide)))
  have g3 : X.toInt ≠ 3 := fun e => h3 (Int32.toInt_inj.mp (e.trans (by decide)))
  have g4 : X.toInt ≠ 4 := fun e => h4 (Int32.toInt_inj.mp (e.trans (by decide)))
  have g5 : X.toInt ≠ 5 := fun e => h5 (Int32.toInt_inj.mp (e.trans (by decide)))
  have g6 : X.toInt ≠ 6 := fun e => h6 (Int32.toInt_inj.mp (e.trans (by decide)))
  have g7 : X.toInt ≠ 7 := fun e => h7 (Int32.toInt_inj.mp (e.trans (by decide)))
  have g8 : X.toInt ≠ 8 := fun e => h8 (Int32.toInt_inj.mp (e.trans (by decide)))
  have g9 : X.toInt ≠ 9 := fun e => h9 (Int32.toInt_inj.mp (e.trans (by decide)))
  omega
theorem wSw58 (lo : Int) (X : Int32) (h0 : ¬ X = 0) (h1 : ¬ X = 1) (h2 : ¬ X = 2) (h3 : ¬ X = 3) (h4 : ¬ X = 4) (h5 : ¬ X = 5) (h6 : ¬ X = 6) (h7 : ¬ X = 7) (h8 : ¬ X = 8) (h9 : ¬ X = 9) (h10 : ¬ X = 10) (h11 : ¬ X = 11) (h12 : ¬ X = 12) (h13 : ¬ X = 13) (h14 : ¬ X = 14) (h15 : ¬ X = 15) (h16 : ¬ X = 16) (h17 : ¬ X = 17) (h18 : ¬ X = 18) (h19 : ¬ X = 19) (h20 : ¬ X = 20) (h21 : ¬ X = 21) (h22 : ¬ X = 22) (h23 : ¬ X = 23) (h24 : ¬ X = 24) (h25 : ¬ X = 25) (h26 : ¬ X = 26) (h27 : ¬ X = 27) (h28 : ¬ X = 28) (h29 : ¬ X = 29) (h30 : ¬ X = 30) (h31 : ¬ X = 31) (h32 : ¬ X = 32) (h33 : ¬ X = 33) (h34 : ¬ X = 34) (h35 : ¬ X = 35) (h36 : ¬ X = 36) (h37 : ¬ X = 37) (h38 : ¬ X = 38) (h39 : ¬ X = 39) (h40 : ¬ X = 40) (h41 : ¬ X = 41) (h42 : ¬ X = 42) (h43 : ¬ X = 43) (h44 : ¬ X = 44) (h45 : ¬ X = 45) (h46 : ¬ X = 46) (h47 : ¬ X = 47) (h48 : ¬ X = 48) (h49 : ¬ X = 49) (h50 : ¬ X = 50) (h51 : ¬ X = 51) (h52 : ¬ X = 52) (h53 : ¬ X = 53) (h54 : ¬ X = 54) (h55 : ¬ X = 55) (h56 : ¬ X = 56) (h57 : ¬ X = 57) (h58 : ¬ X = 58) : X.toInt < 0 ∨ (58 : Int) < X.toInt := by
  have g0 : X.toInt ≠ 0 := fun e => h0 (Int32.toInt_inj.mp (e.trans (by decide)))
  have g1 : X.toInt ≠ 1 := fun e => h1 (Int32.toInt_inj.mp (e.trans (by decide)))
  have g2 : X.toInt ≠ 2 := fun e => h2 (Int32.toInt_inj.mp (e.trans (by decide)))
  have g3 : X.toInt ≠ 3 := fun e => h3 (Int32.toInt_inj.mp (e.trans (by decide)))
  have g4 : X.toInt ≠ 4 := fun e => h4 (Int32.toInt_inj.mp (e.trans (by decide)))
  have g5 : X.toInt ≠ 5 := fun e => h5 (Int32.toInt_inj.mp (e.trans (by decide)))
  have g6 : X.toInt ≠ 6 := fun e => h6 (Int32.toInt_inj.mp (e.trans (by decide)))
  have g7 : X.toInt ≠ 7 := fun e => h7 (Int32.toInt_inj.mp (e.trans (by decide)))
  have g8 : X.toInt ≠ 8 := fun e => h8 (Int32.toInt_inj.mp (e.trans (by decide)))
  have g9 : X.toInt ≠ 9 := fun e => h9 (Int32.toInt_inj.mp (e.trans (by decide)))
  have g10 : X.toInt ≠ 10 := fun e => h10 (Int32.toInt_inj.mp (e.trans (by decide)))
  have g11 : X.toInt ≠ 11 := fun e => h11 (Int32.toInt_inj.mp (e.trans (by decide)))
  have g12 : X.toInt ≠ 12 := fun e => h12 (Int32.toInt_inj.mp (e.trans (by decide)))
  have g13 : X.toInt ≠ 13 := fun e => h13 (Int32.toInt_inj.mp (e.trans (by decide)))
  have g14 : X.toInt ≠ 14 := fun e => h14 (Int32.toInt_inj.mp (e.trans (by decide)))
  have g15 : X.toInt ≠ 15 := fun e => h15 (Int32.toInt_inj.mp (e.trans (by decide)))
  have g16 : X.toInt ≠ 16 := fun e => h16 (Int32.toInt_inj.mp (e.trans (by decide)))
  have g17 : X.toInt ≠ 17 := fun e => h17 (Int32.toInt_inj.mp (e.trans (by decide)))
  have g18 : X.toInt ≠ 18 := fun e => h18 (Int32.toInt_inj.mp (e.trans (by decide)))
  have g19 : X.toInt ≠ 19 := fun e => h19 (Int32.toInt_inj.mp (e.trans (by decide)))
  have g20 : X.toInt ≠ 20 := fun e => h20 (Int32.toInt_inj.mp (e.trans (by decide)))
  have g21 : X.toInt ≠ 21 := fun e => h21 (Int32.toInt_inj.mp (e.trans (by decide)))
  have g22 : X.toInt ≠ 22 := fun e => h22 (Int32.toInt_inj.mp (e.trans (by decide)))
  have g23 : X.toInt ≠ 23 := fun e => h23 (Int32.toInt_inj.mp (e.trans (by decide)))
  have g24 : X.toInt ≠ 24 := fun e => h24 (Int32.toInt_inj.mp (e.trans (by decide)))
  have g25 : X.toInt ≠ 25 := fun e => h25 (Int32.toInt_inj.mp (e.trans (by decide)))
  have g26 : X.toInt ≠ 26 := fun e => h26 (Int32.toInt_inj.mp (e.trans (by decide)))
  have g27 : X.toInt ≠ 27 := fun e => h27 (Int32.toInt_inj.mp (e.trans (by decide)))
  have g28 : X.toInt ≠ 28 := fun e => h28 (Int32.toInt_inj.mp (e.trans (by decide)))
  have g29 : X.toInt ≠ 29 := fun e => h29 (Int32.toInt_inj.mp (e.trans (by decide)))
  have g30 : X.toInt ≠ 30 := fun e => h30 (Int32.toInt_inj.mp (e.trans (by decide)))
  have g31 : X.toInt ≠ 31 := fun e => h31 (Int32.toInt_inj.mp (e.trans (by decide)))
  have g32 : X.toInt ≠ 32 := fun e => h32 (Int32.toInt_inj.mp (e.trans (by decide)))
  have g33 : X.toInt ≠ 33 := fun e => h33 (Int32.toInt_inj.mp (e.trans (by decide)))
  have g34 : X.toInt ≠ 34 := fun e => h34 (Int32.toInt_inj.mp (e.trans (by decide)))
  have g35 : X.toInt ≠ 35 := fun e => h35 (Int32.toInt_inj.mp (e.trans (by decide)))
  have g36 : X.toInt ≠ 36 := fun e => h36 (Int32.toInt_inj.mp (e.trans (by decide)))
  have g37 : X.toInt ≠ 37 := fun e => h37 (Int32.toInt_inj.mp (e.trans (by decide)))
  have g38 : X.toInt ≠ 38 := fun e => h38 (Int32.toInt_inj.mp (e.trans (by decide)))
  have g39 : X.toInt ≠ 39 := fun e => h39 (Int32.toInt_inj.mp (e.trans (by decide)))
  have g40 : X.toInt ≠ 40 := fun e => h40 (Int32.toInt_inj.mp (e.trans (by decide)))
  have g41 : X.toInt ≠ 41 := fun e => h41 (Int32.toInt_inj.mp (e.trans (by decide)))
  have g42 : X.toInt ≠ 42 := fun e => h42 (Int32.toInt_inj.mp (e.trans (by decide)))
  have g43 : X.toInt ≠ 43 := fun e => h43 (Int32.toInt_inj.mp (e.trans (by decide)))
  have g44 : X.toInt ≠ 44 := fun e => h44 (Int32.toInt_inj.mp (e.trans (by decide)))
  have g45 : X.toInt ≠ 45 := fun e => h45 (Int32.toInt_inj.mp (e.trans (by decide)))
  have g46 : X.toInt ≠ 46 := fun e => h46 (Int32.toInt_inj.mp (e.trans (by decide)))
  have g47 : X.toInt ≠ 47 := fun e => h47 (Int32.toInt_inj.mp (e.trans (by decide)))
  have g48 : X.toInt ≠ 48 := fun e => h48 (Int32.toInt_inj.mp (e.trans (by decide)))
  have g49 : X.toInt ≠ 49 := fun e => h49 (Int32.toInt_inj.mp (e.trans (by decide)))
  have g50 : X.toInt ≠ 50 := fun e => h50 (Int32.toInt_inj.mp (e.trans (by decide)))
  have g51 : X.toInt ≠ 51 := fun e => h51 (Int32.toInt_inj.mp (e.trans (by decide)))
  have g52 : X.toInt ≠ 52 := fun e => h52 (Int32.toInt_inj.mp (e.trans (by decide)))
  have g53 : X.toInt ≠ 53 := fun e => h53 (Int32.toInt_inj.mp (e.trans (by decide)))
  have g54 : X.toInt ≠ 54 := fun e => h54 (Int32.toInt_inj.mp (e.trans (by decide)))
  have g55 : X.toInt ≠ 55 := fun e => h55 (Int32.toInt_inj.mp (e.trans (by decide)))
  have g56 : X.toInt ≠ 56 := fun e => h56 (Int32.toInt_inj.mp (e.trans (by decide)))
  have g57 : X.toInt ≠ 57 := fun e => h57 (Int32.toInt_inj.mp (e.trans (by decide)))
  have g58 : X.toInt ≠ 58 := fun e => h58 (Int32.toInt_inj.mp (e.trans (by decide)))
  omega
