set_option maxRecDepth 100000
/-- a contract that keeps the world is one for the law -/
theorem wXi_same {Z Z0 : (Nat → Prop) → State → Heap → Prop} {l : Launch} {y : MethodName} {ws : List Cond} {rm : Room} {D : va_G} {cl : List vw_C} {sp : List wCell} {q : Nat → Nat} {ca : wCA} {av : List Value} {μ μ1 : wMem} {v : Int32} (hZ : ∀ B U H, Z B U H → Z0 B U H) (h : ∀ sz : Nat, Met l y ws rm (va_Pc av (fun U => U.heap.size = sz ∧ va_P D cl (wWs sp q ca μ) U.heap ∧ va_K D cl (wTy ca) U ∧ wInj sp q ∧ wNest U ∧ Z0 (wA sp q sz) U U.heap)) (va_Qi (fun (r : Int32) (u : wMem) => (r, u) = (v, μ1)) (fun (u : wMem) t => va_P D cl (wWs sp q ca u) t.heap) (wA sp q sz)) rm.cells rm.slots (wA sp q sz)) : wXi Z l y ws rm D cl sp sp q ca av μ μ1 v := by
  intro sz
  refine MetFree.mono (h sz) (fun a U hP => ⟨hP.1, hP.2.1, hP.2.2.1, hP.2.2.2.1, hP.2.2.2.2.1, hP.2.2.2.2.2.1, hZ _ _ _ hP.2.2.2.2.2.2⟩) (fun _ _ _ _ _ h => h) (fun a U o t hP hQ => ⟨⟨?_, hQ.1.2⟩, hQ.2⟩)
  obtain ⟨r, u, h1, h2, h3⟩ := hQ.1.1
  obtain ⟨h4, h5⟩ := Prod.mk.inj h2
  subst h4; subst h5
  exact ⟨r, q, h1, ⟨rfl, rfl⟩, h3, hP.2.2.2.2.1, fun i hi => Or.inl ⟨i, hi, rfl⟩⟩
theorem wXi_grow {Z Z0 : (Nat → Prop) → State → Heap → Prop} {l : Launch} {y : MethodName} {ws : List Cond} {rm : Room} {D : va_G} {cl : List vw_C} {sp sp1 : List wCell} {q : Nat → Nat} {ca : wCA} {av : List Value} {μ μ1 : wMem} {v : Int32} (h0 : 0 < sp.length) (hZ : ∀ B U H, Z B U H → Z0 B U H) (h : ∀ sz : Nat, Met l y ws rm (va_Pc av (fun U => U.heap.size = sz ∧ va_P D cl (wWs sp q ca μ) U.heap ∧ va_K D cl (wTy ca) U ∧ wInj sp q ∧ wNest U ∧ Z0 (wA sp q sz) U U.heap)) (va_Qi (fun (r : Int32) (u : Nat → Nat) => r = v ∧ ∀ j, j < sp.length → u j = q j) (fun (u : Nat → Nat) t => va_P D cl (wWs sp1 u ca μ1) t.heap ∧ wInj sp1 u ∧ ∀ i, i < sp1.length → (wA sp q sz) (u i)) (wA sp q sz)) rm.cells rm.slots (wA sp q sz)) : wXi Z l y ws rm D cl sp sp1 q ca av μ μ1 v := by
  intro sz
  refine MetFree.mono (h sz) (fun a U hP => ⟨hP.1, hP.2.1, hP.2.2.1, hP.2.2.2.1, hP.2.2.2.2.1, hP.2.2.2.2.2.1, hZ _ _ _ hP.2.2.2.2.2.2⟩) (fun _ _ _ _ _ h => h) (fun a U o t hP hQ => ⟨⟨?_, hQ.1.2⟩, hQ.2⟩)
  obtain ⟨r, u, h1, h2, h3⟩ := hQ.1.1
  exact ⟨r, u, h1, ⟨h2.1, h2.2 0 h0⟩, h3⟩
/-- the world behind named anew -/
theorem wXi_perm {Z : (Nat → Prop) → State → Heap → Prop} {l : Launch} {y : MethodName} {ws : List Cond} {rm : Room} {D : va_G} {cl : List vw_C} {sp sp1 : List wCell} {q : Nat → Nat} {ca : wCA} {av : List Value} {μ μ1 : wMem} {v : Int32} {KP : List (Nat × Nat)} (hK : ∀ x ∈ KP, ca.1 x.1 = ca.1 x.2) (π : Nat → Nat) (sp2 : List wCell) (hp : ∀ i d', sp2[i]? = some d' → ∃ d, sp1[π i]? = some d ∧ wRelB KP π d' d = true) (hinj : ∀ i j, i < sp2.length → j < sp2.length → π i = π j → i = j) (h0 : π 0 = 0) (h : wXi Z l y ws rm D cl sp sp1 q ca av μ μ1 v) : wXi Z l y ws rm D cl sp sp2 q ca av μ (wMp π μ1) v := by
  intro sz
  refine MetFree.mono (h sz) (fun a U hP => hP) (fun _ _ _ _ _ h => h) (fun a U o t hP hQ => ⟨⟨?_, hQ.1.2⟩, hQ.2⟩)
  obtain ⟨r, u, h1, h2, h3, h4, h5⟩ := hQ.1.1
  have hlt : ∀ i, i < sp2.length → π i < sp1.length := fun i hi => by
    obtain ⟨d, hd, -⟩ := hp i _ (List.getElem?_eq_getElem hi)
    exact (List.getElem?_eq_some_iff.mp hd).1
  exact ⟨r, fun i => u (π i), h1, ⟨h2.1, by show u (π 0) = q 0; rw [h0]; exact h2.2⟩, wP_perm hK π hp h3, fun i j hi hj e => hinj i j hi hj (h4 _ _ (hlt i hi) (hlt j hj) e), fun i hi => h5 _ (hlt i hi)⟩
/-- a contract that keeps the world is one for the law -/
theorem wXl_same {Z Z0 : (Nat → Prop) → State → Heap → Prop} {l : Launch} {y : MethodName} {ws : List Cond} {rm : Room} {D : va_G} {cl : List vw_C} {sp : List wCell} {q : Nat → Nat} {ca : wCA} {av : List Value} {μ μ1 : wMem} {v : Int64} (hZ : ∀ B U H, Z B U H → Z0 B U H) (h : ∀ sz : Nat, Met l y ws rm (va_Pc av (fun U => U.heap.size = sz ∧ va_P D cl (wWs sp q ca μ) U.heap ∧ va_K D cl (wTy ca) U ∧ wInj sp q ∧ wNest U ∧ Z0 (wA sp q sz) U U.heap)) (va_Ql (fun (r : Int64) (u : wMem) => (r, u) = (v, μ1)) (fun (u : wMem) t => va_P D cl (wWs sp q ca u) t.heap) (wA sp q sz)) rm.cells rm.slots (wA sp q sz)) : wXl Z l y ws rm D cl sp sp q ca av μ μ1 v := by
  intro sz
  refine MetFree.mono (h sz) (fun a U hP => ⟨hP.1, hP.2.1, hP.2.2.1, hP.2.2.2.1, hP.2.2.2.2.1, hP.2.2.2.2.2.1, hZ _ _ _ hP.2.2.2.2.2.2⟩) (fun _ _ _ _ _ h => h) (fun a U o t hP hQ => ⟨⟨?_, hQ.1.2⟩, hQ.2⟩)
  obtain ⟨r, u, h1, h2, h3⟩ := hQ.1.1
  obtain ⟨h4, h5⟩ := Prod.mk.inj h2
  subst h4; subst h5
  exact ⟨r, q, h1, ⟨rfl, rfl⟩, h3, hP.2.2.2.2.1, fun i hi => Or.inl ⟨i, hi, rfl⟩⟩
theorem wXl_grow {Z Z0 : (Nat → Prop) → State → Heap → Prop} {l : Launch} {y : MethodName} {ws : List Cond} {rm : Room} {D : va_G} {cl : List vw_C} {sp sp1 : List wCell} {q : Nat → Nat} {ca : wCA} {av : List Value} {μ μ1 : wMem} {v : Int64} (h0 : 0 < sp.length) (hZ : ∀ B U H, Z B U H → Z0 B U H) (h : ∀ sz : Nat, Met l y ws rm (va_Pc av (fun U => U.heap.size = sz ∧ va_P D cl (wWs sp q ca μ) U.heap ∧ va_K D cl (wTy ca) U ∧ wInj sp q ∧ wNest U ∧ Z0 (wA sp q sz) U U.heap)) (va_Ql (fun (r : Int64) (u : Nat → Nat) => r = v ∧ ∀ j, j < sp.length → u j = q j) (fun (u : Nat → Nat) t => va_P D cl (wWs sp1 u ca μ1) t.heap ∧ wInj sp1 u ∧ ∀ i, i < sp1.length → (wA sp q sz) (u i)) (wA sp q sz)) rm.cells rm.slots (wA sp q sz)) : wXl Z l y ws rm D cl sp sp1 q ca av μ μ1 v := by
  intro sz
  refine MetFree.mono (h sz) (fun a U hP => ⟨hP.1, hP.2.1, hP.2.2.1, hP.2.2.2.1, hP.2.2.2.2.1, hP.2.2.2.2.2.1, hZ _ _ _ hP.2.2.2.2.2.2⟩) (fun _ _ _ _ _ h => h) (fun a U o t hP hQ => ⟨⟨?_, hQ.1.2⟩, hQ.2⟩)
  obtain ⟨r, u, h1, h2, h3⟩ := hQ.1.1
  exact ⟨r, u, h1, ⟨h2.1, h2.2 0 h0⟩, h3⟩
/-- the world behind named anew -/
theorem wXl_perm {Z : (Nat → Prop) → State → Heap → Prop} {l : Launch} {y : MethodName} {ws : List Cond} {rm : Room} {D : va_G} {cl : List vw_C} {sp sp1 : List wCell} {q : Nat → Nat} {ca : wCA} {av : List Value} {μ μ1 : wMem} {v : Int64} {KP : List (Nat × Nat)} (hK : ∀ x ∈ KP, ca.1 x.1 = ca.1 x.2) (π : Nat → Nat) (sp2 : List wCell) (hp : ∀ i d', sp2[i]? = some d' → ∃ d, sp1[π i]? = some d ∧ wRelB KP π d' d = true) (hinj : ∀ i j, i < sp2.length → j < sp2.length → π i = π j → i = j) (h0 : π 0 = 0) (h : wXl Z l y ws rm D cl sp sp1 q ca av μ μ1 v) : wXl Z l y ws rm D cl sp sp2 q ca av μ (wMp π μ1) v := by
  intro sz
  refine MetFree.mono (h sz) (fun a U hP => hP) (fun _ _ _ _ _ h => h) (fun a U o t hP hQ => ⟨⟨?_, hQ.1.2⟩, hQ.2⟩)
  obtain ⟨r, u, h1, h2, h3, h4, h5⟩ := hQ.1.1
  have hlt : ∀ i, i < sp2.length → π i < sp1.length := fun i hi => by
    obtain ⟨d, hd, -⟩ := hp i _ (List.getElem?_eq_getElem hi)
    exact (List.getElem?_eq_some_iff.mp hd).1
  exact ⟨r, fun i => u (π i), h1, ⟨h2.1, by show u (π 0) = q 0; rw [h0]; exact h2.2⟩, wP_perm hK π hp h3, fun i j hi hj e => hinj i j hi hj (h4 _ _ (hlt i hi) (hlt j hj) e), fun i hi => h5 _ (hlt i hi)⟩
theorem wX_Mi {aE : Nat} {ad adK adV : Nat → Nat} {fo : Option Nat} {l : Launch} {y : MethodName} {cc : ByteArray} {nL : Nat} {ret : Option FieldType} {rm : Room} {D : va_G} {cl : List vw_C} {sp : List wCell} {q : Nat → Nat} {ca : wCA} {av : List Value} {μ μ1 : wMem} {v : Int32} (h : wMi l y cc nL ret rm D cl sp q ca av μ (v, μ1)) : wXi (wZa aE ad adK adV fo) l y (ws_ y cc nL ret) rm D cl sp sp q ca av μ μ1 v :=
  wXi_same (Z0 := wZt) (fun _ _ _ _ => True.intro) (fun sz => MetFree.mono (h sz) (fun a U hP => ⟨hP.1, hP.2.1, hP.2.2.1, hP.2.2.2.1, hP.2.2.2.2.1, hP.2.2.2.2.2.1⟩) (fun _ _ _ _ _ h => h) (fun a U o t hP hQ => hQ))
theorem wX_MiZ {aE : Nat} {ad adK adV : Nat → Nat} {fo : Option Nat} {l : Launch} {y : MethodName} {cc : ByteArray} {nL : Nat} {ret : Option FieldType} {rm : Room} {D : va_G} {cl : List vw_C} {sp : List wCell} {q : Nat → Nat} {ca : wCA} {av : List Value} {μ μ1 : wMem} {v : Int32} (h : wMiZ l y cc nL ret rm D cl sp q ca av μ (v, μ1)) : wXi (wZa aE ad adK adV fo) l y (ws_ y cc nL ret) rm D cl sp sp q ca av μ μ1 v :=
  wXi_same (Z0 := wZq) (fun _ _ _ h => h.1.1.2) h
theorem wX_Ml {aE : Nat} {ad adK adV : Nat → Nat} {fo : Option Nat} {l : Launch} {y : MethodName} {cc : ByteArray} {nL : Nat} {ret : Option FieldType} {rm : Room} {D : va_G} {cl : List vw_C} {sp : List wCell} {q : Nat → Nat} {ca : wCA} {av : List Value} {μ μ1 : wMem} {v : Int64} (h : wMl l y cc nL ret rm D cl sp q ca av μ (v, μ1)) : wXl (wZa aE ad adK adV fo) l y (ws_ y cc nL ret) rm D cl sp sp q ca av μ μ1 v :=
  wXl_same (Z0 := wZt) (fun _ _ _ _ => True.intro) (fun sz => MetFree.mono (h sz) (fun a U hP => ⟨hP.1, hP.2.1, hP.2.2.1, hP.2.2.2.1, hP.2.2.2.2.1, hP.2.2.2.2.2.1⟩) (fun _ _ _ _ _ h => h) (fun a U o t hP hQ => hQ))
theorem wX_MlZ {aE : Nat} {ad adK adV : Nat → Nat} {fo : Option Nat} {l : Launch} {y : MethodName} {cc : ByteArray} {nL : Nat} {ret : Option FieldType} {rm : Room} {D : va_G} {cl : List vw_C} {sp : List wCell} {q : Nat → Nat} {ca : wCA} {av : List Value} {μ μ1 : wMem} {v : Int64} (h : wMlZ l y cc nL ret rm D cl sp q ca av μ (v, μ1)) : wXl (wZa aE ad adK adV fo) l y (ws_ y cc nL ret) rm D cl sp sp q ca av μ μ1 v :=
  wXl_same (Z0 := wZq) (fun _ _ _ h => h.1.1.2) h
theorem wX_MiW {aE : Nat} {ad adK adV : Nat → Nat} {fo : Option Nat} {l : Launch} {y : MethodName} {cc : ByteArray} {nL : Nat} {ret : Option FieldType} {rm : Room} {D : va_G} {cl : List vw_C} {sp : List wCell} {q : Nat → Nat} {ca : wCA} {av : List Value} {μ μ1 : wMem} {hh : List (Nat × Nat × Nat × Nat)} {v : Int32} (h : wMiW l y cc nL ret hh rm D cl sp q ca av μ (v, μ1)) : wXi (wZa aE ad adK adV fo) l y (wsW_ y cc nL ret hh) rm D cl sp sp q ca av μ μ1 v :=
  wXi_same (Z0 := wZt) (fun _ _ _ _ => True.intro) (fun sz => MetFree.mono (h sz) (fun a U hP => ⟨hP.1, hP.2.1, hP.2.2.1, hP.2.2.2.1, hP.2.2.2.2.1, hP.2.2.2.2.2.1⟩) (fun _ _ _ _ _ h => h) (fun a U o t hP hQ => hQ))
theorem wX_MiWZ {aE : Nat} {ad adK adV : Nat → Nat} {fo : Option Nat} {l : Launch} {y : MethodName} {cc : ByteArray} {nL : Nat} {ret : Option FieldType} {rm : Room} {D : va_G} {cl : List vw_C} {sp : List wCell} {q : Nat → Nat} {ca : wCA} {av : List Value} {μ μ1 : wMem} {hh : List (Nat × Nat × Nat × Nat)} {v : Int32} (h : wMiWZ l y cc nL ret hh rm D cl sp q ca av μ (v, μ1)) : wXi (wZa aE ad adK adV fo) l y (wsW_ y cc nL ret hh) rm D cl sp sp q ca av μ μ1 v :=
  wXi_same (Z0 := wZq) (fun _ _ _ h => h.1.1.2) h
theorem wX_MKi {aE : Nat} {ad adK adV : Nat → Nat} {fo : Option Nat} {l : Launch} {y : MethodName} {cc : ByteArray} {nL : Nat} {ret : Option FieldType} {rm : Room} {D : va_G} {cl : List vw_C} {sp : List wCell} {q : Nat → Nat} {ca : wCA} {av : List Value} {μ μ1 : wMem} {sp1 : List wCell} {v : Int32} (h0 : 0 < sp.length) (h : wMKi wZt l y cc nL ret rm D cl sp sp1 q ca av μ μ1 v) : wXi (wZa aE ad adK adV fo) l y (ws_ y cc nL ret) rm D cl sp sp1 q ca av μ μ1 v :=
  wXi_grow (Z0 := wZt) h0 (fun _ _ _ _ => True.intro) h
theorem wX_MKiE {aE : Nat} {ad adK adV : Nat → Nat} {fo : Option Nat} {l : Launch} {y : MethodName} {cc : ByteArray} {nL : Nat} {ret : Option FieldType} {rm : Room} {D : va_G} {cl : List vw_C} {sp : List wCell} {q : Nat → Nat} {ca : wCA} {av : List Value} {μ μ1 : wMem} {sp1 : List wCell} {v : Int32} (h0 : 0 < sp.length) (h : wMKi (wZl aE) l y cc nL ret rm D cl sp sp1 q ca av μ μ1 v) : wXi (wZa aE ad adK adV fo) l y (ws_ y cc nL ret) rm D cl sp sp1 q ca av μ μ1 v :=
  wXi_grow (Z0 := wZl aE) h0 (fun _ _ _ h => h.2) h
theorem wX_MKiW {aE : Nat} {ad adK adV : Nat → Nat} {fo : Option Nat} {l : Launch} {y : MethodName} {cc : ByteArray} {nL : Nat} {ret : Option FieldType} {rm : Room} {D : va_G} {cl : List vw_C} {sp : List wCell} {q : Nat → Nat} {ca : wCA} {av : List Value} {μ μ1 : wMem} {hh : List (Nat × Nat × Nat × Nat)} {sp1 : List wCell} {v : Int32} (h0 : 0 < sp.length) (h : wMKiW (wZL ad 12 wLen wByt adK adV fo) l y cc nL ret hh rm D cl sp sp1 q ca av μ μ1 v) : wXi (wZa aE ad adK adV fo) l y (wsW_ y cc nL ret hh) rm D cl sp sp1 q ca av μ μ1 v :=
  wXi_grow (Z0 := wZL ad 12 wLen wByt adK adV fo) h0 (fun _ _ _ h => h.1) h
theorem wX_MgW {aE : Nat} {ad adK adV : Nat → Nat} {fo : Option Nat} {l : Launch} {y : MethodName} {cc : ByteArray} {nL : Nat} {ret : Option FieldType} {rm : Room} {D : va_G} {cl : List vw_C} {sp : List wCell} {q : Nat → Nat} {ca : wCA} {av : List Value} {μ μ1 : wMem} {hh : List (Nat × Nat × Nat × Nat)} {sp1 : List wCell} {v : Int32} (h0 : 0 < sp.length) (h : wMgW l y cc nL ret hh rm D cl sp sp1 q ca av μ (v, μ1)) : wXi (wZa aE ad adK adV fo) l y (wsW_ y cc nL ret hh) rm D cl sp sp1 q ca av μ μ1 v :=
  wXi_grow (Z0 := wZt) h0 (fun _ _ _ _ => True.intro) (fun sz => MetFree.mono (h sz) (fun a U hP => ⟨hP.1, hP.2.1, hP.2.2.1, hP.2.2.2.1, hP.2.2.2.2.1, hP.2.2.2.2.2.1⟩) (fun _ _ _ _ _ h => h) (fun a U o t hP hQ => hQ))
