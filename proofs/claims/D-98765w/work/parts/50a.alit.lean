set_option maxRecDepth 100000
theorem wWs_setD {sp : List wCell} {q : Nat → Nat} {ca : wCA} {μ : wMem} {c0 : Nat} {d1 : wCell} (hl : c0 < sp.length) : (wWs sp q ca μ).set c0 (q c0, wCv q ca μ c0 d1) = wWs (sp.set c0 d1) q ca μ := by
  apply List.ext_getElem?
  intro i
  rw [List.getElem?_set]
  simp only [wWs, List.getElem?_mapIdx, List.length_mapIdx, List.getElem?_set]
  by_cases hi : c0 = i
  · subst hi
    rw [if_pos rfl, if_pos hl, if_pos rfl, if_pos hl]
    rfl
  · rw [if_neg hi, if_neg hi]
theorem wFs_getA {q : Nat → Nat} {μ : wMem} {c j a x : Nat} {fs : List (Nat × Nat)} (h : fs[j]? = some (a + 4, x)) : (wFs q μ c fs)[j]? = some (.ref a) := by
  simp [wFs, List.getElem?_mapIdx, h, wFv]
theorem wFs_setA {q : Nat → Nat} {μ : wMem} {c j a : Nat} {fs : List (Nat × Nat)} : (wFs q μ c fs).set j (.ref a) = wFs q μ c (fs.set j (a + 4, 0)) := by
  apply List.ext_getElem?
  intro i
  rw [List.getElem?_set]
  simp only [wFs, List.getElem?_mapIdx, List.length_mapIdx, List.getElem?_set]
  by_cases hi : j = i
  · subst hi
    rw [if_pos rfl, if_pos rfl]
    by_cases hl : j < fs.length
    · rw [if_pos hl, if_pos hl]; rfl
    · rw [if_neg hl, if_neg hl]; rfl
  · rw [if_neg hi, if_neg hi]
/-- a field that holds an old object -/
theorem wr_getA {p : Program} {l : Launch} {e : Env} {R : Room} {s : State} {m : MethodId} {args : Array Value} {below : List Frame} {meth : Method} {c : Code} {cc : ByteArray} {own : String} {nL : Nat} {ret : Option FieldType} {D : va_G} {cl : List vw_C} {sp : List wCell} {q : Nat → Nat} {ca : wCA} {A : Nat → Prop} {Q : State → Prop} {kc ks : Nat} {μ : wMem} {lv : List (Nat × Value)} {st : List Value} {c0 ci N x ix a : Nat} {Cn : String} {T : u_T} {fs : List (Nat × Nat)} (pc j : Nat) (C : wC p R s m args meth c cc own nL ret D cl sp q ca A) (hd : decode cc pc = .ok (.getfield ix, 3)) (hs : sp[c0]? = some (.inl (ci, fs))) (hc : cl[ci]? = some (Cn, T, N)) (hin : ∀ w ∈ u_ws Cn T N, w ∈ lw_all) (hj : j < N) (hf : fs[j]? = some (a + 4, x)) (hl : Cond.fieldLink own ix (T j).1 (T j).2.1 (T j).2.2.1 ∈ lw_all) (k : wJ p l e R s m args below meth c nL D cl sp q ca A Q kc ks μ (pc + 3) lv (.ref a :: st)) : wJ p l e R s m args below meth c nL D cl sp q ca A Q kc ks μ pc lv (.ref (q c0) :: st) :=
  fun H locs ls h1 h2 h3 => va_get C.1 C.2.1 C.2.2.2.2.1 hin C.2.2.2.1 C.2.2.2.2.2.1 h1 c0 (wWs_get hs) hc j hj (C.2.2.2.2.1 _ hl) (fun _ h9 => h9) (wFs_getA hf) hd (k H locs ls h1 h2 h3)
theorem wr_putA {p : Program} {l : Launch} {e : Env} {R : Room} {s : State} {m : MethodId} {args : Array Value} {below : List Frame} {meth : Method} {c : Code} {cc : ByteArray} {own : String} {nL : Nat} {ret : Option FieldType} {D : va_G} {cl : List vw_C} {sp : List wCell} {q : Nat → Nat} {ca : wCA} {A : Nat → Prop} {Q : State → Prop} {kc ks : Nat} {μ : wMem} {lv : List (Nat × Value)} {st : List Value} {c0 ci N ix a : Nat} {Cn : String} {T : u_T} {fs : List (Nat × Nat)} (pc j : Nat) (sp1 : List wCell) (C : wC p R s m args meth c cc own nL ret D cl sp q ca A) (hd : decode cc pc = .ok (.putfield ix, 3)) (hs : sp[c0]? = some (.inl (ci, fs))) (hc : cl[ci]? = some (Cn, T, N)) (hin : ∀ w ∈ u_ws Cn T N, w ∈ lw_all) (ty0 : Nat → FieldType) (hty : ∀ k, k < N → parseFieldDescriptor (T k).2.2.1 = some (ty0 k)) (hnm : ∀ a, a < N → ∀ b, b < N → a ≠ b → (T a).2.1 ≠ (T b).2.1) (hj : j < N) (hjl : j < fs.length) (hl : Cond.fieldLink own ix (T j).1 (T j).2.1 (T j).2.2.1 ∈ lw_all) (hfin : (T j).2.2.2 = false) (hnar : ∀ a : Nat, narrow (ty0 j) (.ref a) = .ref a) (hfit : ∀ a : Nat, fits (ty0 j) (.ref a) = true) (hsp : sp1 = sp.set c0 (.inl (ci, fs.set j (a + 4, 0)))) (k : wC p R s m args meth c cc own nL ret D cl sp1 q ca A → wJ p l e R s m args below meth c nL D cl sp1 q ca A Q kc ks μ (pc + 3) lv st) : wJ p l e R s m args below meth c nL D cl sp q ca A Q kc ks μ pc lv (.ref a :: .ref (q c0) :: st) :=
  fun H locs ls h1 h2 h3 => va_put (ty := ty0 j) C.1 C.2.1 C.2.2.2.2.1 hin ty0 hty hnm C.2.2.2.1 C.2.2.2.2.2.1 h1 (wWs_D C.2.2.2.2.2.2.2.2.1 C.2.2.2.2.2.2.2.2.2.1 μ) h2 c0 (wWs_get hs) hc j hj (C.2.2.2.2.1 _ hl) (fun _ h9 => h9) hfin (hty j hj) (hnar _) (hfit _) (by simpa [wFs] using hjl) hd (fun H1 locs1 g1 g2 g3 => by
    have e : (wWs sp q ca μ).set c0 (q c0, .inr (ci, (wFs q μ c0 fs).set j (.ref a))) = wWs sp1 q ca μ := by
      rw [hsp, wFs_setA]
      exact wWs_setD (d1 := Sum.inl (ci, fs.set j (a + 4, 0))) (List.getElem?_eq_some_iff.mp hs).1
    rw [e] at g1 g2
    exact k (wC_new C g2) H1 locs1 ls g1 g3 h3)
/-- a static that holds an old object -/
theorem wr_getsA {p : Program} {l : Launch} {e : Env} {R : Room} {s : State} {m : MethodId} {args : Array Value} {below : List Frame} {meth : Method} {c : Code} {cc : ByteArray} {own : String} {nL : Nat} {ret : Option FieldType} {D : va_G} {cl : List vw_C} {sp : List wCell} {q : Nat → Nat} {ca : wCA} {A : Nat → Prop} {Q : State → Prop} {kc ks : Nat} {μ : wMem} {lv : List (Nat × Value)} {st : List Value} {a ix : Nat} {Cn n0 d0 : String} (pc : Nat) (C : wC p R s m args meth c cc own nL ret D cl sp q ca A) (hd : decode cc pc = .ok (.getstatic ix, 3)) (hZ : va_Z Cn n0 d0 (.ref a) A s s.heap) (hl : Cond.fieldLink own ix Cn n0 d0 ∈ lw_all) (k : wJ p l e R s m args below meth c nL D cl sp q ca A Q kc ks μ (pc + 3) lv (.ref a :: st)) : wJ p l e R s m args below meth c nL D cl sp q ca A Q kc ks μ pc lv st :=
  fun H locs ls h1 h2 h3 => va_gets C.1 C.2.1 hZ h2 C.2.2.2.1 (C.2.2.2.2.1 _ hl) (fun _ h9 => h9) hd (k H locs ls h1 h2 h3)
theorem wr_getsV {p : Program} {l : Launch} {e : Env} {R : Room} {s : State} {m : MethodId} {args : Array Value} {below : List Frame} {meth : Method} {c : Code} {cc : ByteArray} {own : String} {nL : Nat} {ret : Option FieldType} {D : va_G} {cl : List vw_C} {sp : List wCell} {q : Nat → Nat} {ca : wCA} {A : Nat → Prop} {Q : State → Prop} {kc ks : Nat} {μ : wMem} {lv : List (Nat × Value)} {st : List Value} {v : Value} {ix : Nat} {Cn n0 d0 : String} (pc : Nat) (C : wC p R s m args meth c cc own nL ret D cl sp q ca A) (hd : decode cc pc = .ok (.getstatic ix, 3)) (hZ : va_Z Cn n0 d0 v A s s.heap) (hl : Cond.fieldLink own ix Cn n0 d0 ∈ lw_all) (k : wJ p l e R s m args below meth c nL D cl sp q ca A Q kc ks μ (pc + 3) lv (v :: st)) : wJ p l e R s m args below meth c nL D cl sp q ca A Q kc ks μ pc lv st :=
  fun H locs ls h1 h2 h3 => va_gets C.1 C.2.1 hZ h2 C.2.2.2.1 (C.2.2.2.2.1 _ hl) (fun _ h9 => h9) hd (k H locs ls h1 h2 h3)
theorem wr_lenO {p : Program} {l : Launch} {e : Env} {R : Room} {s : State} {m : MethodId} {args : Array Value} {below : List Frame} {meth : Method} {c : Code} {cc : ByteArray} {own : String} {nL : Nat} {ret : Option FieldType} {D : va_G} {cl : List vw_C} {sp : List wCell} {q : Nat → Nat} {ca : wCA} {A : Nat → Prop} {Q : State → Prop} {kc ks : Nat} {μ : wMem} {lv : List (Nat × Value)} {st : List Value} {a n : Nat} {ty : FieldType} {f : Nat → Value} (pc : Nat) (C : wC p R s m args meth c cc own nL ret D cl sp q ca A) (hd : decode cc pc = .ok (.arraylength, 1)) (hT : va_T ty a n f A s s.heap) (k : wJ p l e R s m args below meth c nL D cl sp q ca A Q kc ks μ (pc + 1) lv (.int (Int32.ofNat n) :: st)) : wJ p l e R s m args below meth c nL D cl sp q ca A Q kc ks μ pc lv (.ref a :: st) :=
  fun H locs ls h1 h2 h3 => va_tlen C.1 C.2.1 hT h2 rfl hd (k H locs ls h1 h2 h3)
