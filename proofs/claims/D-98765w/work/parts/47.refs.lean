set_option maxRecDepth 100000
/-- the code with the digit i set to d -/
def wPs : Nat → Nat → Nat → Nat
  | 0, x, d => x / 65536 * 65536 + d
  | i + 1, x, d => x % 65536 + 65536 * wPs i (x / 65536) d
theorem wPs_dig : ∀ (i j x d : Nat), d < 65536 → wPs i x d / 65536 ^ j % 65536 = if j = i then d else x / 65536 ^ j % 65536
  | 0, 0, x, d, hd => by simp only [wPs, Nat.pow_zero, Nat.div_one, if_true]; omega
  | 0, j + 1, x, d, hd => by
    rw [if_neg (Nat.succ_ne_zero j), Nat.pow_succ, Nat.mul_comm, ← Nat.div_div_eq_div_mul, ← Nat.div_div_eq_div_mul]
    have : wPs 0 x d / 65536 = x / 65536 := by simp only [wPs]; omega
    rw [this]
  | i + 1, 0, x, d, hd => by
    rw [if_neg (by omega)]
    simp only [wPs, Nat.pow_zero, Nat.div_one]
    omega
  | i + 1, j + 1, x, d, hd => by
    rw [Nat.pow_succ, Nat.mul_comm (65536 ^ j), ← Nat.div_div_eq_div_mul, ← Nat.div_div_eq_div_mul]
    have : wPs (i + 1) x d / 65536 = wPs i (x / 65536) d := by simp only [wPs]; omega
    rw [this, wPs_dig i j (x / 65536) d hd]
    simp only [Nat.add_right_cancel_iff]
/-- the kind of the array once its element i is the cell d - 1, or null where d is 0 -/
def wRs (t i d : Nat) : Nat := 5 + wPs i (t - 5) d
theorem wRs_gt {t i d : Nat} : 4 < wRs t i d := by unfold wRs; omega
theorem wRs_dig {t i d : Nat} (hi : i < 16) (hd : d < 65536) (j : Nat) : wRd (wRs t i d) j = if j = i then d else wRd t j := by
  unfold wRd wRs
  rw [Nat.add_sub_cancel_left]
  by_cases hj : j < 16
  · rw [if_pos hj, if_pos hj]; exact wPs_dig i j (t - 5) d hd
  · rw [if_neg hj, if_neg hj, if_neg (by omega)]
theorem wRa_set {q : Nat → Nat} {t t' i d : Nat} (h : ∀ j, wRd t' j = if j = i then d + 1 else wRd t j) : va_up (wRa q t) i (some (q d)) = wRa q t' := by
  funext j
  unfold va_up wRa
  rw [h j]
  by_cases hj : j = i
  · rw [if_pos hj, if_pos hj, if_neg (Nat.succ_ne_zero d), Nat.add_sub_cancel]
  · rw [if_neg hj, if_neg hj]
theorem wRa_setN {q : Nat → Nat} {t t' i : Nat} (h : ∀ j, wRd t' j = if j = i then 0 else wRd t j) : va_up (wRa q t) i none = wRa q t' := by
  funext j
  unfold va_up wRa
  rw [h j]
  by_cases hj : j = i
  · rw [if_pos hj, if_pos hj, if_pos rfl]
  · rw [if_neg hj, if_neg hj]
theorem wWs_setQ {q : Nat → Nat} {ca : wCA} {μ : wMem} {sp : List wCell} {c0 t t' n : Nat} (hs : sp[c0]? = some (.inr (t, n))) (h4 : 4 < t') (hc : ca.1 t' = ca.1 t) : (wWs sp q ca μ).set c0 (q c0, .inl (ca.1 t, n, .inr (.inr (.inr (.inr (wRa q t')))))) = wWs (sp.set c0 (.inr (t', n))) q ca μ := by
  apply List.ext_getElem?
  intro i
  have hl := (List.getElem?_eq_some_iff.mp hs).1
  rw [List.getElem?_set]
  simp only [wWs, List.getElem?_mapIdx, List.length_mapIdx, List.getElem?_set]
  by_cases hi : c0 = i
  · subst hi
    rw [if_pos rfl, if_pos hl, if_pos rfl, if_pos hl]
    have h1 : ¬ t' = 1 := by omega
    simp only [Option.map_some, wCv, hc, h1, h4, if_true, if_false]
  · rw [if_neg hi, if_neg hi]
/-- a reference to an object of the world, into an array of references to its class -/
theorem wr_aast {p : Program} {l : Launch} {e : Env} {R : Room} {s : State} {m : MethodId} {args : Array Value} {below : List Frame} {meth : Method} {c : Code} {cc : ByteArray} {own : String} {nL : Nat} {ret : Option FieldType} {D : va_G} {cl : List vw_C} {sp : List wCell} {q : Nat → Nat} {ca : wCA} {A : Nat → Prop} {Q : State → Prop} {kc ks : Nat} {μ : wMem} {lv : List (Nat × Value)} {st : List Value} {c0 t t' n x ci N : Nat} {fs : List (Nat × Nat)} {Cn E : String} {T : u_T} {i : Int32} (pc t0 : Nat) (sp1 : List wCell) (C : wC p R s m args meth c cc own nL ret D cl sp q ca A) (hd : decode cc pc = .ok (.aastore, 1)) (hs : sp[c0]? = some (.inr (t, n))) (h4 : 4 < t ∧ 4 < t') (hty : (wTy ca)[t0]? = some (ca.1 t, .object E)) (hx : sp[x]? = some (.inl (ci, fs))) (hc : cl[ci]? = some (Cn, T, N)) (hca : va_Nw (.castable Cn E) s) (hin : ok_in i n = true) (hdg : ∀ j, wRd t' j = if j = i.toNatClampNeg then x + 1 else wRd t j) (hct : ca.1 t' = ca.1 t) (hsp : sp1 = sp.set c0 (.inr (t', n))) (k : wC p R s m args meth c cc own nL ret D cl sp1 q ca A → wJ p l e R s m args below meth c nL D cl sp1 q ca A Q kc ks μ (pc + 1) lv st) : wJ p l e R s m args below meth c nL D cl sp q ca A Q kc ks μ pc lv (.ref (q x) :: .int i :: .ref (q c0) :: st) :=
  fun H locs ls h1 h2 h3 => va_astqO C.1 C.2.1 C.2.2.2.2.2.1 h1 (wWs_D C.2.2.2.2.2.2.2.2.1 C.2.2.2.2.2.2.2.2.2.1 μ) h2 c0 t0 x ci (wWs_getR hs h4.1) hty hca (wWs_get hx) hc (ok_in_vp hin) hd (fun H1 locs1 g1 g2 g3 => by
    have e : (wWs sp q ca μ).set c0 (q c0, .inl (ca.1 t, n, .inr (.inr (.inr (.inr (va_up (wRa q t) i.toNatClampNeg (some (q x)))))))) = wWs sp1 q ca μ := by
      rw [hsp, wRa_set hdg]
      exact wWs_setQ hs h4.2 hct
    rw [e] at g1 g2
    exact k (wC_new C g2) H1 locs1 ls g1 g3 h3)
/-- null into an array of references -/
theorem wr_aastN {p : Program} {l : Launch} {e : Env} {R : Room} {s : State} {m : MethodId} {args : Array Value} {below : List Frame} {meth : Method} {c : Code} {cc : ByteArray} {own : String} {nL : Nat} {ret : Option FieldType} {D : va_G} {cl : List vw_C} {sp : List wCell} {q : Nat → Nat} {ca : wCA} {A : Nat → Prop} {Q : State → Prop} {kc ks : Nat} {μ : wMem} {lv : List (Nat × Value)} {st : List Value} {c0 t t' n : Nat} {E : String} {i : Int32} (pc t0 : Nat) (sp1 : List wCell) (C : wC p R s m args meth c cc own nL ret D cl sp q ca A) (hd : decode cc pc = .ok (.aastore, 1)) (hs : sp[c0]? = some (.inr (t, n))) (h4 : 4 < t ∧ 4 < t') (hty : (wTy ca)[t0]? = some (ca.1 t, .object E)) (hin : ok_in i n = true) (hdg : ∀ j, wRd t' j = if j = i.toNatClampNeg then 0 else wRd t j) (hct : ca.1 t' = ca.1 t) (hsp : sp1 = sp.set c0 (.inr (t', n))) (k : wC p R s m args meth c cc own nL ret D cl sp1 q ca A → wJ p l e R s m args below meth c nL D cl sp1 q ca A Q kc ks μ (pc + 1) lv st) : wJ p l e R s m args below meth c nL D cl sp q ca A Q kc ks μ pc lv (.null :: .int i :: .ref (q c0) :: st) :=
  fun H locs ls h1 h2 h3 => va_astqN C.1 C.2.1 C.2.2.2.2.2.1 h1 (wWs_D C.2.2.2.2.2.2.2.2.1 C.2.2.2.2.2.2.2.2.2.1 μ) h2 c0 t0 (wWs_getR hs h4.1) hty (ok_in_vp hin) hd (fun H1 locs1 g1 g2 g3 => by
    have e : (wWs sp q ca μ).set c0 (q c0, .inl (ca.1 t, n, .inr (.inr (.inr (.inr (va_up (wRa q t) i.toNatClampNeg none)))))) = wWs sp1 q ca μ := by
      rw [hsp, wRa_setN hdg]
      exact wWs_setQ hs h4.2 hct
    rw [e] at g1 g2
    exact k (wC_new C g2) H1 locs1 ls g1 g3 h3)
