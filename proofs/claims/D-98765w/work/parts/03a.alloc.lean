/-- no field of the description refers to the cell n -/
def wNoRef (sp : List wCell) (n : Nat) : Bool := sp.all fun d => match d with
  | .inl o => o.2.all (fun f => !(f.1 == 2 && f.2 == n))
  | .inr a => !(decide (4 < a.1) && !wRno a.1 n)
theorem wRno_at {t n : Nat} (h : wRno t n = true) (i : Nat) : wRd t i ≠ n + 1 := by
  by_cases hi : i < 16
  · have := List.all_eq_true.mp h i (List.mem_range.mpr hi)
    simpa using this
  · unfold wRd
    rw [if_neg hi]
    omega
theorem wRa_q {q q1 : Nat → Nat} {n t : Nat} (hno : (!(decide (4 < t) && !wRno t n)) = true) (hq : ∀ j, j ≠ n → q1 j = q j) (h4 : 4 < t) : wRa q1 t = wRa q t := by
  have hr : wRno t n = true := by
    simp only [h4, decide_true, Bool.true_and, Bool.not_not] at hno
    exact hno
  funext i
  unfold wRa
  split
  · rfl
  · rename_i hi
    rw [hq]
    have := wRno_at hr i
    omega
theorem wFs_q {q q1 : Nat → Nat} {μ μ1 : wMem} {c n : Nat} {fs : List (Nat × Nat)} (hno : fs.all (fun f => !(f.1 == 2 && f.2 == n)) = true) (hq : ∀ j, j ≠ n → q1 j = q j) (h1 : μ1.1 c = μ.1 c) (h2 : μ1.2 c = μ.2 c) : wFs q1 μ1 c fs = wFs q μ c fs := by
  apply List.ext_getElem?
  intro k
  simp only [wFs, List.getElem?_mapIdx]
  cases hf : fs[k]? with
  | none => rfl
  | some f =>
    have hm := List.all_eq_true.mp hno f (List.mem_of_getElem? hf)
    simp only [Option.map_some, Option.some.injEq]
    unfold wFv
    split
    · rw [h1]
    · rw [h2]
    · rename_i h
      have : f.2 ≠ n := by
        intro e
        rw [h, e] at hm
        simp at hm
      rw [hq _ this]
    · rfl
    · rfl
theorem wWs_snoc {sp : List wCell} {q q1 : Nat → Nat} {ca : wCA} {μ μ1 : wMem} {d : wCell} (hno : wNoRef sp sp.length = true) (hq : ∀ j, j ≠ sp.length → q1 j = q j) (h1 : ∀ c, c ≠ sp.length → μ1.1 c = μ.1 c) (h2 : ∀ c, c ≠ sp.length → μ1.2 c = μ.2 c) : wWs (sp ++ [d]) q1 ca μ1 = wWs sp q ca μ ++ [(q1 sp.length, wCv q1 ca μ1 sp.length d)] := by
  unfold wWs
  rw [List.mapIdx_append]
  congr 1
  · apply List.ext_getElem?
    intro k
    simp only [List.getElem?_mapIdx]
    cases hk : sp[k]? with
    | none => rfl
    | some x =>
      have hl : k ≠ sp.length := Nat.ne_of_lt (List.getElem?_eq_some_iff.mp hk).1
      have hm := List.all_eq_true.mp hno x (List.mem_of_getElem? hk)
      simp only [Option.map_some, Option.some.injEq]
      rw [hq k hl]
      cases x with
      | inl o => simp only [wCv]; rw [wFs_q hm hq (h1 k hl) (h2 k hl)]
      | inr a =>
        simp only [wCv]; rw [h1 k hl, h2 k hl]
        by_cases h4 : 4 < a.1
        · rw [wRa_q hm hq h4]
        · simp only [h4, if_false]
  · simp
theorem wD_inj {sp : List wCell} {q : Nat → Nat} {ca : wCA} {μ : wMem} {A : Nat → Prop} (h : va_D A (wWs sp q ca μ)) : wInj sp q ∧ ∀ i, i < sp.length → A (q i) := by
  refine ⟨fun i j hi hj e => h.1 i j _ _ (wWs_get (List.getElem?_eq_getElem hi)) (wWs_get (List.getElem?_eq_getElem hj)) e, fun i hi => h.2 i _ (wWs_get (List.getElem?_eq_getElem hi))⟩
/-- the memory with a new cell, all zero -/
def wZ (μ : wMem) (n : Nat) : wMem := (va_up μ.1 n (fun _ => 0), va_up μ.2 n (fun _ => 0))
theorem wZ_1 {μ : wMem} {n c : Nat} (h : c ≠ n) : (wZ μ n).1 c = μ.1 c := by simp [wZ, va_up, h]
theorem wZ_2 {μ : wMem} {n c : Nat} (h : c ≠ n) : (wZ μ n).2 c = μ.2 c := by simp [wZ, va_up, h]
/-- the addresses with a new one -/
def wQ1 (q : Nat → Nat) (n a : Nat) : Nat → Nat := fun j => if j = n then a else q j
theorem wQ1_ne {q : Nat → Nat} {n a j : Nat} (h : j ≠ n) : wQ1 q n a j = q j := by simp [wQ1, h]
theorem wQ1_eq {q : Nat → Nat} {n a : Nat} : wQ1 q n a n = a := by simp [wQ1]
section WA
variable {p : Program} {l : Launch} {e : Env} {R : Room} {s : State} {m : MethodId} {args : Array Value} {below : List Frame} {meth : Method} {c : Code} {cc : ByteArray} {own : String} {nL : Nat} {ret : Option FieldType} {D : va_G} {cl : List vw_C} {sp : List wCell} {q : Nat → Nat} {ca : wCA} {A : Nat → Prop} {Q : State → Prop} {kc ks : Nat} {μ : wMem} {lv : List (Nat × Value)} {st rest : List Value}
theorem wC_new {sp1 : List wCell} {q1 : Nat → Nat} (C : wC p R s m args meth c cc own nL ret D cl sp q ca A) (h : va_D A (wWs sp1 q1 ca μ)) : wC p R s m args meth c cc own nL ret D cl sp1 q1 ca A := by
  obtain ⟨a1, a2, a3, a4, a5, a6, a7, a8, a9, a10, a11, a12⟩ := C
  exact ⟨a1, a2, a3, a4, a5, a6, a7, a8, (wD_inj h).1, (wD_inj h).2, a11, a12⟩
theorem wr_new_int {n : Int32} {N kc1 ks1 : Nat} (pc : Nat) (C : wC p R s m args meth c cc own nL ret D cl sp q ca A) (hd : decode cc pc = .ok (.newarray .int, 2)) (harr : Cond.arrayClass .int ∈ lw_all) (hn : ¬ n < 0) (hN : n.toNatClampNeg = N) (hb : N * componentBytes .int ≤ 536870912) (hk1 : kc + 1 = kc1) (hk2 : ks + N = ks1) (hR : kc1 ≤ R.cells ∧ ks1 ≤ R.slots) (n0 : Nat) (h0 : sp.length = n0) (hno : wNoRef sp n0 = true) {μ1 : wMem} (hμ : μ1 = wZ μ n0) (sp1 : List wCell) (hsp : sp1 = (sp ++ [.inr (0, N)])) (k : ∀ q1 : Nat → Nat, (∀ j, j ≠ n0 → q1 j = q j) → wC p R s m args meth c cc own nL ret D cl sp1 q1 ca A → wJ p l e R s m args below meth c nL D cl sp1 q1 ca A Q kc1 ks1 μ1 (pc + 2) lv (.ref (q1 n0) :: st)) : wJ p l e R s m args below meth c nL D cl sp q ca A Q kc ks μ pc lv (.int n :: st) := by
  intro H locs ls h1 h2 h3
  subst hk1; subst hk2; subst h0; subst hμ; subst hsp
  refine va_newa (atype := .int) (a0 := (N, .inl (fun _ => 0))) C.1 C.2.1 (C.2.2.2.2.1 _ harr) (ty := .int) rfl C.2.2.2.2.2.1 h1 (wWs_D C.2.2.2.2.2.2.2.2.1 C.2.2.2.2.2.2.2.2.2.1 μ) h2 C.2.2.2.2.2.2.2.2.2.2.1 (fun cA => rfl) hn hN hb hR.1 hR.2 hd (fun a cA H1 g0 g1 g2 g3 => ?_)
  have e1 : cA = ca.1 0 := Option.some.inj (((g0.2 (wTy ca).length (cA, .int) (by simp)).2).symm.trans (C.2.2.2.2.2.1.2 0 (ca.1 0, .int) rfl).2)
  subst e1
  have hw : wWs sp q ca μ ++ [(a, .inl (ca.1 0, (N, .inl (fun _ => 0))))] = wWs (sp ++ [.inr (0, N)]) (wQ1 q sp.length a) ca (wZ μ sp.length) := by
    rw [wWs_snoc hno (fun j h => wQ1_ne h) (fun c h => wZ_1 h) (fun c h => wZ_2 h), wQ1_eq]
    simp [wCv, wZ, va_up]
  rw [hw] at g1 g2
  have h := k (wQ1 q sp.length a) (fun j h => wQ1_ne h) (wC_new C g2) H1 locs ls g1 g3 h3
  rw [wQ1_eq] at h
  exact h
theorem wr_new_long {n : Int32} {N kc1 ks1 : Nat} (pc : Nat) (C : wC p R s m args meth c cc own nL ret D cl sp q ca A) (hd : decode cc pc = .ok (.newarray .long, 2)) (harr : Cond.arrayClass .long ∈ lw_all) (hn : ¬ n < 0) (hN : n.toNatClampNeg = N) (hb : N * componentBytes .long ≤ 536870912) (hk1 : kc + 1 = kc1) (hk2 : ks + N = ks1) (hR : kc1 ≤ R.cells ∧ ks1 ≤ R.slots) (n0 : Nat) (h0 : sp.length = n0) (hno : wNoRef sp n0 = true) {μ1 : wMem} (hμ : μ1 = wZ μ n0) (sp1 : List wCell) (hsp : sp1 = (sp ++ [.inr (1, N)])) (k : ∀ q1 : Nat → Nat, (∀ j, j ≠ n0 → q1 j = q j) → wC p R s m args meth c cc own nL ret D cl sp1 q1 ca A → wJ p l e R s m args below meth c nL D cl sp1 q1 ca A Q kc1 ks1 μ1 (pc + 2) lv (.ref (q1 n0) :: st)) : wJ p l e R s m args below meth c nL D cl sp q ca A Q kc ks μ pc lv (.int n :: st) := by
  intro H locs ls h1 h2 h3
  subst hk1; subst hk2; subst h0; subst hμ; subst hsp
  refine va_newa (atype := .long) (a0 := (N, .inr (.inl (fun _ => 0)))) C.1 C.2.1 (C.2.2.2.2.1 _ harr) (ty := .long) rfl C.2.2.2.2.2.1 h1 (wWs_D C.2.2.2.2.2.2.2.2.1 C.2.2.2.2.2.2.2.2.2.1 μ) h2 C.2.2.2.2.2.2.2.2.2.2.1 (fun cA => rfl) hn hN hb hR.1 hR.2 hd (fun a cA H1 g0 g1 g2 g3 => ?_)
  have e1 : cA = ca.1 1 := Option.some.inj (((g0.2 (wTy ca).length (cA, .long) (by simp)).2).symm.trans (C.2.2.2.2.2.1.2 1 (ca.1 1, .long) rfl).2)
  subst e1
  have hw : wWs sp q ca μ ++ [(a, .inl (ca.1 1, (N, .inr (.inl (fun _ => 0)))))] = wWs (sp ++ [.inr (1, N)]) (wQ1 q sp.length a) ca (wZ μ sp.length) := by
    rw [wWs_snoc hno (fun j h => wQ1_ne h) (fun c h => wZ_1 h) (fun c h => wZ_2 h), wQ1_eq]
    simp [wCv, wZ, va_up]
  rw [hw] at g1 g2
  have h := k (wQ1 q sp.length a) (fun j h => wQ1_ne h) (wC_new C g2) H1 locs ls g1 g3 h3
  rw [wQ1_eq] at h
  exact h
theorem wr_new_byte {n : Int32} {N kc1 ks1 : Nat} (pc : Nat) (C : wC p R s m args meth c cc own nL ret D cl sp q ca A) (hd : decode cc pc = .ok (.newarray .byte, 2)) (harr : Cond.arrayClass .byte ∈ lw_all) (hn : ¬ n < 0) (hN : n.toNatClampNeg = N) (hb : N * componentBytes .byte ≤ 536870912) (hk1 : kc + 1 = kc1) (hk2 : ks + N = ks1) (hR : kc1 ≤ R.cells ∧ ks1 ≤ R.slots) (n0 : Nat) (h0 : sp.length = n0) (hno : wNoRef sp n0 = true) {μ1 : wMem} (hμ : μ1 = wZ μ n0) (sp1 : List wCell) (hsp : sp1 = (sp ++ [.inr (2, N)])) (k : ∀ q1 : Nat → Nat, (∀ j, j ≠ n0 → q1 j = q j) → wC p R s m args meth c cc own nL ret D cl sp1 q1 ca A → wJ p l e R s m args below meth c nL D cl sp1 q1 ca A Q kc1 ks1 μ1 (pc + 2) lv (.ref (q1 n0) :: st)) : wJ p l e R s m args below meth c nL D cl sp q ca A Q kc ks μ pc lv (.int n :: st) := by
  intro H locs ls h1 h2 h3
  subst hk1; subst hk2; subst h0; subst hμ; subst hsp
  refine va_newa (atype := .byte) (a0 := (N, .inl (fun _ => 0))) C.1 C.2.1 (C.2.2.2.2.1 _ harr) (ty := .byte) rfl C.2.2.2.2.2.1 h1 (wWs_D C.2.2.2.2.2.2.2.2.1 C.2.2.2.2.2.2.2.2.2.1 μ) h2 C.2.2.2.2.2.2.2.2.2.2.1 (fun cA => rfl) hn hN hb hR.1 hR.2 hd (fun a cA H1 g0 g1 g2 g3 => ?_)
  have e1 : cA = ca.1 2 := Option.some.inj (((g0.2 (wTy ca).length (cA, .byte) (by simp)).2).symm.trans (C.2.2.2.2.2.1.2 2 (ca.1 2, .byte) rfl).2)
  subst e1
  have hw : wWs sp q ca μ ++ [(a, .inl (ca.1 2, (N, .inl (fun _ => 0))))] = wWs (sp ++ [.inr (2, N)]) (wQ1 q sp.length a) ca (wZ μ sp.length) := by
    rw [wWs_snoc hno (fun j h => wQ1_ne h) (fun c h => wZ_1 h) (fun c h => wZ_2 h), wQ1_eq]
    simp [wCv, wZ, va_up]
  rw [hw] at g1 g2
  have h := k (wQ1 q sp.length a) (fun j h => wQ1_ne h) (wC_new C g2) H1 locs ls g1 g3 h3
  rw [wQ1_eq] at h
  exact h
theorem wr_new_boolean {n : Int32} {N kc1 ks1 : Nat} (pc : Nat) (C : wC p R s m args meth c cc own nL ret D cl sp q ca A) (hd : decode cc pc = .ok (.newarray .boolean, 2)) (harr : Cond.arrayClass .boolean ∈ lw_all) (hn : ¬ n < 0) (hN : n.toNatClampNeg = N) (hb : N * componentBytes .boolean ≤ 536870912) (hk1 : kc + 1 = kc1) (hk2 : ks + N = ks1) (hR : kc1 ≤ R.cells ∧ ks1 ≤ R.slots) (n0 : Nat) (h0 : sp.length = n0) (hno : wNoRef sp n0 = true) {μ1 : wMem} (hμ : μ1 = wZ μ n0) (sp1 : List wCell) (hsp : sp1 = (sp ++ [.inr (3, N)])) (k : ∀ q1 : Nat → Nat, (∀ j, j ≠ n0 → q1 j = q j) → wC p R s m args meth c cc own nL ret D cl sp1 q1 ca A → wJ p l e R s m args below meth c nL D cl sp1 q1 ca A Q kc1 ks1 μ1 (pc + 2) lv (.ref (q1 n0) :: st)) : wJ p l e R s m args below meth c nL D cl sp q ca A Q kc ks μ pc lv (.int n :: st) := by
  intro H locs ls h1 h2 h3
  subst hk1; subst hk2; subst h0; subst hμ; subst hsp
  refine va_newa (atype := .boolean) (a0 := (N, .inl (fun _ => 0))) C.1 C.2.1 (C.2.2.2.2.1 _ harr) (ty := .boolean) rfl C.2.2.2.2.2.1 h1 (wWs_D C.2.2.2.2.2.2.2.2.1 C.2.2.2.2.2.2.2.2.2.1 μ) h2 C.2.2.2.2.2.2.2.2.2.2.1 (fun cA => rfl) hn hN hb hR.1 hR.2 hd (fun a cA H1 g0 g1 g2 g3 => ?_)
  have e1 : cA = ca.1 3 := Option.some.inj (((g0.2 (wTy ca).length (cA, .boolean) (by simp)).2).symm.trans (C.2.2.2.2.2.1.2 3 (ca.1 3, .boolean) rfl).2)
  subst e1
  have hw : wWs sp q ca μ ++ [(a, .inl (ca.1 3, (N, .inl (fun _ => 0))))] = wWs (sp ++ [.inr (3, N)]) (wQ1 q sp.length a) ca (wZ μ sp.length) := by
    rw [wWs_snoc hno (fun j h => wQ1_ne h) (fun c h => wZ_1 h) (fun c h => wZ_2 h), wQ1_eq]
    simp [wCv, wZ, va_up]
  rw [hw] at g1 g2
  have h := k (wQ1 q sp.length a) (fun j h => wQ1_ne h) (wC_new C g2) H1 locs ls g1 g3 h3
  rw [wQ1_eq] at h
  exact h
theorem wr_new_short {n : Int32} {N kc1 ks1 : Nat} (pc : Nat) (C : wC p R s m args meth c cc own nL ret D cl sp q ca A) (hd : decode cc pc = .ok (.newarray .short, 2)) (harr : Cond.arrayClass .short ∈ lw_all) (hn : ¬ n < 0) (hN : n.toNatClampNeg = N) (hb : N * componentBytes .short ≤ 536870912) (hk1 : kc + 1 = kc1) (hk2 : ks + N = ks1) (hR : kc1 ≤ R.cells ∧ ks1 ≤ R.slots) (n0 : Nat) (h0 : sp.length = n0) (hno : wNoRef sp n0 = true) {μ1 : wMem} (hμ : μ1 = wZ μ n0) (sp1 : List wCell) (hsp : sp1 = (sp ++ [.inr (4, N)])) (k : ∀ q1 : Nat → Nat, (∀ j, j ≠ n0 → q1 j = q j) → wC p R s m args meth c cc own nL ret D cl sp1 q1 ca A → wJ p l e R s m args below meth c nL D cl sp1 q1 ca A Q kc1 ks1 μ1 (pc + 2) lv (.ref (q1 n0) :: st)) : wJ p l e R s m args below meth c nL D cl sp q ca A Q kc ks μ pc lv (.int n :: st) := by
  intro H locs ls h1 h2 h3
  subst hk1; subst hk2; subst h0; subst hμ; subst hsp
  refine va_newa (atype := .short) (a0 := (N, .inl (fun _ => 0))) C.1 C.2.1 (C.2.2.2.2.1 _ harr) (ty := .short) rfl C.2.2.2.2.2.1 h1 (wWs_D C.2.2.2.2.2.2.2.2.1 C.2.2.2.2.2.2.2.2.2.1 μ) h2 C.2.2.2.2.2.2.2.2.2.2.1 (fun cA => rfl) hn hN hb hR.1 hR.2 hd (fun a cA H1 g0 g1 g2 g3 => ?_)
  have e1 : cA = ca.1 4 := Option.some.inj (((g0.2 (wTy ca).length (cA, .short) (by simp)).2).symm.trans (C.2.2.2.2.2.1.2 4 (ca.1 4, .short) rfl).2)
  subst e1
  have hw : wWs sp q ca μ ++ [(a, .inl (ca.1 4, (N, .inl (fun _ => 0))))] = wWs (sp ++ [.inr (4, N)]) (wQ1 q sp.length a) ca (wZ μ sp.length) := by
    rw [wWs_snoc hno (fun j h => wQ1_ne h) (fun c h => wZ_1 h) (fun c h => wZ_2 h), wQ1_eq]
    simp [wCv, wZ, va_up]
  rw [hw] at g1 g2
  have h := k (wQ1 q sp.length a) (fun j h => wQ1_ne h) (wC_new C g2) H1 locs ls g1 g3 h3
  rw [wQ1_eq] at h
  exact h
/-- a fresh field's code for its type -/
def wDf (ty : FieldType) (code : Nat) : Bool := match ty with
  | .int => code == 0
  | .boolean => code == 0
  | .long => code == 1
  | .object _ => code == 3
  | .array _ => code == 3
  | _ => false
theorem wDf_ok {ty : FieldType} {code n j x : Nat} {q : Nat → Nat} {μ : wMem} (h : wDf ty code = true) : defaultValue ty = wFv q (wZ μ n) n j (code, x) := by
  cases ty <;> simp only [wDf, beq_iff_eq, Bool.false_eq_true] at h <;> subst h <;> simp only [wFv, wZ, va_up, if_true] <;> rfl
theorem wFs_new {N n : Nat} {ty0 : Nat → FieldType} {fs : List (Nat × Nat)} {q : Nat → Nat} {μ : wMem} (h : ∀ j, j < N → wDf (ty0 j) (fs.getD j (9, 0)).1 = true) : ∀ j, j < N → defaultValue (ty0 j) = vp_V (wFs q (wZ μ n) n fs) j := by
  intro j hj
  have h1 := h j hj
  unfold vp_V wFs
  rw [List.getD_eq_getElem?_getD, List.getElem?_mapIdx]
  rw [List.getD_eq_getElem?_getD] at h1
  cases hf : fs[j]? with
  | none =>
    rw [hf] at h1
    exfalso
    revert h1
    cases ty0 j <;> simp [wDf]
  | some f =>
    rw [hf] at h1
    exact wDf_ok (x := f.2) h1
theorem wr_newO {fs : List (Nat × Nat)} {ci N kc1 ks1 ix : Nat} {Cn : String} {T : u_T} (pc : Nat) (C : wC p R s m args meth c cc own nL ret D cl sp q ca A) (hd : decode cc pc = .ok (.new ix, 3)) (hin : ∀ w ∈ u_ws Cn T N, w ∈ lw_all) (ty0 : Nat → FieldType) (hty : ∀ k, k < N → parseFieldDescriptor (T k).2.2.1 = some (ty0 k)) (hcl : Cond.classLink own ix Cn ∈ lw_all) (hinst : Cond.instantiable Cn N ∈ lw_all) (hini : Cond.initialized Cn ∈ lw_all) (hc : cl[ci]? = some (Cn, T, N)) (hfd : ∀ j, j < N → wDf (ty0 j) (fs.getD j (9, 0)).1 = true) (hk1 : kc + 1 = kc1) (hk2 : ks + N = ks1) (hR : kc1 ≤ R.cells ∧ ks1 ≤ R.slots) (n0 : Nat) (h0 : sp.length = n0) (hno : wNoRef sp n0 = true) (hnr0 : fs.all (fun f => !(f.1 == 2 && f.2 == n0)) = true) {μ1 : wMem} (hμ : μ1 = wZ μ n0) (sp1 : List wCell) (hsp : sp1 = sp ++ [.inl (ci, fs)]) (k : ∀ q1 : Nat → Nat, (∀ j, j ≠ n0 → q1 j = q j) → wC p R s m args meth c cc own nL ret D cl sp1 q1 ca A → wJ p l e R s m args below meth c nL D cl sp1 q1 ca A Q kc1 ks1 μ1 (pc + 3) lv (.ref (q1 n0) :: st)) : wJ p l e R s m args below meth c nL D cl sp q ca A Q kc ks μ pc lv st := by
  intro H locs ls h1 h2 h3
  subst hk1; subst hk2; subst h0; subst hμ; subst hsp
  refine va_new (ci := ci) (fs := wFs q (wZ μ sp.length) sp.length fs) C.1 C.2.1 C.2.2.2.2.1 hin ty0 hty C.2.2.2.1 (C.2.2.2.2.1 _ hcl) (C.2.2.2.2.1 _ hinst) (C.2.2.2.2.1 _ hini) C.2.2.2.2.2.1 h1 (wWs_D C.2.2.2.2.2.2.2.2.1 C.2.2.2.2.2.2.2.2.2.1 μ) h2 C.2.2.2.2.2.2.2.2.2.2.1 hc (wFs_new hfd) hR.1 hR.2 hd (fun a H1 g1 g2 g3 => ?_)
  have hnr : wFs q (wZ μ sp.length) sp.length fs = wFs (wQ1 q sp.length a) (wZ μ sp.length) sp.length fs := by
    exact (wFs_q hnr0 (fun j h => wQ1_ne h) rfl rfl).symm
  have hw : wWs sp q ca μ ++ [(a, .inr (ci, wFs q (wZ μ sp.length) sp.length fs))] = wWs (sp ++ [.inl (ci, fs)]) (wQ1 q sp.length a) ca (wZ μ sp.length) := by
    rw [wWs_snoc hno (fun j h => wQ1_ne h) (fun c h => wZ_1 h) (fun c h => wZ_2 h), wQ1_eq, hnr]
    rfl
  rw [hw] at g1 g2
  have h := k (wQ1 q sp.length a) (fun j h => wQ1_ne h) (wC_new C g2) H1 locs ls g1 g3 h3
  rw [wQ1_eq] at h
  exact h
theorem wWs_setR {sp : List wCell} {c0 ci k j x : Nat} {fs : List (Nat × Nat)} (hs : sp[c0]? = some (.inl (ci, fs))) (hk : k < fs.length) : (wWs sp q ca μ).set c0 (q c0, .inr (ci, (wFs q μ c0 fs).set k (.ref (q j)))) = wWs (sp.set c0 (.inl (ci, fs.set k (2, j)))) q ca μ := by
  apply List.ext_getElem?
  intro i
  have hl := (List.getElem?_eq_some_iff.mp hs).1
  rw [List.getElem?_set]
  simp only [wWs, List.getElem?_mapIdx, List.length_mapIdx, List.getElem?_set]
  by_cases hi : c0 = i
  · subst hi
    rw [if_pos rfl, if_pos hl, if_pos rfl, if_pos hl]
    simp only [Option.map_some, wCv, Option.some.injEq, Prod.mk.injEq, Sum.inr.injEq, true_and]
    apply List.ext_getElem?
    intro z
    rw [List.getElem?_set]
    simp only [wFs, List.getElem?_mapIdx, List.length_mapIdx, List.getElem?_set]
    by_cases hz : k = z
    · subst hz
      rw [if_pos rfl, if_pos hk, if_pos rfl, if_pos hk]
      rfl
    · rw [if_neg hz, if_neg hz]
  · rw [if_neg hi, if_neg hi]
theorem wr_putFR {c0 ci N ix x : Nat} {Cn : String} {T : u_T} {fs : List (Nat × Nat)} (pc j : Nat) (sp1 : List wCell) (C : wC p R s m args meth c cc own nL ret D cl sp q ca A) (hd : decode cc pc = .ok (.putfield ix, 3)) (hs : sp[c0]? = some (.inl (ci, fs))) (hc : cl[ci]? = some (Cn, T, N)) (hin : ∀ w ∈ u_ws Cn T N, w ∈ lw_all) (ty0 : Nat → FieldType) (hty : ∀ k, k < N → parseFieldDescriptor (T k).2.2.1 = some (ty0 k)) (hnm : ∀ a, a < N → ∀ b, b < N → a ≠ b → (T a).2.1 ≠ (T b).2.1) (hj : j < N) (hjl : j < fs.length) (hl : Cond.fieldLink own ix (T j).1 (T j).2.1 (T j).2.2.1 ∈ lw_all) (hfin : (T j).2.2.2 = true) (hinit : meth.name = "<init>") (hdecl : (T j).1 = own) (hnar : ∀ a : Nat, narrow (ty0 j) (.ref a) = .ref a) (hfit : ∀ a : Nat, fits (ty0 j) (.ref a) = true) (hsp : sp1 = sp.set c0 (.inl (ci, fs.set j (2, x)))) (k : wC p R s m args meth c cc own nL ret D cl sp1 q ca A → wJ p l e R s m args below meth c nL D cl sp1 q ca A Q kc ks μ (pc + 3) lv st) : wJ p l e R s m args below meth c nL D cl sp q ca A Q kc ks μ pc lv (.ref (q x) :: .ref (q c0) :: st) :=
  fun H locs ls h1 h2 h3 => va_putF (ty := ty0 j) C.1 C.2.1 C.2.2.2.2.1 hin ty0 hty hnm C.2.2.2.1 C.2.2.2.2.2.1 h1 (wWs_D C.2.2.2.2.2.2.2.2.1 C.2.2.2.2.2.2.2.2.2.1 μ) h2 c0 (wWs_get hs) hc j hj (C.2.2.2.2.1 _ hl) (fun _ h9 => h9) hfin hinit hdecl (hty j hj) (hnar _) (hfit _) (by simpa [wFs] using hjl) hd (fun H1 locs1 g1 g2 g3 => by
    have e : (wWs sp q ca μ).set c0 (q c0, .inr (ci, (wFs q μ c0 fs).set j (.ref (q x)))) = wWs sp1 q ca μ := by rw [hsp]; exact wWs_setR (x := 0) hs hjl
    rw [e] at g1 g2
    exact k (wC_new C g2) H1 locs1 ls g1 g3 h3)
theorem wr_putR {c0 ci N ix x : Nat} {Cn : String} {T : u_T} {fs : List (Nat × Nat)} (pc j : Nat) (sp1 : List wCell) (C : wC p R s m args meth c cc own nL ret D cl sp q ca A) (hd : decode cc pc = .ok (.putfield ix, 3)) (hs : sp[c0]? = some (.inl (ci, fs))) (hc : cl[ci]? = some (Cn, T, N)) (hin : ∀ w ∈ u_ws Cn T N, w ∈ lw_all) (ty0 : Nat → FieldType) (hty : ∀ k, k < N → parseFieldDescriptor (T k).2.2.1 = some (ty0 k)) (hnm : ∀ a, a < N → ∀ b, b < N → a ≠ b → (T a).2.1 ≠ (T b).2.1) (hj : j < N) (hjl : j < fs.length) (hl : Cond.fieldLink own ix (T j).1 (T j).2.1 (T j).2.2.1 ∈ lw_all) (hfin : (T j).2.2.2 = false)  (hnar : ∀ a : Nat, narrow (ty0 j) (.ref a) = .ref a) (hfit : ∀ a : Nat, fits (ty0 j) (.ref a) = true) (hsp : sp1 = sp.set c0 (.inl (ci, fs.set j (2, x)))) (k : wC p R s m args meth c cc own nL ret D cl sp1 q ca A → wJ p l e R s m args below meth c nL D cl sp1 q ca A Q kc ks μ (pc + 3) lv st) : wJ p l e R s m args below meth c nL D cl sp q ca A Q kc ks μ pc lv (.ref (q x) :: .ref (q c0) :: st) :=
  fun H locs ls h1 h2 h3 => va_put (ty := ty0 j) C.1 C.2.1 C.2.2.2.2.1 hin ty0 hty hnm C.2.2.2.1 C.2.2.2.2.2.1 h1 (wWs_D C.2.2.2.2.2.2.2.2.1 C.2.2.2.2.2.2.2.2.2.1 μ) h2 c0 (wWs_get hs) hc j hj (C.2.2.2.2.1 _ hl) (fun _ h9 => h9) hfin (hty j hj) (hnar _) (hfit _) (by simpa [wFs] using hjl) hd (fun H1 locs1 g1 g2 g3 => by
    have e : (wWs sp q ca μ).set c0 (q c0, .inr (ci, (wFs q μ c0 fs).set j (.ref (q x)))) = wWs sp1 q ca μ := by rw [hsp]; exact wWs_setR (x := 0) hs hjl
    rw [e] at g1 g2
    exact k (wC_new C g2) H1 locs1 ls g1 g3 h3)
theorem wr_objInit {ix a : Nat} (pc : Nat) (C : wC p R s m args meth c cc own nL ret D cl sp q ca A) (hd : decode cc pc = .ok (.invokespecial ix, 3)) (hl : Cond.methodLink own ix Lib.objectInit ∈ lw_all) (hi : Cond.instanceMethod Lib.objectInit ∈ lw_all) (hco : Cond.code Lib.objectInit ⟨#[0xb1]⟩ 1 none ∈ lw_all) (hF : 1 ≤ R.frames ∧ 20 ≤ R.locals) (hw : (st.map fun v => v.category).sum ≤ 8) (k : wJ p l e R s m args below meth c nL D cl sp q ca A Q kc ks μ (pc + 3) lv st) : wJ p l e R s m args below meth c nL D cl sp q ca A Q kc ks μ pc lv (.ref a :: st) :=
  fun H locs ls h1 h2 h3 => W.objInit C.1 C.2.1 C.2.2.2.1 (C.2.2.2.2.1 _ hl) (C.2.2.2.2.1 _ hi) (C.2.2.2.2.1 _ hco) rfl (by rw [C.2.2.1]; exact h3.1) rfl hd hF.1 (by have := hF.2; simp only [JFrame.monitorRoom]; first | omega | (have h9 : 2 * (F0 m pc ls []).monitorRoom = 0 := rfl; simp only [JFrame.monitorRoom] at h9; omega)) (W.eq (g2 := F0 m (pc + 3) ls st) rfl (k H locs ls h1 h2 h3))
theorem wr_vretG {sp0 : List wCell} {q0 : Nat → Nat} {μ1 : wMem} (pc : Nat) (C : wC p R s m args meth c cc own nL none D cl sp q ca A) (hd : decode cc pc = .ok (.return_, 1)) (hk : kc ≤ R.cells ∧ ks ≤ R.slots) (h : μ = μ1) (hq : ∀ j, j < sp0.length → q j = q0 j) : wJ p l e R s m args below meth c nL D cl sp q ca A (MQ below (va_Qv (fun (u : Nat → Nat) => ∀ j, j < sp0.length → u j = q0 j) (fun (u : Nat → Nat) t => va_P D cl (wWs sp u ca μ1) t.heap ∧ wInj sp u ∧ ∀ i, i < sp.length → A (u i)) A) args s R.cells R.slots A) kc ks μ pc lv [] :=
  fun H locs ls h1 h2 h3 => W.widen hk.1 hk.2 (W.vret C.1 C.2.1 C.2.2.2.2.2.2.2.1 (fun t ht hW => ⟨⟨q, rfl, hq, by rw [← ht, h] at h1; exact h1, C.2.2.2.2.2.2.2.2.1, C.2.2.2.2.2.2.2.2.2.1⟩, h2.F ht⟩) h2.2.2 hd C.2.2.2.2.2.2.1)
/-- a constructor's contract: the description grows from sp to sp1 -/
def wMg (l : Launch) (y : MethodName) (cc : ByteArray) (nL : Nat) (rm : Room) (D : va_G) (cl : List vw_C) (sp sp1 : List wCell) (q : Nat → Nat) (ca : wCA) (av : List Value) (μ μ1 : wMem) : Prop := ∀ sz : Nat, Met l y (ws_ y cc nL none) rm (va_Pc av (fun U => U.heap.size = sz ∧ va_P D cl (wWs sp q ca μ) U.heap ∧ va_K D cl (wTy ca) U ∧ wInj sp q ∧ wNest U)) (va_Qv (fun (u : Nat → Nat) => ∀ j, j < sp.length → u j = q j) (fun (u : Nat → Nat) t => va_P D cl (wWs sp1 u ca μ1) t.heap ∧ wInj sp1 u ∧ ∀ i, i < sp1.length → wA sp q sz (u i)) (wA sp q sz)) rm.cells rm.slots (wA sp q sz)
theorem wMg_intro {y : MethodName} {rm : Room} {sp1 : List wCell} {av : List Value} {μ1 : wMem} (hy : plainName y.cls = true) (hlen : (lg_sl av).length ≤ nL) (h : ∀ (p : Program) (e : Env) (s : State) (m : MethodId) (args : Array Value) (below : List Frame) (meth : Method) (c : Code) (A : Nat → Prop), meth.name = y.name → wC p rm s m args meth c cc y.cls nL none D cl sp q ca A → wJ p l e rm s m args below meth c nL D cl sp q ca A (MQ below (va_Qv (fun (u : Nat → Nat) => ∀ j, j < sp.length → u j = q j) (fun (u : Nat → Nat) t => va_P D cl (wWs sp1 u ca μ1) t.heap ∧ wInj sp1 u ∧ ∀ i, i < sp1.length → A (u i)) A) args s rm.cells rm.slots A) 0 0 μ 0 (lv_args 0 av) []) : wMg l y cc nL rm D cl sp sp1 q ca av μ μ1 := by
  intro sz
  refine Met.ofW (cc := cc) (maxL := nL) (ret := none) hy rfl ?_
  intro p e s m args below meth c s₁ B hml hv
  obtain ⟨rfl, hsz, hP, hK, hI, hNe⟩ := hv
  have hts := atoms_spec (ws := ws_ y cc nL none) B.pre
  have hts : ∀ w ∈ lw_all, w.before _ s = true := fun w h => hts w (List.mem_cons_of_mem _ h)
  have hown : s.vm.findClass y.cls = some m.cls := findClass_of_methodNamed B.named
  have hnm : meth.name = y.name := (name_of_methodNamed B.named B.method).1
  subst hsz
  have hl := lv_entry av (n := nL) hlen
  rw [lg_entry_eq]
  exact h p e s m av.toArray below meth c (wA sp q s.heap.size) hnm ⟨B.exec, B.bytes, hml, hown, hts, hK, B.notSynchronized, B.returns, hI, fun i hi => Or.inl ⟨i, hi, rfl⟩, fun a ha => Or.inr ha, hNe⟩ s.heap [] _ hP va_S.rf hl
end WA
