set_option maxRecDepth 100000
theorem wMKv_introI {Z : (Nat → Prop) → State → Heap → Prop} {l : Launch} {y : MethodName} {cc : ByteArray} {nL : Nat} {ret : Option FieldType} {rm : Room} {D : va_G} {cl : List vw_C} {sp sp1 : List wCell} {q : Nat → Nat} {ca : wCA} {av : List Value} {μ μ1 : wMem} (hy : plainName y.cls = true) (hlen : (lg_sl av).length ≤ nL) (h : ∀ (p : Program) (e : Env) (s : State) (m : MethodId) (args : Array Value) (below : List Frame) (meth : Method) (c : Code) (A : Nat → Prop), meth.name = y.name → wC p rm s m args meth c cc y.cls nL ret D cl sp q ca A → Z A s s.heap → wJ p l e rm s m args below meth c nL D cl sp q ca A (MQ below (va_Qv (fun (u : Nat → Nat) => ∀ j, j < sp.length → u j = q j) (fun (u : Nat → Nat) t => va_P D cl (wWs sp1 u ca μ1) t.heap ∧ wInj sp1 u ∧ ∀ i, i < sp1.length → A (u i)) A) args s rm.cells rm.slots A) 0 0 μ 0 (lv_args 0 av) []) : wMKv Z l y cc nL ret rm D cl sp sp1 q ca av μ μ1 := by
  intro sz
  refine Met.ofW (cc := cc) (maxL := nL) (ret := ret) hy rfl ?_
  intro p e s m args below meth c s₁ B hml hv
  obtain ⟨rfl, hsz, hP, hK, hI, hNe, hZl⟩ := hv
  have hts0 := atoms_spec (ws := ws_ y cc nL ret) B.pre
  have hts : ∀ w ∈ lw_all, w.before _ s = true := fun w h => hts0 w (List.mem_cons_of_mem _ h)
  have hown : s.vm.findClass y.cls = some m.cls := findClass_of_methodNamed B.named
  have hnm : meth.name = y.name := (name_of_methodNamed B.named B.method).1
  subst hsz
  have hl := lv_entry av (n := nL) hlen
  rw [lg_entry_eq]
  exact h p e s m av.toArray below meth c (wA sp q s.heap.size) hnm ⟨B.exec, B.bytes, hml, hown, hts, hK, B.notSynchronized, B.returns, hI, fun i hi => Or.inl ⟨i, hi, rfl⟩, fun a ha => Or.inr ha, hNe⟩ hZl s.heap [] _ hP va_S.rf hl
theorem wClosed.addF {sp : List wCell} {ci : Nat} {fs : List (Nat × Nat)} (h : wClosed sp) (hf : ∀ f ∈ fs, ¬ f.1 = 2) : wClosed (sp ++ [Sum.inl (ci, fs)]) := fun m hm => by
  rw [wNoRef_iff]
  intro d hd
  rw [List.length_append] at hm
  rcases List.mem_append.mp hd with hd | hd
  · exact (wNoRef_iff.mp (h m (by simp at hm; omega))) d hd
  · rw [List.mem_singleton.mp hd]
    show (fs.all fun f => !(f.1 == 2 && f.2 == m)) = true
    rw [List.all_eq_true]
    intro f hfm
    have := hf f hfm
    simp [this]
theorem wSplit {S : List wCell} (h : S.take spX.length = spX) : spX ++ S.drop spX.length = S := by
  have h1 := List.take_append_drop spX.length S
  rw [h] at h1
  exact h1
theorem wFw6_take {sp : List wCell} {b m : Nat} (h1 : m ≤ sp.length) (h2 : m ≤ b) : (wFw6 sp b).take m = sp.take m := by
  apply List.ext_getElem?
  intro i
  by_cases hi : i < m
  · rw [List.getElem?_take_of_lt hi, List.getElem?_take_of_lt hi]
    simp only [wFw6, wFw5, wFw4, wFw3, wFw2, wFw1, wFw0]
    have hb : b ≠ i := by omega
    simp only [List.getElem?_set_ne hb]
    rw [List.getElem?_append_left (by simp only [List.length_set, List.length_append]; omega)]
    simp only [List.getElem?_set_ne hb]
    rw [List.getElem?_append_left (by simp only [List.length_set, List.length_append]; omega)]
    simp only [List.getElem?_set_ne hb]
    rw [List.getElem?_append_left (by simp only [List.length_set, List.length_append]; omega)]
    simp only [List.getElem?_set_ne hb]
    rw [List.getElem?_append_left (by simp only [List.length_set, List.length_append]; omega)]
    simp only [List.getElem?_set_ne hb]
    rw [List.getElem?_append_left (by simp only [List.length_set, List.length_append]; omega)]
    simp only [List.getElem?_set_ne hb]
    rw [List.getElem?_append_left (by omega)]
  · rw [List.getElem?_eq_none (by rw [List.length_take]; omega), List.getElem?_eq_none (by rw [List.length_take]; omega)]
/-- the reader as it is made; with its outer object -/
abbrev wRd0 : wCell := .inl (7, [(0, 0), (3, 0), (0, 0), (0, 0), (0, 0), (3, 0), (3, 0)])
abbrev wRd1 : wCell := .inl (7, [(0, 0), (3, 0), (0, 0), (0, 0), (0, 0), (3, 0), (2, 0)])
abbrev wF00 : wCell := .inl (1, [(0, 0), (0, 0), (0, 0), (0, 0), (0, 0), (0, 0), (0, 0), (0, 0), (3, 0), (3, 0), (3, 0), (3, 0), (3, 0), (3, 0)])
/-- the world with the reader's family made, behind the cells S -/
def wRW (S : List wCell) (b a : Nat) : List wCell := (wFw6 (S ++ [wF00]) S.length).set b (wRdr S.length a)
/-- the memory then: the size, the new cells -/
def wRm (μ : wMem) (b n : Nat) : wMem := wZ (wZ (wZ (wZ (wZ (wZ (wZ (wSI μ b 0 (μ.1 0 2)) n) (n + 1 + 0)) (n + 1 + 1)) (n + 1 + 2)) (n + 1 + 3)) (n + 1 + 4)) (n + 1 + 5)
abbrev cX7_init : ByteArray := prog_6_method_1_code
def yX7_init : MethodName := ⟨RX7, "<init>", "(LOnePassport;)V"⟩
def dkwX7_init_1 : List UInt8 := [89, 183, 0, 24, 181, 0, 25, 42, 178, 0, 29, 181, 0, 35, 42, 182, 0, 38, 177]
abbrev dktX7_init_1 : List UInt8 := dkwX7_init_1 ++ []
def dkwX7_init_0 : List UInt8 := [42, 43, 181, 0, 3, 42, 183, 0, 9, 42, 42, 180, 0, 3, 180, 0, 15, 181, 0, 19, 42, 187, 0, 22]
abbrev dktX7_init_0 : List UInt8 := dkwX7_init_0 ++ dktX7_init_1
theorem dksX7_init_0 : cX7_init.data.toList.drop 0 = dktX7_init_0 := by decide +kernel
theorem dksX7_init_1 : cX7_init.data.toList.drop 24 = dktX7_init_1 := dk_seg dksX7_init_0 24 rfl rfl
theorem dX7_init_0 : decode cX7_init 0 = .ok (.aload_n 0, 1) := dk_42 (dk_at dksX7_init_0 0 rfl rfl)
theorem dX7_init_1 : decode cX7_init 1 = .ok (.aload_n 1, 1) := dk_43 (dk_at dksX7_init_0 1 rfl rfl)
theorem dX7_init_2 : decode cX7_init 2 = .ok (.putfield 3, 3) := dk_181 0 3 (dk_at dksX7_init_0 2 rfl rfl)
theorem dX7_init_5 : decode cX7_init 5 = .ok (.aload_n 0, 1) := dk_42 (dk_at dksX7_init_0 5 rfl rfl)
theorem dX7_init_6 : decode cX7_init 6 = .ok (.invokespecial 9, 3) := dk_183 0 9 (dk_at dksX7_init_0 6 rfl rfl)
theorem dX7_init_9 : decode cX7_init 9 = .ok (.aload_n 0, 1) := dk_42 (dk_at dksX7_init_0 9 rfl rfl)
theorem dX7_init_10 : decode cX7_init 10 = .ok (.aload_n 0, 1) := dk_42 (dk_at dksX7_init_0 10 rfl rfl)
theorem dX7_init_11 : decode cX7_init 11 = .ok (.getfield 3, 3) := dk_180 0 3 (dk_at dksX7_init_0 11 rfl rfl)
theorem dX7_init_14 : decode cX7_init 14 = .ok (.getfield 15, 3) := dk_180 0 15 (dk_at dksX7_init_0 14 rfl rfl)
theorem dX7_init_17 : decode cX7_init 17 = .ok (.putfield 19, 3) := dk_181 0 19 (dk_at dksX7_init_0 17 rfl rfl)
theorem dX7_init_20 : decode cX7_init 20 = .ok (.aload_n 0, 1) := dk_42 (dk_at dksX7_init_0 20 rfl rfl)
theorem dX7_init_21 : decode cX7_init 21 = .ok (.new 22, 3) := dk_187 0 22 (dk_at dksX7_init_0 21 rfl rfl)
theorem dX7_init_24 : decode cX7_init 24 = .ok (.dup, 1) := dk_89 (dk_at dksX7_init_1 0 rfl rfl)
theorem dX7_init_25 : decode cX7_init 25 = .ok (.invokespecial 24, 3) := dk_183 0 24 (dk_at dksX7_init_1 1 rfl rfl)
theorem dX7_init_28 : decode cX7_init 28 = .ok (.putfield 25, 3) := dk_181 0 25 (dk_at dksX7_init_1 4 rfl rfl)
theorem dX7_init_31 : decode cX7_init 31 = .ok (.aload_n 0, 1) := dk_42 (dk_at dksX7_init_1 7 rfl rfl)
theorem dX7_init_32 : decode cX7_init 32 = .ok (.getstatic 29, 3) := dk_178 0 29 (dk_at dksX7_init_1 8 rfl rfl)
theorem dX7_init_35 : decode cX7_init 35 = .ok (.putfield 35, 3) := dk_181 0 35 (dk_at dksX7_init_1 11 rfl rfl)
theorem dX7_init_38 : decode cX7_init 38 = .ok (.aload_n 0, 1) := dk_42 (dk_at dksX7_init_1 14 rfl rfl)
theorem dX7_init_39 : decode cX7_init 39 = .ok (.invokevirtual 38, 3) := dk_182 0 38 (dk_at dksX7_init_1 15 rfl rfl)
theorem dX7_init_42 : decode cX7_init 42 = .ok (.return_, 1) := dk_177 (dk_at dksX7_init_1 18 rfl rfl)
theorem okIX7_init : wOkI yX7_init cX7_init 2 1 := ⟨q146, q457, q458, rfl, by decide, by decide, by decide +kernel⟩
set_option maxHeartbeats 4000000 in
theorem tX7_init (l : Launch) {D : va_G} {E : List wCell} {q : Nat → Nat} {ca : wCA} {b : Nat} {ad : Nat → Nat} (hb : (spX ++ E)[b]? = some wRd0) (h1 : spX.length ≤ b) (hcl : wClosed (spX ++ E)) (N i : Nat) (μ μ1 : wMem) (hf : wNext N b (wRm μ b ((spX ++ E).set b wRd1).length) = some (i, μ1)) : wMKv (wZk ad) l yX7_init cX7_init 2 none ({ frames := 3, cells := 7, slots := 72, locals := 67 } : Room) D vwCl (spX ++ E) (wRW ((spX ++ E).set b wRd1) b (ad i)) q ca [.ref (q b), .ref (q 0)] μ μ1 := by
  obtain ⟨S, hS⟩ : ∃ S, S = (spX ++ E).set b wRd1 := ⟨_, rfl⟩
  have hbl : b < (spX ++ E).length := (List.getElem?_eq_some_iff.mp hb).1
  have h24 : 0 < spX.length := by decide
  have hSl : S.length = (spX ++ E).length := by rw [hS, List.length_set]
  have hbS : b < S.length := by rw [hSl]; exact hbl
  have hSb : S[b]? = some wRd1 := by rw [hS]; exact List.getElem?_set_self hbl
  have hS0 := (show S[0]? = (spX ++ E)[0]? by rw [hS]; exact List.getElem?_set_ne (by omega)).trans spX_0
  have hSc : wClosed S := by rw [hS]; exact hcl.set (fun f hf _ => by rw [(show ∀ f ∈ ([(0, 0), (3, 0), (0, 0), (0, 0), (0, 0), (3, 0), (2, 0)] : List (Nat × Nat)), f.2 = 0 from by decide) f hf]; omega)
  have hSt : S.take spX.length = spX := by rw [hS, List.take_set_of_le h1, List.take_append_of_le_length (Nat.le_refl _), List.take_length]
  rw [← hS] at hf ⊢
  have hW2 : (S ++ [wF00])[S.length]? = some wF00 := List.getElem?_concat_length
  have hl2 : (S ++ [wF00]).length = S.length + 1 := by simp
  have hc2 : wClosed (S ++ [wF00]) := hSc.addF (by decide)
  have hW3 : (wFw6 (S ++ [wF00]) S.length)[b]? = some wRd1 := by
    have h := congrArg (fun L => L[b]?) (wFw6_take (sp := S ++ [wF00]) (b := S.length) (m := S.length) (by omega) (Nat.le_refl _))
    simp only [List.getElem?_take_of_lt hbS] at h
    rw [h, List.getElem?_append_left hbS]; exact hSb
  have hl3 : b < (wFw6 (S ++ [wF00]) S.length).length := (List.getElem?_eq_some_iff.mp hW3).1
  have hsp : spX ++ (wRW S b (ad 0)).drop spX.length = wRW S b (ad 0) := wSplit (by
    rw [wRW, List.take_set_of_le h1, wFw6_take (by omega) (by omega), List.take_append_of_le_length (by omega)]; exact hSt)
  refine wMKv_introI (by decide) (Nat.le_of_ble_eq_true rfl) ?_
  intro p e s m args below meth c A hnm C hZ
  refine wr_sub [(0, .ref (q b)), (1, .ref (q 0))] [0, 1] rfl ?_
  refine wr_aload_n 0 C dX7_init_0 0 rfl rfl ?_
  refine wr_aload_n 1 C dX7_init_1 1 rfl rfl ?_
  refine wr_putFR (c0 := b) (x := 0) 2 6 S C dX7_init_2 hb rfl in_X7 tyX7 tyX7_ok nmX7 (by decide) (by show 6 < 7; decide) q491 rfl (hnm.trans rfl) rfl (fun _ => rfl) (fun _ => rfl) hS ?_
  clear C
  intro C
  refine wr_aload_n 5 C dX7_init_5 0 rfl rfl ?_
  refine wr_objInit 6 C dX7_init_6 q459 q174 q175 ⟨Nat.le_of_ble_eq_true rfl, Nat.le_of_ble_eq_true rfl⟩ (Nat.le_of_ble_eq_true rfl) ?_
  refine wr_aload_n 9 C dX7_init_9 0 rfl rfl ?_
  refine wr_aload_n 10 C dX7_init_10 0 rfl rfl ?_
  refine wr_getR 11 6 C dX7_init_11 hSb rfl in_X7 (by decide) rfl q491 ?_
  refine wr_getNI 14 2 C dX7_init_14 hS0 rfl in_X0 (by decide) rfl q332 ?_
  refine wr_putFI 17 0 C dX7_init_17 hSb rfl in_X7 tyX7 tyX7_ok nmX7 (by decide) rfl q485 rfl (hnm.trans rfl) rfl rfl rfl ?_
  refine wr_aload_n 20 C dX7_init_20 0 rfl rfl ?_
  refine wr_newO (fs := [(0, 0), (0, 0), (0, 0), (0, 0), (0, 0), (0, 0), (0, 0), (0, 0), (3, 0), (3, 0), (3, 0), (3, 0), (3, 0), (3, 0)]) (ci := 1) (kc1 := 1) (ks1 := 14) 21 C dX7_init_21 in_X1 tyX1 tyX1_ok q460 q177 q137 rfl (by decide) rfl rfl ⟨Nat.le_of_ble_eq_true rfl, Nat.le_of_ble_eq_true rfl⟩ S.length rfl (hSc.at rfl) rfl rfl (S ++ [wF00]) rfl ?_
  intro q1 hq1 C1
  rw [← hq1 b (Nat.ne_of_lt hbS)]
  refine wr_dup 24 C1 dX7_init_24 rfl ?_
  refine wr_IgN (kc1 := 7) (ks1 := 72) (As := []) (b := S.length) 25 [.ref (q1 S.length), .ref (q1 b)] C1 dX7_init_25 (tX1_init l (sp := S ++ [wF00]) (b := S.length) hW2 hc2 _) okIX1_init q461 ⟨rfl, rfl, Nat.le_of_ble_eq_true rfl, Nat.le_of_ble_eq_true rfl, Nat.le_of_ble_eq_true rfl, Nat.le_of_ble_eq_true rfl⟩ (Nat.le_of_ble_eq_true rfl) rfl ?_
  intro q2 hq2 C2
  rw [← hq2 b (by omega), ← hq2 S.length (by omega)]
  refine wr_putFR (c0 := b) (x := S.length) 28 1 ((wFw6 (S ++ [wF00]) S.length).set b (.inl (7, [(0, 0), (2, S.length), (0, 0), (0, 0), (0, 0), (3, 0), (2, 0)]))) C2 dX7_init_28 hW3 rfl in_X7 tyX7 tyX7_ok nmX7 (by decide) (by show 1 < 7; decide) q486 rfl (hnm.trans rfl) rfl (fun _ => rfl) (fun _ => rfl) rfl ?_
  intro C3
  refine wr_aload_n 31 C3 dX7_init_31 0 rfl rfl ?_
  refine wr_getsA 32 C3 dX7_init_32 (hZ 0 (by decide)) q462 ?_
  refine wr_putA (a := ad 0) 35 5 (wRW S b (ad 0)) C3 dX7_init_35 (List.getElem?_set_self hl3) rfl in_X7 tyX7 tyX7_ok nmX7 (by decide) (by show 5 < 7; decide) q490 rfl (fun _ => rfl) (fun _ => rfl) (by rw [List.set_set]; rfl) ?_
  intro C4
  refine wr_aload_n 38 C4 dX7_init_38 0 rfl rfl ?_
  have hb5 : (wRW S b (ad 0))[b]? = some (wRdr S.length (ad 0)) := List.getElem?_set_self hl3
  have hN := tX7_next l (D := D) (E := (wRW S b (ad 0)).drop spX.length) (q := q2) (ca := ca) (r := b) (f := S.length) (tk := ad 0) (by rw [hsp]; exact hb5) (ad := ad) N i (wRm μ b S.length) μ1 hf
  rw [hsp] at hN
  have e6 : (wRW S b (ad 0)).set b (wRdr S.length (ad i)) = wRW S b (ad i) := by unfold wRW; rw [List.set_set]
  rw [e6] at hN
  refine wr_VPv (kc1 := 7) (ks1 := 72) (As := []) (b := b) 39 [] C4 dX7_init_39 (μ1 := μ1) (by rw [hl2]; exact hN) okX7_next q464 hb5 rfl wZk_ok hZ (by unfold wRW; simp only [List.length_set]) ⟨rfl, rfl, Nat.le_of_ble_eq_true rfl, Nat.le_of_ble_eq_true rfl, Nat.le_of_ble_eq_true rfl, Nat.le_of_ble_eq_true rfl⟩ (Nat.le_of_ble_eq_true rfl) rfl ?_
  intro C5
  exact wr_retv 42 C5 dX7_init_42 ⟨Nat.le_refl _, Nat.le_refl _⟩ rfl (fun j hj => (hq2 j (by omega)).trans (hq1 j (by omega)))
