set_option maxRecDepth 100000
/-- cells named anew: the cell i of the new description is the cell π i of the old one -/
def wRelB (KP : List (Nat × Nat)) (π : Nat → Nat) (d' d : wCell) : Bool := match d', d with
  | .inl o', .inl o => o'.1 == o.1 && (o'.2.length == o.2.length && (o'.2.zip o.2).all fun x => x.1.1 == x.2.1 && (!(x.1.1 == 2) || x.2.2 == π x.1.2))
  | .inr a', .inr a => a'.2 == a.2 && ((a'.1 == a.1 && decide (a.1 ≤ 4)) || (decide (4 < a'.1) && (decide (4 < a.1) && ((a'.1 == a.1 || KP.contains (a'.1, a.1)) && (List.range 16).all fun i => (wRd a'.1 i == 0 && wRd a.1 i == 0) || (!(wRd a'.1 i == 0) && (!(wRd a.1 i == 0) && π (wRd a'.1 i - 1) == wRd a.1 i - 1))))))
  | _, _ => false
def wMp (π : Nat → Nat) (μ : wMem) : wMem := (fun i => μ.1 (π i), fun i => μ.2 (π i))
theorem wRelB_ok {KP : List (Nat × Nat)} {π q : Nat → Nat} {ca : wCA} {μ : wMem} {i : Nat} {d' d : wCell} (hK : ∀ x ∈ KP, ca.1 x.1 = ca.1 x.2) (h : wRelB KP π d' d = true) : wCv (fun j => q (π j)) ca (wMp π μ) i d' = wCv q ca μ (π i) d := by
  cases d' with
  | inl o' =>
    cases d with
    | inr a => cases h
    | inl o =>
      simp only [wRelB, Bool.and_eq_true, beq_iff_eq, List.all_eq_true] at h
      obtain ⟨h1, h2, h3⟩ := h
      have e : wFs (fun j => q (π j)) (wMp π μ) i o'.2 = wFs q μ (π i) o.2 := by
        apply List.ext_getElem?
        intro k
        simp only [wFs, List.getElem?_mapIdx]
        by_cases hk : k < o'.2.length
        · have hk2 : k < o.2.length := by rw [← h2]; exact hk
          rw [List.getElem?_eq_getElem hk, List.getElem?_eq_getElem hk2]
          have hm : (o'.2[k], o.2[k]) ∈ o'.2.zip o.2 := by
            have hz : k < (o'.2.zip o.2).length := by rw [List.length_zip]; omega
            have := List.getElem_mem hz
            rwa [List.getElem_zip] at this
          obtain ⟨g1, g2⟩ := h3 _ hm
          simp only [Option.map_some, Option.some.injEq]
          simp only [] at g1 g2
          generalize o'.2[k] = f' at *
          generalize o.2[k] = f at *
          obtain ⟨a', b'⟩ := f'
          obtain ⟨a, b⟩ := f
          simp only [] at g1 g2
          subst g1
          match a', g2 with
          | 0, _ => rfl
          | 1, _ => rfl
          | 2, g2 =>
            have : b = π b' := by simpa using g2
            subst this
            rfl
          | 3, _ => rfl
          | n + 4, _ => rfl
        · have hk2 : ¬ k < o.2.length := by rw [← h2]; exact hk
          rw [List.getElem?_eq_none (Nat.not_lt.mp hk), List.getElem?_eq_none (Nat.not_lt.mp hk2)]
          rfl
      simp only [wCv, e, h1]
  | inr a' =>
    cases d with
    | inl o => cases h
    | inr a =>
      simp only [wRelB, Bool.and_eq_true, Bool.or_eq_true, beq_iff_eq, decide_eq_true_eq] at h
      obtain ⟨k', n'⟩ := a'
      obtain ⟨t, n⟩ := a
      obtain ⟨h1, h2⟩ := h
      simp only [] at h1 h2
      subst h1
      rcases h2 with ⟨h2, h3⟩ | ⟨h2, h3, h4, h5⟩
      · subst h2
        have h6 : ¬ 4 < k' := by omega
        simp only [wCv, wMp, h6, if_false]
      · have hca : ca.1 k' = ca.1 t := by
          rcases h4 with h4 | h4
          · rw [h4]
          · exact hK (k', t) (List.contains_iff_mem.mp h4)
        have e : wRa (fun j => q (π j)) k' = wRa q t := by
          funext j
          unfold wRa
          by_cases hj : j < 16
          · simp only [List.all_eq_true, List.mem_range, Bool.or_eq_true, Bool.and_eq_true, beq_iff_eq, Bool.not_eq_true', beq_eq_false_iff_ne, ne_eq] at h5
            rcases h5 j hj with ⟨h6, h7⟩ | ⟨h6, h7, h8⟩
            · rw [if_pos h6, if_pos h7]
            · rw [if_neg h6, if_neg h7]
              exact congrArg (fun z => some (q z)) h8
          · have h6 : wRd k' j = 0 := by unfold wRd; rw [if_neg hj]
            have h7 : wRd t j = 0 := by unfold wRd; rw [if_neg hj]
            rw [if_pos h6, if_pos h7]
        have n1 : ¬ k' = 1 := by omega
        have n2 : ¬ t = 1 := by omega
        simp only [wCv, h2, h3, n1, n2, if_true, if_false, e, hca]
def wPermB (KP : List (Nat × Nat)) (π : Nat → Nat) (sp' sp : List wCell) : Bool := (List.range sp'.length).all fun i => match sp'[i]?, sp[π i]? with
  | some d', some d => wRelB KP π d' d
  | _, _ => false
theorem wPermB_ok {KP : List (Nat × Nat)} {π : Nat → Nat} {sp' sp : List wCell} (h : wPermB KP π sp' sp = true) (i : Nat) (d' : wCell) (hi : sp'[i]? = some d') : ∃ d, sp[π i]? = some d ∧ wRelB KP π d' d = true := by
  unfold wPermB at h
  rw [List.all_eq_true] at h
  have := h i (List.mem_range.mpr (List.getElem?_eq_some_iff.mp hi).1)
  rw [hi] at this
  cases hd : sp[π i]? with
  | none => rw [hd] at this; cases this
  | some d => rw [hd] at this; exact ⟨d, rfl, this⟩
theorem wP_perm {D : va_G} {cl : List vw_C} {sp sp' : List wCell} {q : Nat → Nat} {ca : wCA} {μ : wMem} {H : Heap} {KP : List (Nat × Nat)} (hK : ∀ x ∈ KP, ca.1 x.1 = ca.1 x.2) (π : Nat → Nat) (h : ∀ i d', sp'[i]? = some d' → ∃ d, sp[π i]? = some d ∧ wRelB KP π d' d = true) (hP : va_P D cl (wWs sp q ca μ) H) : va_P D cl (wWs sp' (fun i => q (π i)) ca (wMp π μ)) H := by
  intro k x hx
  obtain ⟨hk, -⟩ := wWs_some hx
  rw [wWs_get (List.getElem?_eq_getElem hk)] at hx
  obtain ⟨d, hd, hr⟩ := h k _ (List.getElem?_eq_getElem hk)
  cases hx
  have e := hP (π k) _ (wWs_get hd)
  rw [← wRelB_ok hK hr] at e
  exact e
/-- the judgement over a world named anew -/
theorem wr_perm {p : Program} {l : Launch} {e : Env} {R : Room} {s : State} {m : MethodId} {args : Array Value} {below : List Frame} {meth : Method} {c : Code} {cc : ByteArray} {own : String} {nL : Nat} {ret : Option FieldType} {D : va_G} {cl : List vw_C} {sp : List wCell} {q : Nat → Nat} {ca : wCA} {A : Nat → Prop} {Q : State → Prop} {kc ks : Nat} {μ : wMem} {lv : List (Nat × Value)} {st : List Value} {KP : List (Nat × Nat)} (hK : ∀ x ∈ KP, ca.1 x.1 = ca.1 x.2) (π : Nat → Nat) (sp' : List wCell) (h : ∀ i d', sp'[i]? = some d' → ∃ d, sp[π i]? = some d ∧ wRelB KP π d' d = true) (hinj : ∀ i j, i < sp'.length → j < sp'.length → π i = π j → i = j) (pc : Nat) (C : wC p R s m args meth c cc own nL ret D cl sp q ca A) (k : ∀ q1 : Nat → Nat, (∀ i, q1 i = q (π i)) → wC p R s m args meth c cc own nL ret D cl sp' q1 ca A → wJ p l e R s m args below meth c nL D cl sp' q1 ca A Q kc ks (wMp π μ) pc lv st) : wJ p l e R s m args below meth c nL D cl sp q ca A Q kc ks μ pc lv st := by
  intro H locs ls h1 h2 h3
  obtain ⟨a1, a2, a3, a4, a5, a6, a7, a8, a9, a10, a11, a12⟩ := C
  have hlt : ∀ i, i < sp'.length → π i < sp.length := fun i hi => by
    obtain ⟨d, hd, -⟩ := h i _ (List.getElem?_eq_getElem hi)
    exact (List.getElem?_eq_some_iff.mp hd).1
  exact k (fun i => q (π i)) (fun _ => rfl) ⟨a1, a2, a3, a4, a5, a6, a7, a8, fun i j hi hj e => hinj i j hi hj (a9 _ _ (hlt i hi) (hlt j hj) e), fun i hi => a10 _ (hlt i hi), a11, a12⟩ H locs ls (wP_perm hK π h h1) h2 h3
/-- the component's world at first -/
def spX1 (aE : Nat) : List wCell := spX ++ [.inr (7881415313719326, 4), wLoA aE, .inl (5, [(3, 0)]), .inl (5, [(3, 0)]), .inl (5, [(3, 0)]), .inl (5, [(3, 0)])]
def wPiC (i : Nat) : Nat := [0, 1, 2, 3, 4, 5, 6, 7, 8, 9, 13, 14, 15, 16, 17, 18, 19, 20, 21, 10, 11, 12, 22, 27, 23, 24, 25, 26].getD i i
theorem wPiC_inj {aE : Nat} : ∀ i j, i < (spX1 aE).length → j < (spX1 aE).length → wPiC i = wPiC j → i = j := by
  have h : ∀ i ∈ List.range 28, ∀ j ∈ List.range 28, wPiC i = wPiC j → i = j := by decide +kernel
  exact fun i j hi hj => h i (List.mem_range.mpr hi) j (List.mem_range.mpr hj)
abbrev wMo : wCell := .inl (6, [(0, 0), (3, 0), (3, 0), (3, 0), (3, 0), (3, 0), (0, 0), (0, 0), (0, 0), (0, 0), (0, 0), (1, 0), (0, 0), (0, 0), (0, 0), (0, 0), (3, 0), (3, 0), (3, 0), (3, 0), (3, 0), (3, 0), (3, 0), (0, 0), (0, 0), (0, 0), (0, 0), (0, 0), (0, 0), (0, 0), (0, 0), (3, 0), (3, 0), (3, 0), (0, 0), (3, 0), (0, 0), (0, 0), (0, 0), (3, 0), (0, 0), (3, 0), (3, 0), (3, 0), (3, 0), (3, 0), (3, 0), (0, 0)])
def wKP : List (Nat × Nat) := [(7881415313719326, 7599936041975837)]
theorem wPm {aE : Nat} : ∀ i d', spM0[i]? = some d' → ∃ d, (spX1 aE ++ [wMo])[(fun _ : Nat => 28) i]? = some d ∧ wRelB [] (fun _ => 28) d' d = true := by
  intro i d' h
  match i, h with
  | 0, h => cases h; exact ⟨wMo, rfl, by decide +kernel⟩
theorem wRelB_id (d : wCell) : wRelB [] (fun i => i) d d = true := by
  cases d with
  | inl o =>
    simp only [wRelB, Bool.and_eq_true, beq_iff_eq, List.all_eq_true, true_and]
    intro x hx
    have hq : ∀ (L : List (Nat × Nat)) (x : (Nat × Nat) × (Nat × Nat)), x ∈ L.zip L → x.1 = x.2 := by
      intro L
      induction L with
      | nil => intro x hx; cases hx
      | cons a L ih =>
        intro x hx
        rw [List.zip_cons_cons] at hx
        rcases List.mem_cons.mp hx with h | h
        · rw [h]
        · exact ih x h
    have := hq _ _ hx
    simp [this]
  | inr a =>
    simp only [wRelB, Bool.and_eq_true, Bool.or_eq_true, beq_iff_eq, decide_eq_true_eq, true_and, true_or]
    by_cases h : a.1 ≤ 4
    · exact Or.inl h
    · refine Or.inr ⟨by omega, by omega, ?_⟩
      rw [List.all_eq_true]
      intro i hi
      by_cases hz : wRd a.1 i = 0 <;> simp [hz]
theorem wPx {aE : Nat} : ∀ i d', (spX1 aE)[i]? = some d' → ∃ d, (spX1 aE ++ [wMo])[(fun i : Nat => i) i]? = some d ∧ wRelB [] (fun i => i) d' d = true := by
  intro i d' h
  exact ⟨d', by rw [List.getElem?_append_left (List.getElem?_eq_some_iff.mp h).1]; exact h, wRelB_id d'⟩
theorem wPermC {aE : Nat} : wPermB wKP wPiC (spX1 aE) (spC aE) = true := by
  have h : ∀ i ∈ List.range 28, i ≠ 23 → (match (spX1 aE)[i]?, (spC aE)[wPiC i]? with | some d', some d => wRelB wKP wPiC d' d | _, _ => false) = true := by
    have h0 : ∀ i ∈ List.range 28, i ≠ 23 → (match (spX1 0)[i]?, (spC 0)[wPiC i]? with | some d', some d => wRelB wKP wPiC d' d | _, _ => false) = true := by decide +kernel
    intro i hi hn
    have := h0 i hi hn
    have hi28 : i < 28 := List.mem_range.mp hi
    have e1 : (spX1 aE)[i]? = (spX1 0)[i]? := by
      rcases i with _ | _ | _ | _ | _ | _ | _ | _ | _ | _ | _ | _ | _ | _ | _ | _ | _ | _ | _ | _ | _ | _ | _ | _ | _ | _ | _ | _ | i <;> first | rfl | exact absurd rfl hn | omega
    have e2 : (spC aE)[wPiC i]? = (spC 0)[wPiC i]? := by
      rcases i with _ | _ | _ | _ | _ | _ | _ | _ | _ | _ | _ | _ | _ | _ | _ | _ | _ | _ | _ | _ | _ | _ | _ | _ | _ | _ | _ | _ | i <;> first | rfl | exact absurd rfl hn | omega
    rw [e1, e2]; exact this
  unfold wPermB
  rw [List.all_eq_true]
  intro i hi
  by_cases h23 : i = 23
  · subst h23
    show wRelB wKP wPiC (wLoA aE) (wLoA aE) = true
    simp [wRelB]
  · exact h i hi h23
theorem okIX0_init : wOkI yX0_init cX0_init 1 0 := ⟨q136, q171, q172, rfl, by decide, by decide, by decide +kernel⟩
theorem okIX6_init : wOkI yX6_init cX6_init 2 0 := ⟨q145, q1394, q1395, rfl, by decide, by decide, by decide +kernel⟩
theorem wNoK {ca : wCA} : ∀ x ∈ ([] : List (Nat × Nat)), ca.1 x.1 = ca.1 x.2 := fun _ h => by cases h
/-- the reference's constructor, beside the component's world -/
theorem wl_initM {p : Program} {l : Launch} {e : Env} {s : State} {m : MethodId} {below : List Frame} {meth : Method} {c : Code} {b : Nat} {D : va_G} {ca : wCA} {A : Nat → Prop} {Z : (Nat → Prop) → State → Heap → Prop} {aE kc ks : Nat} {q : Nat → Nat} {μ r0 : wMem} {lv : List (Nat × Value)} (K : wLc p s m meth c b D ca A Z) {N : Nat} (hf : fX6_init N (wMp (fun _ => 28) μ) = some r0) (C : wC p room_1 s m #[Value.ref b] meth c code R_law 4 ret D vwCl (spX1 aE ++ [wMo]) q ca A) (hk1 : kc + 23 ≤ 1131106) (hk2 : ks + 487793 ≤ 5695108) (k : ∀ u : Nat → Nat, wLJ p l e s m b below meth c (wLI D ca A s (spX1 aE) q μ u r0) (kc + 23) (ks + 487793) 15 lv [.ref (u 0)]) : wJ p l e room_1 s m #[Value.ref b] below meth c 4 D vwCl (spX1 aE ++ [wMo]) q ca A (lw_Z below #[Value.ref b] s) kc ks μ 12 lv [.ref (q 28), .ref (q 28)] := by
  intro H locs ls h1 h2 h3
  obtain ⟨o1, o2, o3, o4, o5⟩ := okIX6_init
  have hts := C.2.2.2.2.1
  have hPm := wP_perm wNoK (fun _ => 28) wPm h1
  have hPx := wP_perm wNoK (fun i => i) wPx h1
  have hlen : (spX1 aE ++ [wMo]).length = 29 := rfl
  have hl1 : (spX1 aE).length = 28 := rfl
  have hl0 : spM0.length = 1 := by decide
  have hinj : wInj spM0 (fun _ => q 28) := fun i j hi hj _ => by omega
  have hA : ∀ a, wA spM0 (fun _ => q 28) H.size a → A a := wA_in h2 (fun i hi => C.2.2.2.2.2.2.2.2.2.1 28 (by omega)) C.2.2.2.2.2.2.2.2.2.2.1
  exact va_callv (va_runI (rest := [.ref (q 28)]) (As := []) ⟨C.1, C.2.1, C.2.2.1, C.2.2.2.1, C.2.2.2.2.1⟩ (tX6_init l N (wMp (fun _ => 28) μ) r0 hf H.size) (cwI 0 hts (lw_meth o3) rfl rfl rfl (hts _ o1) (hts _ q1393) (hts _ o2) o4 o5 ⟨Nat.le_of_ble_eq_true rfl, Nat.le_of_ble_eq_true rfl⟩) ⟨w_blind, fun U hU hW => ⟨rfl, by rw [hU], by rw [hU]; exact hPm, va_K.moved hW.alike C.2.2.2.2.2.1, hinj, wNest_warm hW C.2.2.2.2.2.2.2.2.2.2.2⟩⟩ rfl rfl h3.1 rfl (lv_room (Nat.le_of_ble_eq_true rfl)) dL_law_12 ⟨hk1, hk2⟩) h2 (fun a _ h => hA a h) hA (fun u t H1 locs1 ht hvm hpost hB hz hk hS => by
    rw [ht] at hB
    have hu0 : u 0 = q 28 := hpost 0 (by decide)
    have hn : ∀ i, i < (spX1 aE).length → ¬ wA spM0 (fun _ => q 28) H.size (q i) := fun i hi h => by
      rcases h with ⟨j, hj, h⟩ | h
      · exact absurd (C.2.2.2.2.2.2.2.2.1 i 28 (by omega) (by omega) h) (by omega)
      · exact absurd (wLt h1 (i := i) (by omega)) (Nat.not_lt.mpr h)
    rw [← hu0]
    refine k u H1 locs1 ls ⟨wKeep hPx hk (fun k x hx => ?_), hB.1, hS, fun i j hi hj e => C.2.2.2.2.2.2.2.2.1 i j (by omega) (by omega) e, fun i hi => C.2.2.2.2.2.2.2.2.2.1 i (by omega), hB.2.1, fun i hi => hA _ (hB.2.2 i hi), fun i j hi hj e => hn i hi (e ▸ hB.2.2 j hj)⟩ h3
    obtain ⟨g1, g2⟩ := wWs_some hx
    rw [g2]; exact hn k g1)
theorem wNo28 {aE : Nat} : wNoRef (spX1 aE) 28 = true := by
  have h0 : wNoRef (spX1 0) 28 = true := by decide +kernel
  unfold wNoRef at h0 ⊢
  rw [List.all_eq_true] at h0 ⊢
  intro d hd
  obtain ⟨i, hi⟩ := List.getElem?_of_mem hd
  by_cases h23 : i = 23
  · subst h23
    cases hi
    show ([(0, 0), (aE + 4, 0), (0, 0)].all fun f => !(f.1 == 2 && f.2 == 28)) = true
    simp
  · have hl : i < 28 := (List.getElem?_eq_some_iff.mp hi).1
    have e1 : (spX1 aE)[i]? = (spX1 0)[i]? := by
      rcases i with _ | _ | _ | _ | _ | _ | _ | _ | _ | _ | _ | _ | _ | _ | _ | _ | _ | _ | _ | _ | _ | _ | _ | _ | _ | _ | _ | _ | i <;> first | rfl | exact absurd rfl h23 | omega
    rw [e1] at hi
    exact h0 d (List.mem_of_getElem? hi)
set_option maxHeartbeats 8000000 in
/-- THE LAW, from its entry, out of the calls' contracts -/
theorem wl_start {p : Program} {l : Launch} {e : Env} {s : State} {m : MethodId} {below : List Frame} {meth : Method} {c : Code} {b : Nat} {D : va_G} {ca : wCA} {A : Nat → Prop} {Z : (Nat → Prop) → State → Heap → Prop} {L aE : Nat} {xs : Nat → Int32} (K : wLc p s m meth c b D ca A Z) (hX : wLs b L xs s A) (hL : L ≤ 384) (hret : meth.sig.returnType = ret) (hA : ∀ a, A a → s.heap.size ≤ a ∨ ∃ cell : Cell, s.heap[a]? = some cell ∧ cell.slots.size = 0) (hZl : ∀ (B : Nat → Prop) (U : State) (H : Heap), Z B U H → wZl aE B U H) (hKP : ca.1 7881415313719326 = ca.1 7599936041975837) (hT : (wTy ca)[5]? = some (ca.1 7599936041975837, .object "OnePassport$Slot")) (hB0 : ca.1 115792089237316195423570985008687907853269984665640564039457584007913129639941 = ca.1 7599936041975837) (hB1 : ca.1 115792089237316195423570985008687907853269984665640564039457584007913129639965 = ca.1 7599936041975837) (hB2 : ca.1 115792089237316195423570985008687907853269984665640564039457584007913131278365 = ca.1 7599936041975837) (hB3 : ca.1 115792089237316195423570985008687907853269984665640564039457584008024800428061 = ca.1 7599936041975837) (Rel : Nat → List wCell → wMem → wMem → Prop) (hR0 : ∀ n sp μ μm, Rel n sp μ μm → ∃ fs, sp[0]? = some (.inl (0, fs))) (hst : ∀ n k a1 a2 a3 a4 a5 sp μ μm, Rel (n + 1) sp μ μm → ∃ sp1 μ1 μm1, Rel n sp1 μ1 μm1 ∧ wOK Z l D ca a1 a2 a3 a4 a5 sp μ μm sp1 μ1 μm1 k) (hin : ∀ μ : wMem, ∃ (N : Nat) (r0 : wMem), fX6_init N (wMp (fun _ => 28) (wZ (wMp wPiC (fX0_init μ)) 28)) = some r0 ∧ Rel 64 (spX1 aE) (wZ (wMp wPiC (fX0_init μ)) 28) r0) : W p l e room_1 s m #[Value.ref b] below meth c s.heap [] 0 0 (lw_Z below #[Value.ref b] s) (entryFrame m ([Value.ref b] : List Value).toArray 4) := by
  have K0 := K
  obtain ⟨k1, k2, k3, k4, k5, k6, k7, k8, k9, k10, k11, k12⟩ := K0
  have C : wC p room_1 s m #[Value.ref b] meth c code R_law 4 ret D vwCl [] (fun _ => 0) ca A := ⟨k1, k2, k3, k4, k5, k6, k7, k8, fun i j hi hj _ => absurd hi (Nat.not_lt_zero i), fun i hi => absurd hi (Nat.not_lt_zero i), k9, k10⟩
  have hJ : wJ p l e room_1 s m #[Value.ref b] below meth c 4 D vwCl [] (fun _ => 0) ca A (lw_Z below #[Value.ref b] s) 0 0 (fun _ _ => 0, fun _ _ => 0) 0 [(0, .ref b)] [] := by
    refine wr_newO (fs := [(3, 0), (3, 0), (0, 0), (0, 0), (0, 0), (0, 0), (0, 0), (0, 0), (3, 0), (0, 0), (0, 0), (0, 0), (0, 0), (3, 0), (3, 0), (3, 0), (3, 0), (3, 0), (3, 0), (3, 0), (0, 0), (0, 0), (3, 0), (0, 0), (3, 0), (3, 0), (3, 0), (3, 0), (0, 0), (0, 0), (0, 0), (0, 0), (3, 0), (3, 0)]) (ci := 0) (kc1 := 1) (ks1 := 34) 0 C dL_law_0 in_X0 tyX0 tyX0_ok q168 q169 q136 rfl (by decide) rfl rfl ⟨Nat.le_of_ble_eq_true rfl, Nat.le_of_ble_eq_true rfl⟩ 0 rfl (by decide +kernel) rfl rfl spC0 rfl ?_
    intro q2 hq2 C2
    refine wr_dup 3 C2 dL_law_3 rfl ?_
    refine wr_IKv (kc1 := 28) (ks1 := 624800) (As := []) (b := 0) 4 [.ref (q2 0)] C2 dL_law_4 (tX0_init l (aE := aE) hT hB0 hB1 hB2 hB3 _) okIX0_init q170 wZl_ok (hZl _ _ _ k12) ⟨rfl, rfl, Nat.le_of_ble_eq_true rfl, Nat.le_of_ble_eq_true rfl, Nat.le_of_ble_eq_true rfl, Nat.le_of_ble_eq_true rfl⟩ (Nat.le_of_ble_eq_true rfl) rfl ?_
    intro q3 hq3 C3
    have e30 : q2 0 = q3 0 := (hq3 0 (by decide)).symm
    rw [e30]
    refine wr_perm (KP := wKP) (fun x hx => by rw [List.mem_singleton.mp hx]; exact hKP) wPiC (spX1 aE) (fun i d h => wPermB_ok wPermC i d h) wPiC_inj 7 C3 ?_
    intro q4 hq4 C4
    have e40 : q3 0 = q4 0 := (hq4 0).symm
    rw [e40]
    refine wr_astore_n 7 [(1, .ref (q4 0)), (0, .ref b)] C4 dL_law_7 rfl rfl (by decide) rfl ?_
    refine wr_newO (fs := [(0, 0), (3, 0), (3, 0), (3, 0), (3, 0), (3, 0), (0, 0), (0, 0), (0, 0), (0, 0), (0, 0), (1, 0), (0, 0), (0, 0), (0, 0), (0, 0), (3, 0), (3, 0), (3, 0), (3, 0), (3, 0), (3, 0), (3, 0), (0, 0), (0, 0), (0, 0), (0, 0), (0, 0), (0, 0), (0, 0), (0, 0), (3, 0), (3, 0), (3, 0), (0, 0), (3, 0), (0, 0), (0, 0), (0, 0), (3, 0), (0, 0), (3, 0), (3, 0), (3, 0), (3, 0), (3, 0), (3, 0), (0, 0)]) (ci := 6) (kc1 := 29) (ks1 := 624848) 8 C4 dL_law_8 in_X6 tyX6 tyX6_ok q1391 q1392 q145 rfl (by decide) rfl rfl ⟨Nat.le_of_ble_eq_true rfl, Nat.le_of_ble_eq_true rfl⟩ 28 rfl wNo28 rfl rfl (spX1 aE ++ [wMo]) rfl ?_
    intro q5 hq5 C5
    have e50 : q4 0 = q5 0 := (hq5 0 (by decide)).symm
    rw [e50]
    refine wr_dup 11 C5 dL_law_11 rfl ?_
    obtain ⟨N, r0, hf, hR⟩ := hin (wZ (fun _ _ => 0, fun _ _ => 0) 0)
    refine wl_initM K hf C5 (Nat.le_of_ble_eq_true rfl) (Nat.le_of_ble_eq_true rfl) (fun u => ?_)
    refine wl_astore_n (lv' := [(2, .ref (u 0)), (1, .ref (q5 0)), (0, .ref b)]) 15 K dL_law_15 rfl (by decide) rfl ?_
    refine wl_iconst 16 K dL_law_16 (v := nI 0) rfl ?_
    refine wl_istore_n (lv' := wLv b (q5 0) (u 0) (nI 0)) 17 K dL_law_17 rfl (by decide) rfl ?_
    exact wl_loop K hX hL hret hA Rel hR0 hst 64 0 (spX1 aE) q5 u _ _ _ _ (by omega) (by decide) hR (Nat.le_of_ble_eq_true rfl) (Nat.le_of_ble_eq_true rfl)
  have hl := lv_entry ([.ref b]) (n := 4) (Nat.le_of_ble_eq_true rfl)
  rw [lg_entry_eq]
  exact hJ s.heap [] _ (fun k x hx => by cases hx) va_S.rf hl
