set_option maxRecDepth 100000
/-! part 999999991: the law out of the relation -/
set_option maxHeartbeats 8000000 in
/-- THE LAW, from its entry, out of the calls' contracts -/
theorem wl_start2 {p : Program} {l : Launch} {e : Env} {s : State} {m : MethodId} {below : List Frame} {meth : Method} {c : Code} {b : Nat} {D : va_G} {ca : wCA} {A : Nat → Prop} {Z : (Nat → Prop) → State → Heap → Prop} {L aE : Nat} {xs : Nat → Int32} (K : wLc p s m meth c b D ca A Z) (hX : wLs b L xs s A) (hL : L ≤ 384) (hret : meth.sig.returnType = ret) (hA : ∀ a, A a → s.heap.size ≤ a ∨ ∃ cell : Cell, s.heap[a]? = some cell ∧ cell.slots.size = 0) (hZl : ∀ (B : Nat → Prop) (U : State) (H : Heap), Z B U H → wZl aE B U H) (hKP : ca.1 7881415313719326 = ca.1 7599936041975837) (hT : (wTy ca)[5]? = some (ca.1 7599936041975837, .object "OnePassport$Slot")) (hB0 : ca.1 115792089237316195423570985008687907853269984665640564039457584007913129639941 = ca.1 7599936041975837) (hB1 : ca.1 115792089237316195423570985008687907853269984665640564039457584007913129639965 = ca.1 7599936041975837) (hB2 : ca.1 115792089237316195423570985008687907853269984665640564039457584007913131278365 = ca.1 7599936041975837) (hB3 : ca.1 115792089237316195423570985008687907853269984665640564039457584008024800428061 = ca.1 7599936041975837) (Rel : Nat → List wCell → wMem → wMem → Prop) (hR0 : ∀ n sp μ μm, Rel n sp μ μm → ∃ fs, sp[0]? = some (.inl (0, fs))) (hst : ∀ n k a1 a2 a3 a4 a5 sp μ μm, Rel (n + 1) sp μ μm → ∃ sp1 μ1 μm1, Rel n sp1 μ1 μm1 ∧ wOK Z l D ca a1 a2 a3 a4 a5 sp μ μm sp1 μ1 μm1 k) (hin : ∃ (N : Nat) (r0 : wMem), fX6_init N (wMp (fun _ => 28) (wZ (wMp wPiC (fX0_init zM0)) 28)) = some r0 ∧ Rel 64 (spX1 aE) (wZ (wMp wPiC (fX0_init zM0)) 28) r0) : W p l e room_1 s m #[Value.ref b] below meth c s.heap [] 0 0 (lw_Z below #[Value.ref b] s) (entryFrame m ([Value.ref b] : List Value).toArray 4) := by
  have K0 := K
  obtain ⟨k1, k2, k3, k4, k5, k6, k7, k8, k9, k10, k11, k12⟩ := K0
  have C : wC p room_1 s m #[Value.ref b] meth c code R_law 4 ret D vwCl [] (fun _ => 0) ca A := ⟨k1, k2, k3, k4, k5, k6, k7, k8, fun i j hi hj _ => absurd hi (Nat.not_lt_zero i), fun i hi => absurd hi (Nat.not_lt_zero i), k9, k10⟩
  have hJ : wJ p l e room_1 s m #[Value.ref b] below meth c 4 D vwCl [] (fun _ => 0) ca A (lw_Z below #[Value.ref b] s) 0 0 (fun _ _ => 0, fun _ _ => 0) 0 [(0, .ref b)] [] := by
    refine wr_newO (fs := [(3, 0), (3, 0), (0, 0), (0, 0), (0, 0), (0, 0), (0, 0), (0, 0), (3, 0), (0, 0), (0, 0), (0, 0), (0, 0), (3, 0), (3, 0), (3, 0), (3, 0), (3, 0), (3, 0), (3, 0), (0, 0), (0, 0), (3, 0), (0, 0), (3, 0), (3, 0), (3, 0), (3, 0), (0, 0), (0, 0), (0, 0), (0, 0), (3, 0), (3, 0)]) (ci := 0) (kc1 := 1) (ks1 := 34) 0 C dL_law_0 in_X0 tyX0 tyX0_ok q168 q169 q136 rfl (by decide) rfl rfl ⟨Nat.le_of_ble_eq_true rfl, Nat.le_of_ble_eq_true rfl⟩ 0 rfl (by decide +kernel) rfl rfl spC0 rfl ?_
    intro q2 hq2 C2
    refine wr_dup 3 C2 dL_law_3 rfl ?_
    refine wr_IKv (kc1 := 28) (ks1 := 624800) (As := []) (b := 0) 4 [.ref (q2 0)] C2 dL_law_4 (tX0_init l (aE := aE) hT hB0 hB1 hB2 hB3 _) okIX0_init q170 wZl_ok (hZl _ _ _ k12) ⟨rfl, rfl, Nat.le_of_ble_eq_true rfl, Nat.le_of_ble_eq_true rfl, Nat.le_of_ble_eq_true rfl, Nat.le_of_ble_eq_true rfl⟩ (Nat.le_of_ble_eq_true rfl) rfl ?_
    intro q3 hq3 C3
    have e30 : q2 0 = q3 0 := (hq3 0 (by decide)).symm
    rw [e30]
    refine wr_perm (KP := wKP) (fun x hx => by rw [List.mem_singleton.mp hx]; exact hKP) wPiC (spX1 aE) (fun i d h => wPermB_ok wPermC i d h) wPiC_inj 7 C3 ?_
    intro q4 hq4 C4
    have e40 : q3 0 = q4 0 := (hq4 0).symm
    rw [e40]
    refine wr_astore_n 7 [(1, .ref (q4 0)), (0, .ref b)] C4 dL_law_7 rfl rfl (by decide) rfl ?_
    refine wr_newO (fs := [(0, 0), (3, 0), (3, 0), (3, 0), (3, 0), (3, 0), (0, 0), (0, 0), (0, 0), (0, 0), (0, 0), (1, 0), (0, 0), (0, 0), (0, 0), (0, 0), (3, 0), (3, 0), (3, 0), (3, 0), (3, 0), (3, 0), (3, 0), (0, 0), (0, 0), (0, 0), (0, 0), (0, 0), (0, 0), (0, 0), (0, 0), (3, 0), (3, 0), (3, 0), (0, 0), (3, 0), (0, 0), (0, 0), (0, 0), (3, 0), (0, 0), (3, 0), (3, 0), (3, 0), (3, 0), (3, 0), (3, 0), (0, 0)]) (ci := 6) (kc1 := 29) (ks1 := 624848) 8 C4 dL_law_8 in_X6 tyX6 tyX6_ok q1391 q1392 q145 rfl (by decide) rfl rfl ⟨Nat.le_of_ble_eq_true rfl, Nat.le_of_ble_eq_true rfl⟩ 28 rfl wNo28 rfl rfl (spX1 aE ++ [wMo]) rfl ?_
    intro q5 hq5 C5
    have e50 : q4 0 = q5 0 := (hq5 0 (by decide)).symm
    rw [e50]
    refine wr_dup 11 C5 dL_law_11 rfl ?_
    obtain ⟨N, r0, hf, hR⟩ := hin
    refine wl_initM K hf C5 (Nat.le_of_ble_eq_true rfl) (Nat.le_of_ble_eq_true rfl) (fun u => ?_)
    refine wl_astore_n (lv' := [(2, .ref (u 0)), (1, .ref (q5 0)), (0, .ref b)]) 15 K dL_law_15 rfl (by decide) rfl ?_
    refine wl_iconst 16 K dL_law_16 (v := nI 0) rfl ?_
    refine wl_istore_n (lv' := wLv b (q5 0) (u 0) (nI 0)) 17 K dL_law_17 rfl (by decide) rfl ?_
    exact wl_loop K hX hL hret hA Rel hR0 hst 64 0 (spX1 aE) q5 u _ _ _ _ (by omega) (by decide) hR (Nat.le_of_ble_eq_true rfl) (Nat.le_of_ble_eq_true rfl)
  have hl := lv_entry ([.ref b]) (n := 4) (Nat.le_of_ble_eq_true rfl)
  rw [lg_entry_eq]
  exact hJ s.heap [] _ (fun k x hx => by cases hx) va_S.rf hl
/-- wPlain, at the one memory that is met -/
def wPlain2 (l : Launch) : Prop := ∀ (D : va_G) (ca : wCA) (aE : Nat) (ad adK adV : Nat → Nat) (fo : Option Nat), wGood ca → wAd ad → ∃ Rel : Nat → List wCell → wMem → wMem → Prop, (∀ n sp μ μm, Rel n sp μ μm → ∃ fs, sp[0]? = some (.inl (0, fs))) ∧ (∀ n k a1 a2 a3 a4 a5 sp μ μm, Rel (n + 1) sp μ μm → ∃ sp1 μ1 μm1, Rel n sp1 μ1 μm1 ∧ wOK (wZa aE ad adK adV fo) l D ca a1 a2 a3 a4 a5 sp μ μm sp1 μ1 μm1 k) ∧ ∃ (N : Nat) (r0 : wMem), fX6_init N (wMp (fun _ => 28) (wZ (wMp wPiC (fX0_init zM0)) 28)) = some r0 ∧ Rel 64 (spX1 aE) (wZ (wMp wPiC (fX0_init zM0)) 28) r0
theorem wl_whole2 {p : Program} {e : Env} {s : State} {m : MethodId} {below : List Frame} {meth : Method} {c : Code} (l : Launch) (hflags : l.flags = flags0) {b L : Nat} {xs : Nat → Int32} (hL : L ≤ 384) (hp : l.stackTraces = false → wPlain2 l) (C0 : lw_At p s m meth c b L xs) : W p l e room_1 s m #[Value.ref b] below meth c s.heap [] 0 0 (lw_Z below #[Value.ref b] s) (entryFrame m ([Value.ref b] : List Value).toArray 4) := by
  obtain ⟨hx, hb, hr, hml, hown, h0, hX, hbl, hlocks, hgv⟩ := C0
  have hts : ∀ w ∈ lw_all, w.before #[Value.ref b] s = true := fun w h => h0 w (lw_all_tbl h)
  obtain ⟨D, ca, hg, hK⟩ := wl_known hts h0
  obtain ⟨hN, aE, ad, adK, adV, fo, hAd, hZ⟩ := wl_prem h0 hts hgv
  have hst : l.stackTraces = false := by
    unfold Launch.stackTraces
    rw [hflags]
    decide
  obtain ⟨Rel, r1, r2, r3⟩ := hp hst D ca aE ad adK adV fo hg hAd
  have K : wLc p s m meth c b D ca (fun a => s.heap.size ≤ a) (wZa aE ad adK adV fo) := ⟨hx, hb, hml, hown, hts, hK, hlocks, hr, fun _ h => h, hN, wZa_ok, hZ⟩
  obtain ⟨g1, g2, g3, g4⟩ := hg
  exact wl_start2 K ⟨hX, hbl, Nat.not_le.mpr hbl, by omega⟩ hL hr (fun a h => Or.inl h) (fun B U H h => h.2) (g2 _ (by decide +kernel)).symm (by rw [g2 _ (by decide +kernel)]; exact g1) (by rw [g2 115792089237316195423570985008687907853269984665640564039457584007913129639941 (by decide +kernel), g2 7599936041975837 (by decide +kernel)]) (by rw [g2 115792089237316195423570985008687907853269984665640564039457584007913129639965 (by decide +kernel), g2 7599936041975837 (by decide +kernel)]) (by rw [g2 115792089237316195423570985008687907853269984665640564039457584007913131278365 (by decide +kernel), g2 7599936041975837 (by decide +kernel)]) (by rw [g2 115792089237316195423570985008687907853269984665640564039457584008024800428061 (by decide +kernel), g2 7599936041975837 (by decide +kernel)]) Rel r1 r2 r3
theorem zPlain {l : Launch} (W : yBnd) (hl : l.stackTraces = false) : wPlain2 l := fun D ca aE ad adK adV fo hg hA =>
  ⟨zRel ca aE, fun n sp μ μm R => R.obj, fun n k a1 a2 a3 a4 a5 sp μ μm R => zStep W hl hg hA n k a1 a2 a3 a4 a5 sp μ μm R, zStart0 hg aE⟩
/-- the law from its entry, under the bound -/
theorem zWhole (hW : yBnd) {p : Program} {e : Env} {s : State} {m : MethodId} {below : List Frame} {meth : Method} {c : Code} (l : Launch) (hflags : l.flags = flags0) {b L : Nat} {xs : Nat → Int32} (hL : L ≤ 384) (C0 : lw_At p s m meth c b L xs) : W p l e room_1 s m #[Value.ref b] below meth c s.heap [] 0 0 (lw_Z below #[Value.ref b] s) (entryFrame m ([Value.ref b] : List Value).toArray 4) :=
  wl_whole2 l hflags hL (fun h => zPlain hW h) C0
