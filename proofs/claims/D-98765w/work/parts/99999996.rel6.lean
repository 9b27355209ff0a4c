set_option maxRecDepth 100000
/-! part 99999996: family() in the relation -/
theorem zRef_lt {sp : List wCell} (h : wClosed sp) {o : Nat × List (Nat × Nat)} (hd : (Sum.inl o : wCell) ∈ sp) {y : Nat × Nat} (hy : y ∈ o.2) (he : y.1 = 2) : y.2 < sp.length := by
  rcases Nat.lt_or_ge y.2 sp.length with g | g
  · exact g
  · have a := wNoRef_iff.mp (h _ g) _ hd
    have b : o.2.all (fun f => !(f.1 == 2 && f.2 == y.2)) = true := a
    have c := List.all_eq_true.mp b y hy
    rw [he] at c
    simp at c
theorem zSf_cl {E : List wCell} (h : wClosed (spX ++ E)) (h0 : 0 < (spX ++ E).length) : wClosed (wSf E) := by
  have a : wClosed (spX ++ (E ++ [wRd0])) := by
    rw [← List.append_assoc]
    exact h.addF (by decide)
  refine a.set (fun f hf he => ?_)
  rw [← List.append_assoc, List.length_append]
  simp only [List.mem_cons, List.not_mem_nil, or_false] at hf
  rcases hf with e | e | e | e | e | e | e <;> rw [e] at he ⊢ <;> first | exact absurd he (by decide) | (show 0 < _; omega)
theorem zRW_old {E : List wCell} {a i : Nat} (hi : i < (spX ++ E).length) : (wRW (wSf E) (spX ++ E).length a)[i]? = (spX ++ E)[i]? := by
  have l1 := wSf_len (E := E)
  unfold wRW
  rw [List.getElem?_set_ne (by omega), wFw6_old (by omega) (by rw [List.length_append]; omega), List.getElem?_append_left (by omega)]
  exact wSf_old hi
theorem zXf_lt {f m : Nat} (h1 : f < m) (h2 : 28 ≤ m) : ∀ y ∈ (match wXf f with | .inl o => o.2 | .inr _ => []), y.1 = 2 → y.2 < m := by
  intro y hy he
  have all : ∀ z ∈ (match wXf 0 with | .inl o => o.2 | .inr _ => []).tail, z.1 = 2 → z.2 < 28 := by decide
  rcases List.mem_cons.mp (show y ∈ (2, f) :: (match wXf 0 with | .inl o => o.2 | .inr _ => []).tail from hy) with e | e
  · rw [e]; exact h1
  · have := all y e he
    omega
theorem zVf_cl {E : List wCell} {a : Nat} (h : wClosed (spX ++ E)) (hl : 28 ≤ (spX ++ E).length) : wClosed (wVf E a) := by
  have l1 := wSf_len (E := E)
  have c1 := wRW_cl (S := wSf E) (b := (spX ++ E).length) (zSf_cl h (by omega)) (by omega) a
  refine c1.set (fs := match wXf (wSf E).length with | .inl o => o.2 | .inr _ => []) (ci := 0) ?_
  rw [wRW_len]
  exact zXf_lt (by omega) (by omega)
theorem zSwap_mem {f : Nat} {V : List wCell} {d : wCell} (h : d ∈ wSwap f V) : (∃ e, e ∈ V ∧ d = wRn f e) ∨ d = wRn f (.inr (0, 0)) := by
  unfold wSwap at h
  obtain ⟨i, _, rfl⟩ := List.mem_map.mp h
  rcases Nat.lt_or_ge (wSw f i) V.length with g | g
  · left
    refine ⟨V[wSw f i], List.getElem_mem g, ?_⟩
    rw [List.getD_eq_getElem?_getD, List.getElem?_eq_getElem g]
    rfl
  · right
    rw [List.getD_eq_getElem?_getD, List.getElem?_eq_none g]
    rfl
theorem zSwap_cl {f : Nat} {V : List wCell} (hf : 8 ≤ f) (hn : f + 7 ≤ V.length) (h : wClosed V) : wClosed (wSwap f V) := fun n hn2 => by
  rw [wSwap_len] at hn2
  refine wNoRef_iff.mpr fun d hd => ?_
  rcases zSwap_mem hd with ⟨e, he, rfl⟩ | rfl
  · match e, he with
    | .inl o, he =>
      show (o.2.map (wRnF f)).all (fun x => !(x.1 == 2 && x.2 == n)) = true
      refine List.all_eq_true.mpr fun x hx => ?_
      obtain ⟨y, hy, rfl⟩ := List.mem_map.mp hx
      unfold wRnF
      by_cases g : y.1 = 2
      · rw [if_pos g]
        have lt := zRef_lt h he hy g
        have lt2 := wSw_lt hf hn lt
        have : ¬ wSw f y.2 = n := by omega
        simp [this]
      · rw [if_neg g]
        simp [g]
    | .inr a, he => exact wNoRef_iff.mp (h n hn2) _ he
  · rfl
theorem zSwap_dg {f : Nat} {V : List wCell} (h : ∀ t n, (Sum.inr (t, n) : wCell) ∈ V → 4 < t → ∀ i, i < 16 → wRd t i ≠ 0 → 8 ≤ wRd t i - 1) : wDg8 (wSwap f V) := fun t n hm h4 => by
  rcases zSwap_mem hm with ⟨e, he, q⟩ | q
  · match e, he, q with
    | .inl o, _, q => cases q
    | .inr a, he, q =>
      injection q with q
      rw [← q] at he
      exact h t n he h4
  · injection q with q
    injection q with q1 q2
    omega
theorem zSwap_old {f : Nat} {sp V : List wCell} (hc : wClosed sp) (hf : sp.length ≤ f) (hl : 28 ≤ sp.length) (hn : f + 7 ≤ V.length) (hV : ∀ i, i ≠ 0 → i < sp.length → V[i]? = sp[i]?) {i : Nat} {d : wCell} (hi : 22 ≤ i) (h : sp[i]? = some d) (hg : zGood d) : (wSwap f V)[i]? = some d := by
  have lt : i < sp.length := (List.getElem?_eq_some_iff.mp h).1
  have e1 : wSw f i = i := wSw_id (by omega) (by omega)
  have e2 : V[wSw f i]? = some d := by rw [e1, hV i (by omega) lt]; exact h
  rw [wSwap_get (by omega) e2]
  match d, h, hg with
  | .inr a, _, _ => rfl
  | .inl o, h, hg =>
    have : o.2.map (wRnF f) = o.2 := by
      refine List.map_congr_left (g := id) (fun y hy => ?_) |>.trans (List.map_id _)
      unfold wRnF
      by_cases g : y.1 = 2
      · rw [if_pos g]
        have a := hg y hy g
        have b := zRef_lt hc (List.mem_of_getElem? h) hy g
        rw [wSw_id (by omega) (by omega), ← g]
        rfl
      · rw [if_neg g]
        rfl
    show some (Sum.inl (o.1, o.2.map (wRnF f))) = _
    rw [this]
theorem zKT.kf {μ ν : wMem} (h : zKT μ ν) : zKf μ ν := fun c i h1 h2 h6 h7 h8 h9 h10 h11 => h.1 c i (by omega) h6 h7 h8 h9 h10 h11
/-- the memory behind a text that is none -/
theorem zFl {μ9 : wMem} {q L fr : Nat} {kk : Int32} (h0 : 0 < L) (hq : L < q) (r3 : μ9.1 L 3 = nI fr) {N : wMem} (hN : N = wSI (wSI (wSI (wFm μ9 q kk ((wZ μ9 q).1 L 3)) 0 3 ((wFm μ9 q kk ((wZ μ9 q).1 L 3)).1 q 6)) 0 4 ((wSI (wFm μ9 q kk ((wZ μ9 q).1 L 3)) 0 3 ((wFm μ9 q kk ((wZ μ9 q).1 L 3)).1 q 6)).1 q 7)) 0 2 0) : N.1 0 2 = 0 ∧ N.1 0 3 = kk ∧ N.1 0 4 = nI fr ∧ ∀ c, c ≠ 0 → c < L → N.1 c = μ9.1 c ∧ N.2 c = μ9.2 c := by
  have z3 : (wZ μ9 q).1 L 3 = nI fr := by
    rw [(yZ_o μ9 (n := q) (c := L) (by omega)).1]
    exact r3
  have m6 : (wFm μ9 q kk (nI fr)).1 q 6 = kk := by
    unfold wFm
    rw [yS_get, if_neg (by omega), yS_get, if_pos ⟨rfl, rfl⟩]
  have m7 : (wSI (wFm μ9 q kk (nI fr)) 0 3 kk).1 q 7 = nI fr := by
    rw [yS_get, if_neg (by omega)]
    unfold wFm
    rw [yS_get, if_pos ⟨rfl, rfl⟩]
  rw [z3, m6, m7] at hN
  subst hN
  refine ⟨by rw [yS_get, if_pos ⟨rfl, rfl⟩], by rw [yS_get, if_neg (by omega), yS_get, if_neg (by omega), yS_get, if_pos ⟨rfl, rfl⟩], by rw [yS_get, if_neg (by omega), yS_get, if_pos ⟨rfl, rfl⟩], fun c a b => ?_⟩
  have z := yZ_o μ9 (n := q) (c := c) (by omega)
  refine ⟨by rw [zS_row _ a, zS_row _ a, zS_row _ a]; unfold wFm; rw [zS_row _ (by omega), zS_row _ (by omega)]; exact z.1, z.2⟩
theorem zTake {sp V : List wCell} {E : List wCell} (e : sp = spX ++ E) (l : 22 ≤ sp.length) (lV : 22 ≤ V.length) (old : ∀ i, i < sp.length → V[i]? = sp[i]?) : V = spX ++ V.drop 22 := by
  have h22 : spX.length = 22 := rfl
  have t : spX = V.take 22 := List.ext_getElem? fun j => by
    rcases Nat.lt_or_ge j 22 with q | q
    · rw [List.getElem?_take_of_lt q, old j (by omega), e, List.getElem?_append_left (by rw [h22]; exact q)]
    · rw [List.getElem?_eq_none (by rw [h22]; exact q), List.getElem?_eq_none (by rw [List.length_take]; omega)]
  exact ((congrArg (fun z => z ++ V.drop 22) t).trans (List.take_append_drop 22 V)).symm
/-- behind a text that is none -/
theorem zFail {ca : wCA} {aE n : Nat} {E : List wCell} {μ μm ν νm : wMem} (R : zRel ca aE (n + 1) (spX ++ E) μ μm) (a : Nat) (nc : ∀ c, c ≠ 0 → c < (spX ++ E).length → ν.1 c = μ.1 c ∧ ν.2 c = μ.2 c) (T : zTF ν νm) (kT : zKT μm νm) (kF : ∀ c j, 6 ≤ c → c ≤ 11 → (c = 6 → j ≠ 4) → (c = 7 → j < 28) → (c = 8 → j < 24) → (c = 9 → j < 24) → (c = 10 → j < 24) → νm.1 c j = μm.1 c j) : zRel ca aE n (wRW (wSf E) (spX ++ E).length a ++ [wFlt]) ν νm := by
  obtain ⟨_, cs, φ, _, Sh, ⟨O, G, Wf, F, M⟩, _, Q, X, I⟩ := id R
  have l28 := Sh.1
  have l1 := wSf_len (E := E)
  have O6 := O.persons
  have O2 := O.posts
  have lR : (wRW (wSf E) (spX ++ E).length a).length = (spX ++ E).length + 8 := by rw [wRW_len, l1]
  have l9 : (wRW (wSf E) (spX ++ E).length a ++ [wFlt]).length = (spX ++ E).length + 9 := by
    rw [List.length_append, lR]
    rfl
  have old : ∀ i, i < (spX ++ E).length → (wRW (wSf E) (spX ++ E).length a ++ [wFlt])[i]? = (spX ++ E)[i]? := fun i hi => by
    rw [List.getElem?_append_left (by omega)]
    exact zRW_old hi
  have hold : zHold (spX ++ E) (wRW (wSf E) (spX ++ E).length a ++ [wFlt]) := fun i d _ _ h _ => by
    rw [old i (List.getElem?_eq_some_iff.mp h).1]
    exact h
  have sh : zShp ca n (wRW (wSf E) (spX ++ E).length a ++ [wFlt]) := by
    refine ⟨by rw [l9]; omega, by rw [l9]; have := Sh.2.1; omega, (wRW_cl (zSf_cl Sh.2.2.1 (by omega)) (by omega) a).addF (by decide), fun t n hmm h4 => ?_, by rw [old 22 (by omega)]; exact Sh.2.2.2.2.1, Sh.2.2.2.2.2⟩
    rcases List.mem_append.mp hmm with q | q
    · exact Sh.2.2.2.1 t n (wVf_new q h4) h4
    · cases List.mem_singleton.mp q
  refine R.grow (zTake rfl (by omega) (by omega) old) sh hold (ψ := φ) ⟨O, G, Wf, yKC2.fam F (fun c h1 h2 => (nc c (by omega) (by omega)).1), ?_⟩ T (ySn_of Q fun c j hc => kT.1 c j (by omega) (by omega) (by omega) (by omega) (by omega) (by omega) (by omega)) (fun c a b => nc c (by omega) b) (fun j hj => ⟨kT.1 1 j (by omega) (by omega) (by omega) (by omega) (by omega) (by omega) (by omega), kT.1 2 j (by omega) (by omega) (by omega) (by omega) (by omega) (by omega) (by omega)⟩) (fun j => kT.2 3 j (by omega)) kT.kf
  obtain ⟨⟨a0, a1, a2, a3, a4, a5, a6, a7⟩, b1, b2, b3, b4⟩ := M
  refine ⟨⟨?_, ?_, ?_, ?_, ?_, ?_, ?_, ?_⟩, fun i hi => ?_, fun i hi => ?_, fun i hi => ?_, fun i hi => ?_⟩
  · rw [kF _ _ (by omega) (by omega) (by omega) (by omega) (by omega) (by omega) (by omega)]; exact a0
  · rw [kF _ _ (by omega) (by omega) (by omega) (by omega) (by omega) (by omega) (by omega)]; exact a1
  · rw [kF _ _ (by omega) (by omega) (by omega) (by omega) (by omega) (by omega) (by omega)]; exact a2
  · rw [kF _ _ (by omega) (by omega) (by omega) (by omega) (by omega) (by omega) (by omega)]; exact a3
  · rw [kF _ _ (by omega) (by omega) (by omega) (by omega) (by omega) (by omega) (by omega)]; exact a4
  · rw [kF _ _ (by omega) (by omega) (by omega) (by omega) (by omega) (by omega) (by omega)]; exact a5
  · rw [kF _ _ (by omega) (by omega) (by omega) (by omega) (by omega) (by omega) (by omega)]; exact a6
  · rw [kF _ _ (by omega) (by omega) (by omega) (by omega) (by omega) (by omega) (by omega)]; exact a7
  · rw [kF _ _ (by omega) (by omega) (by omega) (by omega) (by omega) (by omega) (by omega)]; exact b1 i hi
  · rw [kF _ _ (by omega) (by omega) (by omega) (by omega) (by omega) (by omega) (by omega)]; exact b2 i hi
  · rw [kF _ _ (by omega) (by omega) (by omega) (by omega) (by omega) (by omega) (by omega), kF _ _ (by omega) (by omega) (by omega) (by omega) (by omega) (by omega) (by omega), kF _ _ (by omega) (by omega) (by omega) (by omega) (by omega) (by omega) (by omega)]; exact b3 i hi
  · rw [kF _ _ (by omega) (by omega) (by omega) (by omega) (by omega) (by omega) (by omega)]; exact b4 i hi
theorem zc_2 {aE : Nat} {ad adK adV : Nat → Nat} {fo : Option Nat} {l : Launch} {D : va_G} {ca : wCA} (a1 a2 a3 a4 a5 : Int32) {E : List wCell} {μ μm : wMem} {n : Nat} (W : yBnd) (hl : l.stackTraces = false) (R : zRel ca aE (n + 1) (spX ++ E) μ μm) (hA : wAd ad) : ∃ sp1 μ1 μm1, zRel ca aE n sp1 μ1 μm1 ∧ wO_2 (wZa aE ad adK adV fo) l D ca a1 a2 a3 a4 a5 (spX ++ E) μ μm sp1 μ1 μm1 := by
  obtain ⟨_, cs, φ, _, Sh, ⟨O, G, Wf, F, M⟩, T, Q, X, I⟩ := id R
  have l28 := Sh.1
  have l1 := wSf_len (E := E)
  obtain ⟨m, T1⟩ := T.1
  have h22 : spX.length = 22 := rfl
  rcases z_family (L := (spX ++ E).length) l28 T1 (N := zN) (Nat.le_of_ble_eq_true rfl) with ⟨i, μ1, t9, μ9, ψ, νm, c1, r1, hm, F9, Fm, Oψ, h60, Wψ, kk, kT, e6, e14, e15⟩ | ⟨i, μ1, t9, μ9, k, fr, νm, c1, r1, r3, hm, kk, kT, kF, e6, e14, e15⟩
  · have hv : ((wSI (wSI μ9 0 3 0) 0 4 (-1)).1 (wSf E).length 1) = nI (ψ 0 1) := by
      rw [l1, yS_get, if_neg (by omega), yS_get, if_neg (by omega)]
      exact F9.1 1 (by decide)
    have hw := wor_2 (a1 := a1) (a2 := a2) (a3 := a3) (a4 := a4) (a5 := a5) (aE := aE) (adK := adK) (adV := adV) (fo := fo) (l := l) (D := D) (ca := ca) l28 Sh.2.2.1 hA zN zN i t9 μ1 μ9 Sh.2.2.2.1 () (by rw [l1]; exact c1) (by rw [l1]; exact r1) zN (by rw [hv]; exact hm)
    have lV : (wVf E (ad t9)).length = (spX ++ E).length + 8 := by
      show ((wRW _ _ _).set 0 _).length = _
      rw [List.length_set, wRW_len, l1]
    have hV : ∀ i, i ≠ 0 → i < (spX ++ E).length → (wVf E (ad t9))[i]? = (spX ++ E)[i]? := fun i h0 hi => by
      show ((wRW _ _ _).set 0 _)[i]? = _
      rw [List.getElem?_set_ne (by omega)]
      exact zRW_old hi
    have fm := wVf_fam (a := ad t9) l28
    have old := fun {i : Nat} {d : wCell} => zSwap_old (i := i) (d := d) (f := (wSf E).length) (V := wVf E (ad t9)) Sh.2.2.1 (by omega) l28 (by omega) hV
    have hold : zHold (spX ++ E) (wSwap (wSf E).length (wVf E (ad t9))) := fun i d hi _ h hg => old hi h hg
    have sh : zShp ca n (wSwap (wSf E).length (wVf E (ad t9))) := by
      refine ⟨by rw [wSwap_len, lV]; omega, by rw [wSwap_len, lV]; have := Sh.2.1; omega, zSwap_cl (by omega) (by omega) (zVf_cl Sh.2.2.1 l28), zSwap_dg (fun t n hmm h4 => ?_), old (by omega) Sh.2.2.2.2.1 trivial, Sh.2.2.2.2.2⟩
      rcases List.mem_or_eq_of_mem_set hmm with q | q
      · exact Sh.2.2.2.1 t n (wVf_new q h4) h4
      · cases q
    have w0 : ∀ c, 8 ≤ c → c < (spX ++ E).length → wSw (wSf E).length c = c := fun c a b => wSw_id a (by omega)
    have sw : ∀ j, j < 7 → wSw (wSf E).length (1 + j) = (wSf E).length + j := fun j hj => wSw_lo hj
    have mc : ∀ c, c ≠ 0 → (wSI (wSI (wSI μ9 0 3 0) 0 4 (-1)) 0 2 0).1 c = μ9.1 c := fun c hc => by rw [zS_row _ hc, zS_row _ hc, zS_row _ hc]
    have nu : ∀ c, (wMp (wSw (wSf E).length) (wSI (wSI (wSI μ9 0 3 0) 0 4 (-1)) 0 2 0)).1 c = (wSI (wSI (wSI μ9 0 3 0) 0 4 (-1)) 0 2 0).1 (wSw (wSf E).length c) := fun _ => rfl
    have nu2 : ∀ c, (wMp (wSw (wSf E).length) (wSI (wSI (wSI μ9 0 3 0) 0 4 (-1)) 0 2 0)).2 c = μ9.2 (wSw (wSf E).length c) := fun _ => rfl
    have n0 : ∀ j, (wMp (wSw (wSf E).length) (wSI (wSI (wSI μ9 0 3 0) 0 4 (-1)) 0 2 0)).1 0 j = (wSI (wSI (wSI μ9 0 3 0) 0 4 (-1)) 0 2 0).1 0 j := fun j => by rw [nu, wSw_0 (by omega)]
    have nf : ∀ j, j < 7 → (wMp (wSw (wSf E).length) (wSI (wSI (wSI μ9 0 3 0) 0 4 (-1)) 0 2 0)).1 (1 + j) = μ9.1 ((spX ++ E).length + 1 + j) := fun j hj => by rw [nu, sw j hj, mc _ (by omega), l1]
    have nc : ∀ c, 8 ≤ c → c < (spX ++ E).length → (wMp (wSw (wSf E).length) (wSI (wSI (wSI μ9 0 3 0) 0 4 (-1)) 0 2 0)).1 c = μ.1 c ∧ (wMp (wSw (wSf E).length) (wSI (wSI (wSI μ9 0 3 0) 0 4 (-1)) 0 2 0)).2 c = μ.2 c := fun c a b => by
      rw [nu, nu2, w0 c a b, mc c (by omega)]
      exact kk c b
    have Gψ : yGo ψ := fun i hi => by
      rw [h60] at hi
      exact absurd hi (Nat.not_lt_zero i)
    have Fψ : yFC ψ (wMp (wSw (wSf E).length) (wSI (wSI (wSI μ9 0 3 0) 0 4 (-1)) 0 2 0)) := yFCg_1.mp (yFCg_of F9 (nf 0 (by decide)) (nf 1 (by decide)) (nf 2 (by decide)) (nf 3 (by decide)) (nf 4 (by decide)) (nf 5 (by decide)) (nf 6 (by decide)))
    refine ⟨_, _, _, R.grow (wSwap_X (by omega) (by omega) fm).symm sh hold (ψ := ψ) ⟨Oψ, Gψ, Wψ, Fψ, Fm⟩ ⟨⟨0, by omega, ?_, e6, fun i hi => absurd hi (Nat.not_lt_zero i), fun i hi => absurd hi (Nat.not_lt_zero i)⟩, ?_, ?_⟩ (ySn_of Q fun c j hc => kT.1 c j (by omega) (by omega) (by omega) (by omega) (by omega) (by omega) (by omega)) (fun c a b => nc c (by omega) b) (fun j hj => ⟨kT.1 1 j (by omega) (by omega) (by omega) (by omega) (by omega) (by omega) (by omega), kT.1 2 j (by omega) (by omega) (by omega) (by omega) (by omega) (by omega) (by omega)⟩) (fun j => kT.2 3 j (by omega)) kT.kf, hw⟩
    · rw [n0, yS_get, if_pos ⟨rfl, rfl⟩]
      rfl
    · rw [n0, yS_get, if_neg (by omega), yS_get, if_neg (by omega), yS_get, if_pos ⟨rfl, rfl⟩, e14]
    · rw [n0, yS_get, if_neg (by omega), yS_get, if_pos ⟨rfl, rfl⟩, e15]
  · have hw := wot_2 (a1 := a1) (a2 := a2) (a3 := a3) (a4 := a4) (a5 := a5) (aE := aE) (adK := adK) (adV := adV) (fo := fo) (l := l) (D := D) (ca := ca) l28 Sh.2.2.1 hA zN zN i t9 μ1 μ9 (nI k) (by rw [l1]; exact c1) (by rw [l1]; exact r1) zN hm
    have lR : (wRW (wSf E) (spX ++ E).length (ad t9)).length = (spX ++ E).length + 8 := by rw [wRW_len, l1]
    refine ⟨_, _, _, zFail R (ad t9) (fun c a b => ?_) ⟨⟨0, by omega, ?_, e6, fun i hi => absurd hi (Nat.not_lt_zero i), fun i hi => absurd hi (Nat.not_lt_zero i)⟩, ?_, ?_⟩ kT kF, hw⟩
    · have z := (zFl (kk := nI k) (by omega) (show (spX ++ E).length < (wRW (wSf E) (spX ++ E).length (ad t9)).length by omega) r3 rfl).2.2.2 c a b
      exact ⟨z.1.trans (kk c b).1, z.2.trans (kk c b).2⟩
    · exact (zFl (kk := nI k) (by omega) (show (spX ++ E).length < (wRW (wSf E) (spX ++ E).length (ad t9)).length by omega) r3 rfl).1
    · exact (zFl (kk := nI k) (by omega) (show (spX ++ E).length < (wRW (wSf E) (spX ++ E).length (ad t9)).length by omega) r3 rfl).2.1.trans e14.symm
    · exact (zFl (kk := nI k) (by omega) (show (spX ++ E).length < (wRW (wSf E) (spX ++ E).length (ad t9)).length by omega) r3 rfl).2.2.1.trans e15.symm
