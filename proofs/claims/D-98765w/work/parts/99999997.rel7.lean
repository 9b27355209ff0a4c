set_option maxRecDepth 100000
/-! part 99999997: back in the relation -/
theorem zK3 {a : Int32} (h : ok_k3 a = true) : ∃ k, k < 3 ∧ a = nI k := by
  simp only [ok_k3, Bool.and_eq_true, Bool.not_eq_true', decide_eq_false_iff_not] at h
  obtain ⟨h1, h2⟩ := h
  rw [Int64.lt_iff_toInt_lt, Int32.toInt_toInt64] at h1 h2
  have e0 : (0 : Int64).toInt = 0 := by decide
  have e2 : (2 : Int64).toInt = 2 := by decide
  rw [e0] at h1
  rw [e2] at h2
  exact zIs (by decide) ⟨by omega, by omega⟩
theorem zK3_no {a : Int32} (h : ok_k3 a = false) : ¬ yIs a 3 := fun g => by
  obtain ⟨k, hk, rfl⟩ := zIs (by decide) g
  rcases (by omega : k = 0 ∨ k = 1 ∨ k = 2) with q | q | q <;> rw [q] at h <;> exact absurd h (by decide)
theorem zK3_yes {k : Nat} (hk : k < 3) : ok_k3 (nI k) = true ∧ ¬ nI k < (0 : Int32) ∧ ok_in (nI k) 10 = true ∧ (nI k).toNatClampNeg = k ∧ nI k < (3 : Int32) := by
  rcases (by omega : k = 0 ∨ k = 1 ∨ k = 2) with q | q | q <;> rw [q] <;> decide
theorem zKs6 : ∀ t, wKs6.contains t = true → 281474976710661 ≤ t := by
  have h : ∀ t ∈ wKs6, 281474976710661 ≤ t := by decide +kernel
  intro t ht
  exact h t (List.contains_iff_mem.mp ht)
theorem zGd {ca : wCA} (g : wGood ca) {t : Nat} (h4 : 4 < t) (h : t < 281474976710661) : ca.1 t = ca.1 5 ∧ (wTy ca)[6]? = some (ca.1 t, .object "java/lang/Object") := by
  have e : ca.1 t = ca.1 5 := g.2.2.2 t h4 (by
    cases q : wKs6.contains t
    · rfl
    · have := zKs6 t q
      omega)
  exact ⟨e, by rw [e]; exact g.2.2.1⟩
theorem yCpM.kf {k : Nat} {μ ν : wMem} (h : yCpM k 0 μ ν) : zKf μ ν := fun c i h1 h2 h6 h7 h8 h9 h10 h11 => by
  rw [h.1 c i, if_neg]
  unfold yWd
  split <;> omega
theorem yCpM.o {a b : Nat} {μ ν : wMem} (h : yCpM a b μ ν) {c : Nat} (hc : c < 6 ∨ 11 < c) (i : Nat) : ν.1 c i = μ.1 c i := by
  rw [h.1 c i, if_neg]
  unfold yWd
  split <;> omega
theorem zVb_cl {E : List wCell} (h : wClosed (spX ++ E)) (hl : 28 ≤ (spX ++ E).length) : wClosed (wVb E) := by
  have c1 : wClosed (wFw6 ((spX ++ E) ++ [Sum.inl (1, wFf0 0)]) (spX ++ E).length) := wFw6_cl (h.addO (by decide))
  refine c1.set (fs := match wXf (spX ++ E).length with | .inl o => o.2 | .inr _ => []) (ci := 0) ?_
  have l : (wFw6 ((spX ++ E) ++ [Sum.inl (1, wFf0 0)]) (spX ++ E).length).length = (spX ++ E).length + 7 := by
    rw [wFw6_len, List.length_append]
    rfl
  rw [l]
  exact zXf_lt (by omega) (by omega)
theorem zc_55 {aE : Nat} {ad adK adV : Nat → Nat} {fo : Option Nat} {l : Launch} {D : va_G} {ca : wCA} (a1 a2 a3 a4 a5 : Int32) {E : List wCell} {μ μm : wMem} {n : Nat} (W : yBnd) (hl : l.stackTraces = false) (R : zRel ca aE (n + 1) (spX ++ E) μ μm) (hg : wGood ca) : ∃ sp1 μ1 μm1, zRel ca aE n sp1 μ1 μm1 ∧ wO_55 (wZa aE ad adK adV fo) l D ca a1 a2 a3 a4 a5 (spX ++ E) μ μm sp1 μ1 μm1 := by
  obtain ⟨_, cs, φ, _, Sh, ⟨O, G, Wf, F, M⟩, T, Q, X, I⟩ := id R
  have l28 := Sh.1
  by_cases g : ok_k3 a1 = true
  · obtain ⟨k, hk, rfl⟩ := zK3 g
    obtain ⟨ok1, ok2, ok3, ck, ok4⟩ := zK3_yes hk
    rcases I with ⟨i1, i2, i3⟩ | ⟨cA, t, i1, i2, i3, i4, i5, i6, i7, i8⟩
    · exact ⟨_, _, _, R.zero, woe_55 (by rw [i1]) g i2 zN (ym_back_0 hk zN (i3 k hk))⟩
    · have gd := zGd hg i5 i6
      have ne : ¬ μ.1 23 2 = 0 := by rw [i3]; decide
      have lt3 : nI k < μ.1 23 2 := by rw [i3]; exact ok4
      rcases i8 k hk with ⟨q1, q2⟩ | ⟨d, q1, q2, p1, p2, p3, p4, p5, p6, p7, p8, p9, ψ, o1, o2, o3, o4, o5⟩
      · exact ⟨_, _, _, R.zero, won_55 i2 g i4 i5 gd.2 ok2 ok3 ne lt3 (by rw [ck]; exact q1) zN (ym_back_0 hk zN q2)⟩
      · have ld : d + 1 + 5 < (spX ++ E).length := (List.getElem?_eq_some_iff.mp p8).1
        obtain ⟨μ1, hf, F1, kc⟩ := yc_copy (n := (spX ++ E).length) o1 o4 (by omega) (by omega) (by omega) (by omega) (by omega) (by omega) (by omega)
        obtain ⟨νm, hm, cp⟩ := ym_back hk (N := zN) (Nat.le_of_ble_eq_true rfl) (μ := μm) q2
        have hw := woo_55 (a1 := nI k) (a2 := a2) (a3 := a3) (a4 := a4) (a5 := a5) (aE := aE) (ad := ad) (adK := adK) (adV := adV) (fo := fo) (l := l) (D := D) (ca := ca) i2 g i4 i5 gd.2 ok2 ok3 ne lt3 (d := d) (by rw [ck]; exact q1) p2 p3 p4 p5 p6 p7 p8 Sh.2.2.1 hf l28 Sh.2.2.2.1 zN hm
        have lV := wVb_len (E := E)
        have hV : ∀ i, i ≠ 0 → i < (spX ++ E).length → (wVb E)[i]? = (spX ++ E)[i]? := fun i h0 hi => by
          show ((wFw6 _ _).set 0 _)[i]? = _
          rw [List.getElem?_set_ne (by omega)]
          exact wIm_old hi
        have fm := wVb_fam l28
        have old := fun {i : Nat} {d : wCell} => zSwap_old (i := i) (d := d) (f := (spX ++ E).length) (V := wVb E) Sh.2.2.1 (Nat.le_refl _) l28 (by omega) hV
        have hold : zHold (spX ++ E) (wSwap (spX ++ E).length (wVb E)) := fun i d hi _ h hg => old hi h hg
        have sh : zShp ca n (wSwap (spX ++ E).length (wVb E)) := by
          refine ⟨by rw [wSwap_len, lV]; omega, by rw [wSwap_len, lV]; have := Sh.2.1; omega, zSwap_cl (by omega) (by omega) (zVb_cl Sh.2.2.1 l28), zSwap_dg (fun t n hmm h4 => ?_), old (by omega) Sh.2.2.2.2.1 trivial, Sh.2.2.2.2.2⟩
          rcases List.mem_or_eq_of_mem_set hmm with q | q
          · rcases List.mem_append.mp (wFw6_new q h4) with q | q
            · exact Sh.2.2.2.1 t n q h4
            · cases List.mem_singleton.mp q
          · cases q
        have w0 : ∀ c, 8 ≤ c → c < (spX ++ E).length → wSw (spX ++ E).length c = c := fun c a b => wSw_id a (by omega)
        have nu : ∀ c, (wMp (wSw (spX ++ E).length) μ1).1 c = μ1.1 (wSw (spX ++ E).length c) := fun _ => rfl
        have nu2 : ∀ c, (wMp (wSw (spX ++ E).length) μ1).2 c = μ1.2 (wSw (spX ++ E).length c) := fun _ => rfl
        have n0 : (wMp (wSw (spX ++ E).length) μ1).1 0 = μ.1 0 := by rw [nu, wSw_0 (by omega)]; exact (kc 0 (by omega)).1
        have nf : ∀ j, j < 7 → (wMp (wSw (spX ++ E).length) μ1).1 (1 + j) = μ1.1 ((spX ++ E).length + j) := fun j hj => by rw [nu, wSw_lo hj]
        have nc : ∀ c, 8 ≤ c → c < (spX ++ E).length → (wMp (wSw (spX ++ E).length) μ1).1 c = μ.1 c ∧ (wMp (wSw (spX ++ E).length) μ1).2 c = μ.2 c := fun c a b => by
          rw [nu, nu2, w0 c a b]
          exact kc c b
        have Fψ : yFC ψ (wMp (wSw (spX ++ E).length) μ1) := yFCg_1.mp (yFCg_of F1 (nf 0 (by decide)) (nf 1 (by decide)) (nf 2 (by decide)) (nf 3 (by decide)) (nf 4 (by decide)) (nf 5 (by decide)) (nf 6 (by decide)))
        have z0 : ∀ c j, (c = 0 → j ≠ 0) → (wSI μm 0 0 0).1 c j = μm.1 c j := fun c j h => by rw [yS_get, if_neg (fun z => h z.1 z.2)]
        have Fm : yFM ψ 0 νm := cp.new o1 ((yKM_0 μm 0).fm o5)
        have ko : ∀ c j, (c < 6 ∨ 11 < c) → (c = 0 → j ≠ 0) → νm.1 c j = μm.1 c j := fun c j h1 h2 => by rw [cp.o h1, z0 c j h2]
        refine ⟨_, _, _, R.grow (wSwap_X (by omega) (by omega) fm).symm sh hold (ψ := ψ) ⟨o1, o2, o3, Fψ, Fm⟩ ?_ (ySn_of Q fun c j hc => ko c j (by omega) (by omega)) (fun c a b => nc c (by omega) b) (fun j hj => ⟨ko 1 j (by omega) (by omega), ko 2 j (by omega) (by omega)⟩) (fun j => by rw [cp.2]; rfl) (fun c j h1 h2 h6 h7 h8 h9 h10 h11 => (cp.kf c j h1 h2 h6 h7 h8 h9 h10 h11).trans (z0 c j (by omega))), hw⟩
        obtain ⟨⟨t, n6, t1, t2, t3, t4⟩, u1, u2⟩ := T
        exact ⟨⟨t, n6, by rw [n0]; exact t1, by rw [ko 0 6 (by omega) (by omega)]; exact t2, fun j hj => by rw [(nc 8 (by omega) (by omega)).1, ko 5 j (by omega) (by omega)]; exact t3 j hj, fun j hj => by rw [(nc 8 (by omega) (by omega)).1]; exact t4 j hj⟩, by rw [n0, ko 0 14 (by omega) (by omega)]; exact u1, by rw [n0, ko 0 15 (by omega) (by omega)]; exact u2⟩
  · have g' : ok_k3 a1 = false := by
      cases h : ok_k3 a1
      · rfl
      · exact absurd h g
    exact ⟨_, _, _, R.zero, wob_55 g' zN (ym_back_no (zK3_no g') zN μm)⟩
