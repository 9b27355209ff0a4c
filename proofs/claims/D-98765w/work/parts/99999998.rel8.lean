set_option maxRecDepth 100000
/-! part 99999998: image in the relation -/
theorem wPs_lt {k x d : Nat} (hk : k < 3) (hx : x < 281474976710656) (hd : d < 65536) : wPs k x d < 281474976710656 := by
  rcases (by omega : k = 0 ∨ k = 1 ∨ k = 2) with q | q | q <;> subst q
  · show x / 65536 * 65536 + d < _
    omega
  · show x % 65536 + 65536 * (x / 65536 / 65536 * 65536 + d) < _
    omega
  · show x % 65536 + 65536 * (x / 65536 % 65536 + 65536 * (x / 65536 / 65536 / 65536 * 65536 + d)) < _
    omega
theorem wRs_lt {t k d : Nat} (h4 : 4 < t) (ht : t < 281474976710661) (hk : k < 3) (hd : d < 65536) : wRs t k d < 281474976710661 := by
  have := wPs_lt (x := t - 5) hk (by omega) hd
  show 5 + wPs k (t - 5) d < _
  omega
theorem wRd_5 (j : Nat) : wRd 5 j = 0 := by
  unfold wRd
  by_cases h : j < 16
  · rw [if_pos h, Nat.sub_self, Nat.zero_div]
  · rw [if_neg h]
/-- the world behind a copy: the cells of the old, the copy's -/
theorem zIm_at {sp : List wCell} {b : Nat} {d : wCell} (hb : b < sp.length) : ((wFw6 (sp ++ [Sum.inl (1, wFf0 0)]) sp.length).set b d)[b]? = some d :=
  List.getElem?_set_self (by rw [wFw6_len, List.length_append]; omega)
theorem zIm_o {sp : List wCell} {b i : Nat} {d : wCell} (hb : i ≠ b) (hi : i < sp.length) : ((wFw6 (sp ++ [Sum.inl (1, wFf0 0)]) sp.length).set b d)[i]? = sp[i]? := by
  rw [List.getElem?_set_ne (fun e => hb e.symm)]
  exact wIm_old hi
theorem zIm_len {sp : List wCell} {b : Nat} {d : wCell} : ((wFw6 (sp ++ [Sum.inl (1, wFf0 0)]) sp.length).set b d).length = sp.length + 7 := by
  rw [List.length_set, wFw6_len, List.length_append]
  rfl
theorem zIm_new {sp : List wCell} {b : Nat} {d : wCell} (hb : b < sp.length) : ((wFw6 (sp ++ [Sum.inl (1, wFf0 0)]) sp.length).set b d)[sp.length]? = some (.inl (1, wFf6 (sp.length + 1))) ∧ ((wFw6 (sp ++ [Sum.inl (1, wFf0 0)]) sp.length).set b d)[sp.length + 1 + 0]? = some (.inr (0, 6)) ∧ ((wFw6 (sp ++ [Sum.inl (1, wFf0 0)]) sp.length).set b d)[sp.length + 1 + 1]? = some (.inr (0, 6)) ∧ ((wFw6 (sp ++ [Sum.inl (1, wFf0 0)]) sp.length).set b d)[sp.length + 1 + 2]? = some (.inr (0, 2)) ∧ ((wFw6 (sp ++ [Sum.inl (1, wFf0 0)]) sp.length).set b d)[sp.length + 1 + 3]? = some (.inr (0, 2)) ∧ ((wFw6 (sp ++ [Sum.inl (1, wFf0 0)]) sp.length).set b d)[sp.length + 1 + 4]? = some (.inr (0, 2)) ∧ ((wFw6 (sp ++ [Sum.inl (1, wFf0 0)]) sp.length).set b d)[sp.length + 1 + 5]? = some (.inr (0, 40)) := by
  have l : (sp ++ [Sum.inl (1, wFf0 0)] : List wCell).length = sp.length + 1 := by rw [List.length_append]; rfl
  have hlt : sp.length < (sp ++ [Sum.inl (1, wFf0 0)] : List wCell).length := by rw [l]; omega
  have n0 := wFw6_n0 hlt
  have n1 := wFw6_n1 hlt
  have n2 := wFw6_n2 hlt
  have n3 := wFw6_n3 hlt
  have n4 := wFw6_n4 hlt
  have n5 := wFw6_n5 hlt
  rw [l] at n0 n1 n2 n3 n4 n5
  have nf := wFw6_at (sp := sp ++ [Sum.inl (1, wFf0 0)]) (b := sp.length) (by rw [List.getElem?_append_right (Nat.le_refl _), Nat.sub_self]; rfl)
  rw [l] at nf
  refine ⟨?_, ?_, ?_, ?_, ?_, ?_, ?_⟩
  · rw [List.getElem?_set_ne (by omega)]; exact nf
  · rw [List.getElem?_set_ne (by omega)]; exact n0
  · rw [List.getElem?_set_ne (by omega)]; exact n1
  · rw [List.getElem?_set_ne (by omega)]; exact n2
  · rw [List.getElem?_set_ne (by omega)]; exact n3
  · rw [List.getElem?_set_ne (by omega)]; exact n4
  · rw [List.getElem?_set_ne (by omega)]; exact n5
theorem zIm_nw {sp : List wCell} {b L t : Nat} (hb : b < sp.length) (hL : sp.length = L) : (wIm sp b t)[L]? = some (.inl (1, wFf6 (L + 1))) ∧ (wIm sp b t)[L + 1 + 0]? = some (.inr (0, 6)) ∧ (wIm sp b t)[L + 1 + 1]? = some (.inr (0, 6)) ∧ (wIm sp b t)[L + 1 + 2]? = some (.inr (0, 2)) ∧ (wIm sp b t)[L + 1 + 3]? = some (.inr (0, 2)) ∧ (wIm sp b t)[L + 1 + 4]? = some (.inr (0, 2)) ∧ (wIm sp b t)[L + 1 + 5]? = some (.inr (0, 40)) := by
  subst hL
  exact zIm_new hb
/-- an array of references whose digits are known cells -/
theorem zCl_set {sp : List wCell} (h : wClosed sp) {b t m : Nat} (ht : ∀ j, wRd t j ≤ sp.length) : wClosed (sp.set b (.inr (t, m))) := fun n hn => by
  rw [List.length_set] at hn
  refine wNoRef_iff.mpr fun d hd => ?_
  rcases List.mem_or_eq_of_mem_set hd with q | q
  · exact wNoRef_iff.mp (h n hn) d q
  · subst q
    show (!(decide (4 < t) && !wRno t n)) = true
    have r : wRno t n = true := by
      unfold wRno
      refine List.all_eq_true.mpr fun j _ => ?_
      have := ht j
      have ne : ¬ wRd t j = n + 1 := by omega
      simp [ne]
    rw [r]
    simp
theorem zDig_lt {sp : List wCell} (h : wClosed sp) {t m : Nat} (hd : (Sum.inr (t, m) : wCell) ∈ sp) (h4 : 4 < t) (j : Nat) : wRd t j ≤ sp.length := by
  rcases Nat.lt_or_ge (wRd t j) (sp.length + 1) with g | g
  · omega
  · have h1 := (wNoRef_iff.mp (h (wRd t j - 1) (by omega))) _ hd
    have h2 : wRno t (wRd t j - 1) = true := by
      have : (!(decide (4 < t) && !wRno t (wRd t j - 1))) = true := h1
      simpa [h4] using this
    exact absurd (show wRd t j = wRd t j - 1 + 1 by omega) (wRno_at h2 j)
theorem zSlo.lt {sp : List wCell} {μ μm : wMem} {i c : Nat} (h : zSlo sp μ μm i c) (l : 0 < sp.length) : c < sp.length := by
  rcases h with ⟨z1, _⟩ | ⟨_, _, w', n', _, z4, _⟩
  · omega
  · exact (List.getElem?_eq_some_iff.mp z4).1
theorem zI3 {μ : wMem} {L : Nat} (hL : 23 < L) : (wIm3 μ L).1 23 2 = 3 ∧ ∀ c, c ≠ 23 → c ≠ L → (wIm3 μ L).1 c = μ.1 c ∧ (wIm3 μ L).2 c = μ.2 c := by
  constructor
  · unfold wIm3
    rw [wAdd1_2, wIm2_2]
    rfl
  · intro c h1 h2
    have z := yZ_o (wAdm μ 23) (n := L) h2
    constructor
    · unfold wIm3 wAdd1 wAdm wIma
      rw [zS_row _ h1, zS_row _ h1, zS_row _ h1, zS_row _ h1, zS_row _ h1, z.1]
      unfold wAdm
      rw [zS_row _ h1]
    · exact z.2
theorem zCl_im {sp : List wCell} (h : wClosed sp) {b t m : Nat} (ht : ∀ j, wRd t j ≤ sp.length + 7) : wClosed ((wFw6 (sp ++ [Sum.inl (1, wFf0 0)]) sp.length).set b (.inr (t, m))) := by
  refine zCl_set (wFw6_cl (h.addO (by decide))) (fun j => ?_)
  have l : (wFw6 (sp ++ [Sum.inl (1, wFf0 0)]) sp.length).length = sp.length + 7 := by
    rw [wFw6_len, List.length_append]
    rfl
  rw [l]
  exact ht j
theorem zDg_im {sp : List wCell} (h : wDg8 sp) {b t m : Nat} (ht : ∀ i, i < 16 → wRd t i ≠ 0 → 8 ≤ wRd t i - 1) : wDg8 ((wFw6 (sp ++ [Sum.inl (1, wFf0 0)]) sp.length).set b (.inr (t, m))) := fun t' m' hm h4 => by
  rcases List.mem_or_eq_of_mem_set hm with q | q
  · rcases List.mem_append.mp (wFw6_new q h4) with q | q
    · exact h t' m' q h4
    · cases List.mem_singleton.mp q
  · have e := (Prod.mk.inj (Sum.inr.inj q)).1
    rw [e]
    exact ht
theorem zDg_gr {sp : List wCell} (h : wDg8 sp) : wDg8 (wGr sp 23) := fun t m hm h4 => by
  rcases List.mem_or_eq_of_mem_set hm with q | q
  · rcases List.mem_append.mp q with q | q
    · exact h t m q h4
    · have e := (Prod.mk.inj (Sum.inr.inj (List.mem_singleton.mp q))).1
      rw [e]
      intro i _ hz
      exact absurd (wRd_5 i) hz
  · cases q
/-- a kind that is row t's but at k -/
theorem zRs_ex {t k d : Nat} (h4 : 4 < t) (ht : t < 281474976710661) (hk : k < 3) (hd : d < 65536) : ∃ t', t' < 281474976710661 ∧ 4 < t' ∧ ∀ j, wRd t' j = if j = k then d else wRd t j := ⟨wRs t k d, wRs_lt h4 ht hk hd, wRs_gt, fun j => wRs_dig (t := t) (i := k) (d := d) (by omega) (by omega) j⟩
/-- the twin's side of image() -/
theorem zImT {φ : Nat → Nat → Nat} {k : Nat} {μ μm : wMem} (hk : k < 3) (O : yOk φ) (M : yFM φ 0 μm) (Q : ySn μm) (T : zTF μ μm) : ∃ νm, fX6_image zN (nI k) μm = some (0, νm) ∧ (∀ c j, (c < 6 ∨ 12 < c) → (c = 0 → j ≠ 0) → νm.1 c j = μm.1 c j) ∧ (∀ j, νm.1 12 j = if j = k then 1 else μm.1 12 j) ∧ (∀ (χ : Nat → Nat → Nat) (f : Nat), yOk χ → f ≠ k + 1 → yFM χ f μm → yFM χ f νm) ∧ yFM φ (k + 1) νm ∧ ySn νm ∧ (∀ j, νm.2 3 j = μm.2 3 j) ∧ (∀ μ1 : wMem, μ1.1 0 = μ.1 0 → μ1.1 8 = μ.1 8 → zTF μ1 νm) := by
  obtain ⟨ν, hm, cp⟩ := ym_image hk (N := zN) (Nat.le_of_ble_eq_true rfl) μm
  have z0 : ∀ c j, (c = 0 → j ≠ 0) → (wSI μm 0 0 0).1 c j = μm.1 c j := fun c j h => by rw [yS_get, if_neg (fun z => h z.1 z.2)]
  have w12 : ∀ c j, c ≠ 12 → (wSI ν 12 k 1).1 c j = ν.1 c j := fun c j h => by rw [yS_get, if_neg (fun z => h z.1)]
  have ko : ∀ c j, (c < 6 ∨ 12 < c) → (c = 0 → j ≠ 0) → (wSI ν 12 k 1).1 c j = μm.1 c j := fun c j h1 h2 => by rw [w12 c j (by omega), cp.o (by omega), z0 c j h2]
  have k12 : ∀ j, (wSI ν 12 k 1).1 12 j = if j = k then 1 else μm.1 12 j := fun j => by
    rw [yS_get]
    by_cases h : j = k
    · rw [if_pos ⟨rfl, h⟩, if_pos h]
    · rw [if_neg (fun z => h z.2), if_neg h, cp.o (by omega), z0 12 j (by omega)]
  have kfm : ∀ (χ : Nat → Nat → Nat) (f : Nat), yOk χ → f ≠ k + 1 → yFM χ f μm → yFM χ f (wSI ν 12 k 1) := fun χ f hχ hf H => yFM_of (cp.old hχ hf ((yKM_0 μm 0).fm H)) fun c h1 h2 j => w12 c j (by omega)
  have newm : yFM φ (k + 1) (wSI ν 12 k 1) := yFM_of (cp.new O ((yKM_0 μm 0).fm M)) fun c h1 h2 j => w12 c j (by omega)
  have Q' : ySn (wSI ν 12 k 1) := ySn_of Q fun c j hc => ko c j (by omega) (by omega)
  have k3 : ∀ j, (wSI ν 12 k 1).2 3 j = μm.2 3 j := fun j => by
    show ν.2 3 j = _
    rw [cp.2]
    rfl
  refine ⟨_, hm, ko, k12, kfm, newm, Q', k3, fun μ1 e0 e8 => ?_⟩
  obtain ⟨⟨t, n6, t1, t2, t3, t4⟩, u1, u2⟩ := T
  exact ⟨⟨t, n6, by rw [e0]; exact t1, by rw [ko 0 6 (by omega) (by omega)]; exact t2, fun j hj => by rw [e8, ko 5 j (by omega) (by omega)]; exact t3 j hj, fun j hj => by rw [e8]; exact t4 j hj⟩, by rw [e0, ko 0 14 (by omega) (by omega)]; exact u1, by rw [e0, ko 0 15 (by omega) (by omega)]; exact u2⟩
theorem zSplit {E V : List wCell} (l : 28 ≤ (spX ++ E).length) (hV : (spX ++ E).length ≤ V.length) (old : ∀ i, i < 23 → V[i]? = (spX ++ E)[i]?) : V = spX ++ V.drop 22 := by
  refine zTake (sp := spX ++ E.take 1) rfl ?_ (by omega) (fun i hi => ?_)
  · rw [List.length_append]
    exact Nat.le_add_right 22 _
  · have h23 : (spX ++ E.take 1).length ≤ 23 := by
      rw [List.length_append, List.length_take]
      show 22 + min 1 E.length ≤ 23
      omega
    rw [old i (by omega)]
    rcases Nat.lt_or_ge i spX.length with q | q
    · rw [List.getElem?_append_left q, List.getElem?_append_left q]
    · rw [List.getElem?_append_right q, List.getElem?_append_right q, List.getElem?_take_of_lt (by have : spX.length = 22 := rfl; omega)]
theorem zImage1 {aE : Nat} {ad adK adV : Nat → Nat} {fo : Option Nat} {l : Launch} {D : va_G} {ca : wCA} (a2 a3 a4 a5 : Int32) {E : List wCell} {μ μm : wMem} {n k : Nat} {cs : Nat → Nat} {φ : Nat → Nat → Nat} (hk : k < 3) (hg : wGood ca) (Sh : zShp ca (n + 1) (spX ++ E)) (Fm : zFm2 φ μ μm) (T : zTF μ μm) (Q : ySn μm) (X : zRow (spX ++ E) cs μ μm) (i1 : (spX ++ E)[23]? = some (wLoA aE)) (i2 : μ.1 23 2 = 0) (i3 : ∀ k, k < 3 → μm.1 12 k = 0) : ∃ sp1 μ1 μm1, zRel ca aE n sp1 μ1 μm1 ∧ wO_54 (wZa aE ad adK adV fo) l D ca (nI k) a2 a3 a4 a5 (spX ++ E) μ μm sp1 μ1 μm1 := by
  obtain ⟨O, G, Wf, F, M⟩ := Fm
  have l28 := Sh.1
  have l1052 := Sh.2.1
  obtain ⟨ok1, ok2, ok3, ck, ok4⟩ := zK3_yes hk
  obtain ⟨νm, hm, ko, k12, kfm, newm, Q', k3, T'⟩ := zImT hk O M Q T
  have M' := kfm φ 0 O (by omega) M
  have slt : ∀ i, i < 4 → cs i < (spX ++ E).length := fun i hi => (X.1 i hi).lt (by omega)
  obtain ⟨m3, mo⟩ := zI3 (μ := μ) (L := (spX ++ E).length) (by omega)
  have F0 : yFC φ (wIm3 μ (spX ++ E).length) := yKC2.fam F (fun c h1 h2 => (mo c (by omega) (by omega)).1)
  obtain ⟨μ1, hf, F1, kc⟩ := yc_copy (n := (spX ++ E).length + 1) O (yFCg_1.mpr F0) (by omega) (by omega) (by omega) (by omega) (by omega) (by omega) (by omega)
  obtain ⟨t', tl, t5, dig⟩ := zRs_ex (t := 5) (k := k) (d := (spX ++ E).length + 1 + 1) (by decide) (by decide) hk (by omega)
  have k23 : μ1.1 23 2 = 3 := by rw [(kc 23 (by omega)).1]; exact m3
  have hw := wof_54 (a1 := nI k) (a2 := a2) (a3 := a3) (a4 := a4) (a5 := a5) (aE := aE) (ad := ad) (adK := adK) (adV := adV) (fo := fo) (l := l) (D := D) (ca := ca) i1 hg.2.2.1 Sh.2.2.1 ok1 ok2 ok3 t5 (fun j => by rw [ck]; exact dig j) (zGd hg t5 tl).1 μ1 i2 hf (by rw [k23]; exact ok4) zN hm
  have lG : (wGr (spX ++ E) 23).length = (spX ++ E).length + 1 := wGr_len
  have lS : (wIm (wGr (spX ++ E) 23) (spX ++ E).length t').length = (spX ++ E).length + 8 := zIm_len.trans (by rw [lG])
  have old : ∀ i, i ≠ 23 → i < (spX ++ E).length → (wIm (wGr (spX ++ E) 23) (spX ++ E).length t')[i]? = (spX ++ E)[i]? := fun i h1 h2 => (zIm_o (by omega) (by rw [lG]; omega)).trans (wGr_old h1 h2)
  have hold : zHoldB 23 (spX ++ E) (wIm (wGr (spX ++ E) 23) (spX ++ E).length t') := fun i d _ hb h _ => by
    rw [old i hb (List.getElem?_eq_some_iff.mp h).1]
    exact h
  have a23 : (wIm (wGr (spX ++ E) 23) (spX ++ E).length t')[23]? = some (wLo (spX ++ E).length) := (zIm_o (by omega) (by rw [lG]; omega)).trans (wGr_at (by omega))
  have aL : (wIm (wGr (spX ++ E) 23) (spX ++ E).length t')[(spX ++ E).length]? = some (.inr (t', 10)) := zIm_at (sp := wGr (spX ++ E) 23) (by rw [lG]; omega)
  have nw := zIm_nw (sp := wGr (spX ++ E) 23) (b := (spX ++ E).length) (t := t') (by rw [lG]; omega) lG
  have e1 : wIm (wGr (spX ++ E) 23) (spX ++ E).length t' = spX ++ (wIm (wGr (spX ++ E) 23) (spX ++ E).length t').drop 22 := zSplit (E := E) l28 (by rw [lS]; omega) fun i hi => old i (by omega) (by omega)
  have cl : wClosed (wIm (wGr (spX ++ E) 23) (spX ++ E).length t') := zCl_im Sh.2.2.1.gr fun j => by
    rw [lG, dig j]
    by_cases h : j = k
    · rw [if_pos h]; omega
    · rw [if_neg h, wRd_5]; exact Nat.zero_le _
  have dg : wDg8 (wIm (wGr (spX ++ E) 23) (spX ++ E).length t') := zDg_im (zDg_gr Sh.2.2.2.1) fun i _ hz => by
    rw [dig i] at hz ⊢
    by_cases h : i = k
    · rw [if_pos h]; omega
    · rw [if_neg h, wRd_5] at hz
      exact absurd rfl hz
  have nc : ∀ c, c ≠ 23 → c < (spX ++ E).length → μ1.1 c = μ.1 c ∧ μ1.2 c = μ.2 c := fun c h1 h2 => ⟨(kc c (by omega)).1.trans (mo c h1 (by omega)).1, (kc c (by omega)).2.trans (mo c h1 (by omega)).2⟩
  have XR : zRow (wIm (wGr (spX ++ E) 23) (spX ++ E).length t') cs μ1 νm := ⟨fun i hi => (X.1 i hi).grow (fun h => by omega) (by omega) hold (fun h1 h2 => nc _ (by omega) h2) (ko 1 i (by omega) (by omega)) (ko 2 i (by omega) (by omega)) (fun j _ => k3 _), X.2⟩
  have IR : zImg ca aE (wIm (wGr (spX ++ E) 23) (spX ++ E).length t') cs μ1 νm := by
    refine .inr ⟨(spX ++ E).length, t', by omega, a23, k23, aL, t5, tl, fun i hi => by have := slt i hi; omega, fun j hj => ?_⟩
    by_cases h : j = k
    · subst h
      exact .inr ⟨(spX ++ E).length + 1, by rw [dig, if_pos rfl], by rw [k12, if_pos rfl]; decide, by omega, nw.1, nw.2.1, nw.2.2.1, nw.2.2.2.1, nw.2.2.2.2.1, nw.2.2.2.2.2.1, nw.2.2.2.2.2.2, fun i hi => .inl (by have := slt i hi; omega), φ, O, G, Wf, F1, newm⟩
    · exact .inl ⟨by rw [dig, if_neg h, wRd_5], by rw [k12, if_neg h]; exact i3 j hj⟩
  exact ⟨_, _, _, ⟨_, cs, φ, e1, ⟨by rw [lS]; omega, by rw [lS]; omega, cl, dg, by rw [old 22 (by decide) (by omega)]; exact Sh.2.2.2.2.1, Sh.2.2.2.2.2⟩, ⟨O, G, Wf, yKC2.fam F (fun c h1 h2 => (nc c (by omega) (by omega)).1), M'⟩, T' μ1 (nc 0 (by omega) (by omega)).1 (nc 8 (by omega) (by omega)).1, Q', XR, IR⟩, hw⟩
theorem zImage2 {aE : Nat} {ad adK adV : Nat → Nat} {fo : Option Nat} {l : Launch} {D : va_G} {ca : wCA} (a2 a3 a4 a5 : Int32) {E : List wCell} {μ μm : wMem} {n k : Nat} {cs : Nat → Nat} {φ : Nat → Nat → Nat} (hk : k < 3) (hg : wGood ca) (Sh : zShp ca (n + 1) (spX ++ E)) (Fm : zFm2 φ μ μm) (T : zTF μ μm) (Q : ySn μm) (X : zRow (spX ++ E) cs μ μm) {cA t : Nat} (i1 : 28 ≤ cA) (i2 : (spX ++ E)[23]? = some (wLo cA)) (i3 : μ.1 23 2 = 3) (i4 : (spX ++ E)[cA]? = some (.inr (t, 10))) (i5 : 4 < t) (i6 : t < 281474976710661) (i7 : ∀ i, i < 4 → cs i ≠ cA) (i8 : ∀ k, k < 3 → (wRd t k = 0 ∧ μm.1 12 k = 0) ∨ ∃ d, wRd t k = d + 1 ∧ μm.1 12 k ≠ 0 ∧ zIm (spX ++ E) cs μ μm k d) : ∃ sp1 μ1 μm1, zRel ca aE n sp1 μ1 μm1 ∧ wO_54 (wZa aE ad adK adV fo) l D ca (nI k) a2 a3 a4 a5 (spX ++ E) μ μm sp1 μ1 μm1 := by
  obtain ⟨O, G, Wf, F, M⟩ := Fm
  have l28 := Sh.1
  have l1052 := Sh.2.1
  obtain ⟨ok1, ok2, ok3, ck, ok4⟩ := zK3_yes hk
  obtain ⟨νm, hm, ko, k12, kfm, newm, Q', k3, T'⟩ := zImT hk O M Q T
  have M' := kfm φ 0 O (by omega) M
  have slt : ∀ i, i < 4 → cs i < (spX ++ E).length := fun i hi => (X.1 i hi).lt (by omega)
  obtain ⟨μ1, hf, F1, kc⟩ := yc_copy (n := (spX ++ E).length) O (yFCg_1.mpr F) (by omega) (by omega) (by omega) (by omega) (by omega) (by omega) (by omega)
  have lA : cA < (spX ++ E).length := (List.getElem?_eq_some_iff.mp i4).1
  obtain ⟨t', tl, t5, dig⟩ := zRs_ex (t := t) (k := k) (d := (spX ++ E).length + 1) i5 i6 hk (by omega)
  have k23 : μ1.1 23 2 = 3 := by rw [(kc 23 (by omega)).1]; exact i3
  have hw := woi_54 (a1 := nI k) (a2 := a2) (a3 := a3) (a4 := a4) (a5 := a5) (aE := aE) (ad := ad) (adK := adK) (adV := adV) (fo := fo) (l := l) (D := D) (ca := ca) i2 i4 i5 (zGd hg i5 i6).2 Sh.2.2.1 ok1 ok2 ok3 t5 (fun j => by rw [ck]; exact dig j) ((zGd hg t5 tl).1.trans (zGd hg i5 i6).1.symm) μ1 i3 hf (by rw [k23]; exact ok4) zN hm
  have lS : (wIm (spX ++ E) cA t').length = (spX ++ E).length + 7 := zIm_len
  have old : ∀ i, i ≠ cA → i < (spX ++ E).length → (wIm (spX ++ E) cA t')[i]? = (spX ++ E)[i]? := fun i h1 h2 => zIm_o h1 h2
  have hold : zHoldB cA (spX ++ E) (wIm (spX ++ E) cA t') := fun i d _ hb h _ => by
    rw [old i hb (List.getElem?_eq_some_iff.mp h).1]
    exact h
  have aL : (wIm (spX ++ E) cA t')[cA]? = some (.inr (t', 10)) := zIm_at (sp := spX ++ E) lA
  have nw := zIm_nw (sp := spX ++ E) (b := cA) (t := t') lA rfl
  have e1 : wIm (spX ++ E) cA t' = spX ++ (wIm (spX ++ E) cA t').drop 22 := zSplit (E := E) l28 (by rw [lS]; omega) fun i hi => old i (by omega) (by omega)
  have cl : wClosed (wIm (spX ++ E) cA t') := zCl_im Sh.2.2.1 fun j => by
    rw [dig j]
    by_cases h : j = k
    · rw [if_pos h]; omega
    · rw [if_neg h]
      have := zDig_lt Sh.2.2.1 (List.mem_of_getElem? i4) i5 j
      omega
  have dg : wDg8 (wIm (spX ++ E) cA t') := zDg_im Sh.2.2.2.1 fun i hi hz => by
    rw [dig i] at hz ⊢
    by_cases h : i = k
    · rw [if_pos h]; omega
    · rw [if_neg h] at hz ⊢
      exact Sh.2.2.2.1 t 10 (List.mem_of_getElem? i4) i5 i hi hz
  have XR : zRow (wIm (spX ++ E) cA t') cs μ1 νm := ⟨fun i hi => (X.1 i hi).grow (fun _ e => i7 i hi e.symm) (by omega) hold (fun h1 h2 => kc _ h2) (ko 1 i (by omega) (by omega)) (ko 2 i (by omega) (by omega)) (fun j _ => k3 _), X.2⟩
  have IR : zImg ca aE (wIm (spX ++ E) cA t') cs μ1 νm := by
    refine .inr ⟨cA, t', i1, by rw [old 23 (by omega) (by omega)]; exact i2, k23, aL, t5, tl, i7, fun j hj => ?_⟩
    by_cases h : j = k
    · subst h
      exact .inr ⟨(spX ++ E).length, by rw [dig, if_pos rfl], by rw [k12, if_pos rfl]; decide, by omega, nw.1, nw.2.1, nw.2.2.1, nw.2.2.2.1, nw.2.2.2.2.1, nw.2.2.2.2.2.1, nw.2.2.2.2.2.2, fun i hi => .inl (slt i hi), φ, O, G, Wf, F1, newm⟩
    · rcases i8 j hj with ⟨q1, q2⟩ | ⟨d, q1, q2, q3⟩
      · exact .inl ⟨by rw [dig, if_neg h]; exact q1, by rw [k12, if_neg h]; exact q2⟩
      · refine .inr ⟨d, by rw [dig, if_neg h]; exact q1, by rw [k12, if_neg h]; exact q2, ?_⟩
        obtain ⟨p1, p2, p3, p4, p5, p6, p7, p8, p9, ψ, o1, o2, o3, o4, o5⟩ := q3
        have ld : d + 1 + 5 < (spX ++ E).length := (List.getElem?_eq_some_iff.mp p8).1
        have rows : ∀ c m : Nat, (spX ++ E)[c]? = some (Sum.inr (0, m)) → (wIm (spX ++ E) cA t')[c]? = some (Sum.inr (0, m)) := fun c m hc => by
          have hn : c ≠ cA := fun e => by
            rw [e, i4] at hc
            have := (Prod.mk.inj (Sum.inr.inj (Option.some.inj hc))).1
            omega
          rw [old c hn (List.getElem?_eq_some_iff.mp hc).1]
          exact hc
        have hd : d ≠ cA := fun e => by
          rw [e, i4] at p2
          cases Option.some.inj p2
        refine ⟨p1, ?_, rows _ _ p3, rows _ _ p4, rows _ _ p5, rows _ _ p6, rows _ _ p7, rows _ _ p8, p9, ψ, o1, o2, o3, yFCg_of o4 (kc _ (by omega)).1 (kc _ (by omega)).1 (kc _ (by omega)).1 (kc _ (by omega)).1 (kc _ (by omega)).1 (kc _ (by omega)).1 (kc _ (by omega)).1, kfm ψ (j + 1) o1 (by omega) o5⟩
        rw [old d hd (by omega)]
        exact p2
  exact ⟨_, _, _, ⟨_, cs, φ, e1, ⟨by rw [lS]; omega, by rw [lS]; omega, cl, dg, by rw [old 22 (by omega) (by omega)]; exact Sh.2.2.2.2.1, Sh.2.2.2.2.2⟩, ⟨O, G, Wf, yKC2.fam F (fun c h1 h2 => (kc c (by omega)).1), M'⟩, T' μ1 (kc 0 (by omega)).1 (kc 8 (by omega)).1, Q', XR, IR⟩, hw⟩
theorem zc_54 {aE : Nat} {ad adK adV : Nat → Nat} {fo : Option Nat} {l : Launch} {D : va_G} {ca : wCA} (a1 a2 a3 a4 a5 : Int32) {E : List wCell} {μ μm : wMem} {n : Nat} (W : yBnd) (hl : l.stackTraces = false) (R : zRel ca aE (n + 1) (spX ++ E) μ μm) (hg : wGood ca) : ∃ sp1 μ1 μm1, zRel ca aE n sp1 μ1 μm1 ∧ wO_54 (wZa aE ad adK adV fo) l D ca a1 a2 a3 a4 a5 (spX ++ E) μ μm sp1 μ1 μm1 := by
  by_cases g : ok_k3 a1 = true
  · obtain ⟨_, cs, φ, _, Sh, Fm, T, Q, X, I⟩ := id R
    obtain ⟨k, hk, rfl⟩ := zK3 g
    rcases I with ⟨i1, i2, i3⟩ | ⟨cA, t, i1, i2, i3, i4, i5, i6, i7, i8⟩
    · exact zImage1 a2 a3 a4 a5 hk hg Sh Fm T Q X i1 i2 i3
    · exact zImage2 a2 a3 a4 a5 hk hg Sh Fm T Q X i1 i2 i3 i4 i5 i6 i7 i8
  · have g' : ok_k3 a1 = false := by
      cases h : ok_k3 a1
      · rfl
      · exact absurd h g
    exact ⟨_, _, _, R.zero, wob_54 g' zN (ym_image_no (zK3_no g') zN μm)⟩
