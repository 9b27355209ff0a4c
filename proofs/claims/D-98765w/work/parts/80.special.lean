set_option maxRecDepth 100000
theorem wX0_len {E : List wCell} : 0 < (spX ++ E).length := by rw [List.length_append]; exact Nat.lt_of_lt_of_le (show 0 < spX.length by decide) (Nat.le_add_right _ _)
theorem wob_54 {aE : Nat} {ad adK adV : Nat → Nat} {fo : Option Nat} {l : Launch} {D : va_G} {ca : wCA} {a1 a2 a3 a4 a5 : Int32} {E : List wCell} {μ μm μm1 : wMem} (hk : ok_k3 a1 = false) (M : Nat) (hm : fX6_image M a1 μm = some ((-2), μm1)) : wO_54 (wZa aE ad adK adV fo) l D ca a1 a2 a3 a4 a5 (spX ++ E) μ μm (spX ++ E) μ μm1 :=
  ⟨(-2), _, _, ⟨Nat.le_of_ble_eq_true rfl, Nat.le_of_ble_eq_true rfl, Nat.le_of_ble_eq_true rfl, Nat.le_of_ble_eq_true rfl, Nat.le_of_ble_eq_true rfl, Nat.le_of_ble_eq_true rfl⟩, fun q => wX_Mi (tX0_image_bad l hk μ), fun qm => by
    have h := tX6_image (E := []) (q := qm) (D := D) (ca := ca) l M a1 μm ((-2), μm1) hm
    rwa [List.append_nil] at h⟩
theorem woi_54 {aE : Nat} {ad adK adV : Nat → Nat} {fo : Option Nat} {l : Launch} {D : va_G} {ca : wCA} {a1 a2 a3 a4 a5 : Int32} {E : List wCell} {μ μm μm1 : wMem} {cA t t' t0 : Nat} (hL : (spX ++ E)[23]? = some (wLo cA)) (hA : (spX ++ E)[cA]? = some (.inr (t, 10))) (h4 : 4 < t) (hty : (wTy ca)[t0]? = some (ca.1 t, .object "java/lang/Object")) (hcl : wClosed (spX ++ E)) (hk : ok_k3 a1 = true) (hk0 : ¬ a1 < 0) (hin : ok_in a1 10 = true) (h4' : 4 < t') (hdg : ∀ j, wRd t' j = if j = a1.toNatClampNeg then (spX ++ E).length + 1 else wRd t j) (hct : ca.1 t' = ca.1 t) (μ1 : wMem) (hsz : μ.1 23 2 = 3) (hf : fX1_copy 1 2 3 4 5 6 7 (spX ++ E).length μ = some μ1) (hk1 : a1 < μ1.1 23 2) (M : Nat) (hm : fX6_image M a1 μm = some (0, μm1)) : wO_54 (wZa aE ad adK adV fo) l D ca a1 a2 a3 a4 a5 (spX ++ E) μ μm (wIm (spX ++ E) cA t') μ1 μm1 :=
  ⟨0, _, _, ⟨Nat.le_of_ble_eq_true rfl, Nat.le_of_ble_eq_true rfl, Nat.le_of_ble_eq_true rfl, Nat.le_of_ble_eq_true rfl, Nat.le_of_ble_eq_true rfl, Nat.le_of_ble_eq_true rfl⟩, fun q => wX_MKi wX0_len (tX0_image l hL hA h4 hty hcl hk hk0 hin h4' hdg hct μ μ1 hsz hf hk1), fun qm => by
    have h := tX6_image (E := []) (q := qm) (D := D) (ca := ca) l M a1 μm (0, μm1) hm
    rwa [List.append_nil] at h⟩
theorem wof_54 {aE : Nat} {ad adK adV : Nat → Nat} {fo : Option Nat} {l : Launch} {D : va_G} {ca : wCA} {a1 a2 a3 a4 a5 : Int32} {E : List wCell} {μ μm μm1 : wMem} {t' t0 : Nat} (hL : (spX ++ E)[23]? = some (wLoA aE)) (hty : (wTy ca)[t0]? = some (ca.1 5, .object "java/lang/Object")) (hcl : wClosed (spX ++ E)) (hk : ok_k3 a1 = true) (hk0 : ¬ a1 < 0) (hin : ok_in a1 10 = true) (h4' : 4 < t') (hdg : ∀ j, wRd t' j = if j = a1.toNatClampNeg then (spX ++ E).length + 1 + 1 else wRd 5 j) (hct : ca.1 t' = ca.1 5) (μ1 : wMem) (hsz : μ.1 23 2 = 0) (hf : fX1_copy 1 2 3 4 5 6 7 ((spX ++ E).length + 1) (wIm3 μ (spX ++ E).length) = some μ1) (hk1 : a1 < μ1.1 23 2) (M : Nat) (hm : fX6_image M a1 μm = some (0, μm1)) : wO_54 (wZa aE ad adK adV fo) l D ca a1 a2 a3 a4 a5 (spX ++ E) μ μm (wIm (wGr (spX ++ E) 23) (spX ++ E).length t') μ1 μm1 :=
  ⟨0, _, _, ⟨Nat.le_of_ble_eq_true rfl, Nat.le_of_ble_eq_true rfl, Nat.le_of_ble_eq_true rfl, Nat.le_of_ble_eq_true rfl, Nat.le_of_ble_eq_true rfl, Nat.le_of_ble_eq_true rfl⟩, fun q => wX_MKiE wX0_len (tX0_image0 l hL hty hcl hk hk0 hin h4' hdg hct μ μ1 hsz hf hk1), fun qm => by
    have h := tX6_image (E := []) (q := qm) (D := D) (ca := ca) l M a1 μm (0, μm1) hm
    rwa [List.append_nil] at h⟩
theorem wob_55 {aE : Nat} {ad adK adV : Nat → Nat} {fo : Option Nat} {l : Launch} {D : va_G} {ca : wCA} {a1 a2 a3 a4 a5 : Int32} {E : List wCell} {μ μm μm1 : wMem} (hk : ok_k3 a1 = false) (M : Nat) (hm : fX6_back M a1 μm = some ((-2), μm1)) : wO_55 (wZa aE ad adK adV fo) l D ca a1 a2 a3 a4 a5 (spX ++ E) μ μm (spX ++ E) μ μm1 :=
  ⟨(-2), _, _, ⟨Nat.le_of_ble_eq_true rfl, Nat.le_of_ble_eq_true rfl, Nat.le_of_ble_eq_true rfl, Nat.le_of_ble_eq_true rfl, Nat.le_of_ble_eq_true rfl, Nat.le_of_ble_eq_true rfl⟩, fun q => wX_Mi (tX0_back_bad l hk μ), fun qm => by
    have h := tX6_back (E := []) (q := qm) (D := D) (ca := ca) l M a1 μm ((-2), μm1) hm
    rwa [List.append_nil] at h⟩
theorem woe_55 {aE : Nat} {ad adK adV : Nat → Nat} {fo : Option Nat} {l : Launch} {D : va_G} {ca : wCA} {a1 a2 a3 a4 a5 : Int32} {E : List wCell} {μ μm μm1 : wMem} {f1 : Nat × Nat} (hL : (spX ++ E)[23]? = some (.inl (9, [(0, 0), f1, (0, 0)]))) (hk : ok_k3 a1 = true) (hsz : μ.1 23 2 = 0) (M : Nat) (hm : fX6_back M a1 μm = some ((-6), μm1)) : wO_55 (wZa aE ad adK adV fo) l D ca a1 a2 a3 a4 a5 (spX ++ E) μ μm (spX ++ E) μ μm1 :=
  ⟨(-6), _, _, ⟨Nat.le_of_ble_eq_true rfl, Nat.le_of_ble_eq_true rfl, Nat.le_of_ble_eq_true rfl, Nat.le_of_ble_eq_true rfl, Nat.le_of_ble_eq_true rfl, Nat.le_of_ble_eq_true rfl⟩, fun q => wX_Mi (tX0_back_empty l hL hk μ hsz), fun qm => by
    have h := tX6_back (E := []) (q := qm) (D := D) (ca := ca) l M a1 μm ((-6), μm1) hm
    rwa [List.append_nil] at h⟩
theorem won_55 {aE : Nat} {ad adK adV : Nat → Nat} {fo : Option Nat} {l : Launch} {D : va_G} {ca : wCA} {a1 a2 a3 a4 a5 : Int32} {E : List wCell} {μ μm μm1 : wMem} {cA : Nat} (hL : (spX ++ E)[23]? = some (wLo cA)) (hk : ok_k3 a1 = true) {t n t0 : Nat} (hA : (spX ++ E)[cA]? = some (.inr (t, n))) (h4 : 4 < t) (hty : (wTy ca)[t0]? = some (ca.1 t, .object "java/lang/Object")) (hk0 : ¬ a1 < 0) (hin : ok_in a1 n = true) (hne : ¬ μ.1 23 2 = 0) (hk1 : a1 < μ.1 23 2) (hz : wRd t a1.toNatClampNeg = 0) (M : Nat) (hm : fX6_back M a1 μm = some ((-6), μm1)) : wO_55 (wZa aE ad adK adV fo) l D ca a1 a2 a3 a4 a5 (spX ++ E) μ μm (spX ++ E) μ μm1 :=
  ⟨(-6), _, _, ⟨Nat.le_of_ble_eq_true rfl, Nat.le_of_ble_eq_true rfl, Nat.le_of_ble_eq_true rfl, Nat.le_of_ble_eq_true rfl, Nat.le_of_ble_eq_true rfl, Nat.le_of_ble_eq_true rfl⟩, fun q => wX_MKi wX0_len (tX0_back_null l hL hk μ hA h4 hty hk0 hin hne hk1 hz), fun qm => by
    have h := tX6_back (E := []) (q := qm) (D := D) (ca := ca) l M a1 μm ((-6), μm1) hm
    rwa [List.append_nil] at h⟩
/-- digits and closedness -/
def wDg8 (sp : List wCell) : Prop := ∀ t n, (Sum.inr (t, n) : wCell) ∈ sp → 4 < t → ∀ i, i < 16 → wRd t i ≠ 0 → 8 ≤ wRd t i - 1
theorem wDg_of {sp : List wCell} (hcl : wClosed sp) (h8 : wDg8 sp) {f : Nat} (hf : sp.length ≤ f) : wDgF f sp := fun t n hm h4 i hi hz => by
  have h9 := h8 t n hm h4 i hi hz
  have hlt : wRd t i - 1 < sp.length := by
    rcases Nat.lt_or_ge (wRd t i - 1) sp.length with h | h
    · exact h
    · have h1 := (wNoRef_iff.mp (hcl _ h)) _ hm
      have h2 : wRno t (wRd t i - 1) = true := by
        have : (!(decide (4 < t) && !wRno t (wRd t i - 1))) = true := h1
        simpa [h4] using this
      exact absurd (show wRd t i = wRd t i - 1 + 1 by omega) (wRno_at h2 i)
  exact wSw_id h9 (by omega)
theorem wX8 {E : List wCell} (i : Nat) (h : i < 22) : (spX ++ E)[i]? = spX[i]? := List.getElem?_append_left (show i < spX.length from h)
/-- the worlds behind back -/
abbrev wVb (E : List wCell) : List wCell := (wFw6 ((spX ++ E) ++ [Sum.inl (1, wFf0 0)]) (spX ++ E).length).set 0 (wXf (spX ++ E).length)
theorem wVb_len {E : List wCell} : (wVb E).length = (spX ++ E).length + 7 := by
  show ((wFw6 _ _).set 0 _).length = _
  rw [List.length_set, wFw6_len, List.length_append]; rfl
theorem wVb_fam {E : List wCell} (hl : 28 ≤ (spX ++ E).length) : wFam (spX ++ E).length (wVb E) := by
  refine wFam_of (fs := wFf0 0) (fun i _ h => wX8 i h) hl rfl (fun i hi _ => ?_) ?_
  · exact List.getElem?_set_ne (fun e => hi e.symm)
  · exact List.getElem?_set_self (by rw [wFw6_len]; simp)
theorem wVb_dg {E : List wCell} (hcl : wClosed (spX ++ E)) (h8 : wDg8 (spX ++ E)) : wDgF (spX ++ E).length (wVb E) := fun t n hm h4 => by
  have hm2 : (Sum.inr (t, n) : wCell) ∈ spX ++ E := by
    rcases List.mem_or_eq_of_mem_set hm with h | h
    · rcases List.mem_append.mp (wFw6_new h h4) with h | h
      · exact h
      · cases List.mem_singleton.mp h
    · cases h
  exact wDg_of hcl h8 (Nat.le_refl _) t n hm2 h4
theorem wSw_pinj {f : Nat} (hf : 8 ≤ f) {V : List wCell} : ∀ i j, i < (wSwap f V).length → j < (wSwap f V).length → wSw f i = wSw f j → i = j := fun _ _ _ _ e => wSw_inj hf e
theorem woo_55 {aE : Nat} {ad adK adV : Nat → Nat} {fo : Option Nat} {l : Launch} {D : va_G} {ca : wCA} {a1 a2 a3 a4 a5 : Int32} {E : List wCell} {μ μm μm1 : wMem} {cA : Nat} (hL : (spX ++ E)[23]? = some (wLo cA)) (hk : ok_k3 a1 = true) {t n t0 : Nat} (hA : (spX ++ E)[cA]? = some (.inr (t, n))) (h4 : 4 < t) (hty : (wTy ca)[t0]? = some (ca.1 t, .object "java/lang/Object")) (hk0 : ¬ a1 < 0) (hin : ok_in a1 n = true) (hne : ¬ μ.1 23 2 = 0) (hk1 : a1 < μ.1 23 2) {d i0 i1 i2 i3 i4 i5 : Nat} (hdg : wRd t a1.toNatClampNeg = d + 1) (hD : (spX ++ E)[d]? = some (.inl (1, [(0, 0), (0, 0), (0, 0), (0, 0), (0, 0), (0, 0), (0, 0), (0, 0), (2, i0), (2, i1), (2, i2), (2, i3), (2, i4), (2, i5)]))) (hi0 : (spX ++ E)[i0]? = some (.inr (0, 6))) (hi1 : (spX ++ E)[i1]? = some (.inr (0, 6))) (hi2 : (spX ++ E)[i2]? = some (.inr (0, 2))) (hi3 : (spX ++ E)[i3]? = some (.inr (0, 2))) (hi4 : (spX ++ E)[i4]? = some (.inr (0, 2))) (hi5 : (spX ++ E)[i5]? = some (.inr (0, 40))) (hcl : wClosed (spX ++ E)) {μ1 : wMem} (hf : fX1_copy d i0 i1 i2 i3 i4 i5 (spX ++ E).length μ = some μ1) (hl : 28 ≤ (spX ++ E).length) (h8 : wDg8 (spX ++ E)) (M : Nat) (hm : fX6_back M a1 μm = some (0, μm1)) : wO_55 (wZa aE ad adK adV fo) l D ca a1 a2 a3 a4 a5 (spX ++ E) μ μm (wSwap (spX ++ E).length (wVb E)) (wMp (wSw (spX ++ E).length) μ1) μm1 :=
  ⟨0, _, _, ⟨Nat.le_of_ble_eq_true rfl, Nat.le_of_ble_eq_true rfl, Nat.le_of_ble_eq_true rfl, Nat.le_of_ble_eq_true rfl, Nat.le_of_ble_eq_true rfl, Nat.le_of_ble_eq_true rfl⟩, fun q => wXi_perm wNoK (wSw (spX ++ E).length) _ (wSwap_perm (by omega) (by rw [wVb_len]; omega) (wVb_dg hcl h8)) (wSw_pinj (by omega)) (wSw_0 (by omega)) (wX_MKi wX0_len (tX0_back l hL hk μ hA h4 hty hk0 hin hne hk1 hdg hD hi0 hi1 hi2 hi3 hi4 hi5 hcl hf)), fun qm => by
    have h := tX6_back (E := []) (q := qm) (D := D) (ca := ca) l M a1 μm (0, μm1) hm
    rwa [List.append_nil] at h⟩
theorem wMake_X {E : List wCell} {b t n : Nat} (hb : 22 ≤ b) : wMake (spX ++ E) b t n = spX ++ (E ++ [Sum.inr (t, n)]).set (b - 22) (Sum.inl (5, [(2, (spX ++ E).length)])) := by
  show ((spX ++ E) ++ [Sum.inr (t, n)]).set b _ = _
  rw [List.append_assoc, List.set_append_right _ _ (show spX.length ≤ b from hb)]
  rfl
theorem wog_56 {aE : Nat} {ad adK adV : Nat → Nat} {fo : Option Nat} {l : Launch} {D : va_G} {ca : wCA} {a1 a2 a3 a4 a5 : Int32} {E : List wCell} {μ μm μm1 : wMem} {μ1 : wMem} {v : Int32} (hE : wSlots ca (spX ++ E)) (N : Nat) (n0 : Nat) {f0 : Nat × Nat} (hi1 : ok_in a1 4 = true) (hb : (spX ++ E)[24 + a1.toNatClampNeg]? = some (.inl (5, [f0]))) (h0 : (spX ++ E).length = n0) (hno : wNoRef (spX ++ E) (spX ++ E).length = true) (hf : fgX0_row N n0 a1 a2 a3 μ = some (v, μ1)) (M : Nat) (hm : fX6_row M a1 a2 a3 μm = some (v, μm1)) : wO_56 (wZa aE ad adK adV fo) l D ca a1 a2 a3 a4 a5 (spX ++ E) μ μm (wMake (spX ++ E) (24 + a1.toNatClampNeg) (wKind a2) a3.toNatClampNeg) μ1 μm1 :=
  ⟨v, _, _, ⟨Nat.le_of_ble_eq_true rfl, Nat.le_of_ble_eq_true rfl, Nat.le_of_ble_eq_true rfl, Nat.le_of_ble_eq_true rfl, Nat.le_of_ble_eq_true rfl, Nat.le_of_ble_eq_true rfl⟩, fun q => wX_MgW wX0_len (tgX0_row l hE N n0 a1 a2 a3 μ (v, μ1) hi1 hb h0 hno hf), fun qm => by
    have h := tX6_row (E := []) (q := qm) (D := D) (ca := ca) l M a1 a2 a3 μm (v, μm1) hm
    rwa [List.append_nil] at h⟩
theorem wopn1_58 {aE : Nat} {ad adK adV : Nat → Nat} {fo : Option Nat} {l : Launch} {D : va_G} {ca : wCA} {a1 a2 a3 a4 a5 : Int32} {E : List wCell} {μ μm μm1 : wMem} (hl : l.stackTraces = false) (hE : wSlots ca (spX ++ E)) (N : Nat) {v1 v3 : Int32} (μ1 μ2 : wMem) (hi1 : ok_in a1 4 = true) (hi3 : ok_in a3 4 = true) (h1 : fX0_isSlot N a1 μ = some (v1, μ1)) (hv1 : ¬ v1 = 0) (h3 : fX0_isSlot N a3 μ1 = some (v3, μ2)) (hv3 : ¬ v3 = 0) {x1 : Nat} {f3 : Nat × Nat} (hb1 : (spX ++ E)[24 + a1.toNatClampNeg]? = some (.inl (5, [(3, x1)]))) (hf3 : f3.1 = 2 ∨ f3.1 = 3) (hb3 : (spX ++ E)[24 + a3.toNatClampNeg]? = some (.inl (5, [f3]))) (M : Nat) (hm : fX6_paste M a1 a2 a3 a4 a5 μm = some ((-6), μm1)) : wO_58 (wZa aE ad adK adV fo) l D ca a1 a2 a3 a4 a5 (spX ++ E) μ μm (spX ++ E) μ2 μm1 :=
  ⟨(-6), _, _, ⟨Nat.le_of_ble_eq_true rfl, Nat.le_of_ble_eq_true rfl, Nat.le_of_ble_eq_true rfl, Nat.le_of_ble_eq_true rfl, Nat.le_of_ble_eq_true rfl, Nat.le_of_ble_eq_true rfl⟩, fun q => wX_MiWZ (tX0_paste_n1 l hl hE N μ μ1 μ2 hi1 hi3 h1 hv1 h3 hv3 hb1 hf3 hb3), fun qm => by
    have h := tX6_paste (E := []) (q := qm) (D := D) (ca := ca) l M a1 a2 a3 a4 a5 μm ((-6), μm1) hm
    rwa [List.append_nil] at h⟩
theorem wopn2_58 {aE : Nat} {ad adK adV : Nat → Nat} {fo : Option Nat} {l : Launch} {D : va_G} {ca : wCA} {a1 a2 a3 a4 a5 : Int32} {E : List wCell} {μ μm μm1 : wMem} (hl : l.stackTraces = false) (hE : wSlots ca (spX ++ E)) (N : Nat) {v1 v3 : Int32} (μ1 μ2 : wMem) (hi1 : ok_in a1 4 = true) (hi3 : ok_in a3 4 = true) (h1 : fX0_isSlot N a1 μ = some (v1, μ1)) (hv1 : ¬ v1 = 0) (h3 : fX0_isSlot N a3 μ1 = some (v3, μ2)) (hv3 : ¬ v3 = 0) {x3 c0 : Nat} (hb1 : (spX ++ E)[24 + a1.toNatClampNeg]? = some (.inl (5, [(2, c0)]))) (hb3 : (spX ++ E)[24 + a3.toNatClampNeg]? = some (.inl (5, [(3, x3)]))) (M : Nat) (hm : fX6_paste M a1 a2 a3 a4 a5 μm = some ((-6), μm1)) : wO_58 (wZa aE ad adK adV fo) l D ca a1 a2 a3 a4 a5 (spX ++ E) μ μm (spX ++ E) μ2 μm1 :=
  ⟨(-6), _, _, ⟨Nat.le_of_ble_eq_true rfl, Nat.le_of_ble_eq_true rfl, Nat.le_of_ble_eq_true rfl, Nat.le_of_ble_eq_true rfl, Nat.le_of_ble_eq_true rfl, Nat.le_of_ble_eq_true rfl⟩, fun q => wX_MiWZ (tX0_paste_n2 l hl hE N μ μ1 μ2 hi1 hi3 h1 hv1 h3 hv3 hb1 hb3), fun qm => by
    have h := tX6_paste (E := []) (q := qm) (D := D) (ca := ca) l M a1 a2 a3 a4 a5 μm ((-6), μm1) hm
    rwa [List.append_nil] at h⟩
theorem wopty_58 {aE : Nat} {ad adK adV : Nat → Nat} {fo : Option Nat} {l : Launch} {D : va_G} {ca : wCA} {a1 a2 a3 a4 a5 : Int32} {E : List wCell} {μ μm μm1 : wMem} (hl : l.stackTraces = false) (hE : wSlots ca (spX ++ E)) (N : Nat) {v1 v3 : Int32} (μ1 μ2 : wMem) (hi1 : ok_in a1 4 = true) (hi3 : ok_in a3 4 = true) (h1 : fX0_isSlot N a1 μ = some (v1, μ1)) (hv1 : ¬ v1 = 0) (h3 : fX0_isSlot N a3 μ1 = some (v3, μ2)) (hv3 : ¬ v3 = 0) {c0 t0 n0 c1 t1 n1 : Nat} (hb1 : (spX ++ E)[24 + a1.toNatClampNeg]? = some (.inl (5, [(2, c0)]))) (hb3 : (spX ++ E)[24 + a3.toNatClampNeg]? = some (.inl (5, [(2, c1)]))) (hr1 : wRow (spX ++ E) c0 t0 n0) (hr3 : wRow (spX ++ E) c1 t1 n1) (hne : t0 ≠ t1) (M : Nat) (hm : fX6_paste M a1 a2 a3 a4 a5 μm = some ((-8), μm1)) : wO_58 (wZa aE ad adK adV fo) l D ca a1 a2 a3 a4 a5 (spX ++ E) μ μm (spX ++ E) μ2 μm1 :=
  ⟨(-8), _, _, ⟨Nat.le_of_ble_eq_true rfl, Nat.le_of_ble_eq_true rfl, Nat.le_of_ble_eq_true rfl, Nat.le_of_ble_eq_true rfl, Nat.le_of_ble_eq_true rfl, Nat.le_of_ble_eq_true rfl⟩, fun q => wX_MiWZ (tX0_paste_ty l hl hE N μ μ1 μ2 hi1 hi3 h1 hv1 h3 hv3 hb1 hb3 hr1 hr3 hne), fun qm => by
    have h := tX6_paste (E := []) (q := qm) (D := D) (ca := ca) l M a1 a2 a3 a4 a5 μm ((-8), μm1) hm
    rwa [List.append_nil] at h⟩
theorem wopout_58 {aE : Nat} {ad adK adV : Nat → Nat} {fo : Option Nat} {l : Launch} {D : va_G} {ca : wCA} {a1 a2 a3 a4 a5 : Int32} {E : List wCell} {μ μm μm1 : wMem} (hl : l.stackTraces = false) (hE : wSlots ca (spX ++ E)) (N : Nat) {v1 v3 : Int32} (μ1 μ2 : wMem) (hi1 : ok_in a1 4 = true) (hi3 : ok_in a3 4 = true) (h1 : fX0_isSlot N a1 μ = some (v1, μ1)) (hv1 : ¬ v1 = 0) (h3 : fX0_isSlot N a3 μ1 = some (v3, μ2)) (hv3 : ¬ v3 = 0) {c0 t n0 c1 n1 : Nat} {w : String} (hb1 : (spX ++ E)[24 + a1.toNatClampNeg]? = some (.inl (5, [(2, c0)]))) (hb3 : (spX ++ E)[24 + a3.toNatClampNeg]? = some (.inl (5, [(2, c1)]))) (hr1 : wRow (spX ++ E) c0 t n0) (hr3 : wRow (spX ++ E) c1 t n1) (hn0 : n0 < 2 ^ 31) (hn1 : n1 < 2 ^ 31) (hf : copyFault (wRt t) (wRt t) n0 n1 a2 a4 a5 = some w) (M : Nat) (hm : fX6_paste M a1 a2 a3 a4 a5 μm = some ((-7), μm1)) : wO_58 (wZa aE ad adK adV fo) l D ca a1 a2 a3 a4 a5 (spX ++ E) μ μm (spX ++ E) μ2 μm1 :=
  ⟨(-7), _, _, ⟨Nat.le_of_ble_eq_true rfl, Nat.le_of_ble_eq_true rfl, Nat.le_of_ble_eq_true rfl, Nat.le_of_ble_eq_true rfl, Nat.le_of_ble_eq_true rfl, Nat.le_of_ble_eq_true rfl⟩, fun q => wX_MiWZ (tX0_paste_out l hl hE N μ μ1 μ2 hi1 hi3 h1 hv1 h3 hv3 hb1 hb3 hr1 hr3 hn0 hn1 hf), fun qm => by
    have h := tX6_paste (E := []) (q := qm) (D := D) (ca := ca) l M a1 a2 a3 a4 a5 μm ((-7), μm1) hm
    rwa [List.append_nil] at h⟩
theorem wopb1_58 {aE : Nat} {ad adK adV : Nat → Nat} {fo : Option Nat} {l : Launch} {D : va_G} {ca : wCA} {a1 a2 a3 a4 a5 : Int32} {E : List wCell} {μ μm μm1 : wMem} (N : Nat) {v1 v3 : Int32} (μ1 μ2 : wMem) (h1 : fX0_isSlot N a1 μ = some (v1, μ1)) (hv1 : v1 = 0) (M : Nat) (hm : fX6_paste M a1 a2 a3 a4 a5 μm = some ((-2), μm1)) : wO_58 (wZa aE ad adK adV fo) l D ca a1 a2 a3 a4 a5 (spX ++ E) μ μm (spX ++ E) μ1 μm1 :=
  ⟨(-2), _, _, ⟨Nat.le_of_ble_eq_true rfl, Nat.le_of_ble_eq_true rfl, Nat.le_of_ble_eq_true rfl, Nat.le_of_ble_eq_true rfl, Nat.le_of_ble_eq_true rfl, Nat.le_of_ble_eq_true rfl⟩, fun q => wX_MiWZ (tX0_paste_b1 (v3 := v3) l N μ μ1 μ2 h1 hv1), fun qm => by
    have h := tX6_paste (E := []) (q := qm) (D := D) (ca := ca) l M a1 a2 a3 a4 a5 μm ((-2), μm1) hm
    rwa [List.append_nil] at h⟩
theorem wopb2_58 {aE : Nat} {ad adK adV : Nat → Nat} {fo : Option Nat} {l : Launch} {D : va_G} {ca : wCA} {a1 a2 a3 a4 a5 : Int32} {E : List wCell} {μ μm μm1 : wMem} (N : Nat) {v1 v3 : Int32} (μ1 μ2 : wMem) (h1 : fX0_isSlot N a1 μ = some (v1, μ1)) (hv1 : ¬ v1 = 0) (h3 : fX0_isSlot N a3 μ1 = some (v3, μ2)) (hv3 : v3 = 0) (M : Nat) (hm : fX6_paste M a1 a2 a3 a4 a5 μm = some ((-2), μm1)) : wO_58 (wZa aE ad adK adV fo) l D ca a1 a2 a3 a4 a5 (spX ++ E) μ μm (spX ++ E) μ2 μm1 :=
  ⟨(-2), _, _, ⟨Nat.le_of_ble_eq_true rfl, Nat.le_of_ble_eq_true rfl, Nat.le_of_ble_eq_true rfl, Nat.le_of_ble_eq_true rfl, Nat.le_of_ble_eq_true rfl, Nat.le_of_ble_eq_true rfl⟩, fun q => wX_MiWZ (tX0_paste_b2 l N μ μ1 μ2 h1 hv1 h3 hv3), fun qm => by
    have h := tX6_paste (E := []) (q := qm) (D := D) (ca := ca) l M a1 a2 a3 a4 a5 μm ((-2), μm1) hm
    rwa [List.append_nil] at h⟩
theorem wopi_58 {aE : Nat} {ad adK adV : Nat → Nat} {fo : Option Nat} {l : Launch} {D : va_G} {ca : wCA} {a1 a2 a3 a4 a5 : Int32} {E : List wCell} {μ μm μm1 : wMem} (hl : l.stackTraces = false) (hE : wSlots ca (spX ++ E)) (N : Nat) {v1 v3 : Int32} (μ1 μ2 : wMem) (hi1 : ok_in a1 4 = true) (hi3 : ok_in a3 4 = true) (h1 : fX0_isSlot N a1 μ = some (v1, μ1)) (hv1 : ¬ v1 = 0) (h3 : fX0_isSlot N a3 μ1 = some (v3, μ2)) (hv3 : ¬ v3 = 0) {c0 n0 c1 n1 : Nat} (hb1 : (spX ++ E)[24 + a1.toNatClampNeg]? = some (.inl (5, [(2, c0)]))) (hb3 : (spX ++ E)[24 + a3.toNatClampNeg]? = some (.inl (5, [(2, c1)]))) (hs0 : (spX ++ E)[c0]? = some (.inr (0, n0))) (hs1 : (spX ++ E)[c1]? = some (.inr (0, n1))) (hin : ¬ a2 < 0 ∧ ¬ a4 < 0 ∧ ¬ a5 < 0 ∧ a2.toNatClampNeg + a5.toNatClampNeg ≤ n0 ∧ a4.toNatClampNeg + a5.toNatClampNeg ≤ n1) (M : Nat) (hm : fX6_paste M a1 a2 a3 a4 a5 μm = some ((0), μm1)) : wO_58 (wZa aE ad adK adV fo) l D ca a1 a2 a3 a4 a5 (spX ++ E) μ μm (spX ++ E) (wCpy μ2 c0 c1 a2.toNatClampNeg a4.toNatClampNeg a5.toNatClampNeg) μm1 :=
  ⟨(0), _, _, ⟨Nat.le_of_ble_eq_true rfl, Nat.le_of_ble_eq_true rfl, Nat.le_of_ble_eq_true rfl, Nat.le_of_ble_eq_true rfl, Nat.le_of_ble_eq_true rfl, Nat.le_of_ble_eq_true rfl⟩, fun q => wX_MiWZ (tX0_paste_i l hl hE N μ μ1 μ2 hi1 hi3 h1 hv1 h3 hv3 hb1 hb3 hs0 hs1 hin), fun qm => by
    have h := tX6_paste (E := []) (q := qm) (D := D) (ca := ca) l M a1 a2 a3 a4 a5 μm ((0), μm1) hm
    rwa [List.append_nil] at h⟩
theorem wopb_58 {aE : Nat} {ad adK adV : Nat → Nat} {fo : Option Nat} {l : Launch} {D : va_G} {ca : wCA} {a1 a2 a3 a4 a5 : Int32} {E : List wCell} {μ μm μm1 : wMem} (hl : l.stackTraces = false) (hE : wSlots ca (spX ++ E)) (N : Nat) {v1 v3 : Int32} (μ1 μ2 : wMem) (hi1 : ok_in a1 4 = true) (hi3 : ok_in a3 4 = true) (h1 : fX0_isSlot N a1 μ = some (v1, μ1)) (hv1 : ¬ v1 = 0) (h3 : fX0_isSlot N a3 μ1 = some (v3, μ2)) (hv3 : ¬ v3 = 0) {c0 n0 c1 n1 : Nat} (hb1 : (spX ++ E)[24 + a1.toNatClampNeg]? = some (.inl (5, [(2, c0)]))) (hb3 : (spX ++ E)[24 + a3.toNatClampNeg]? = some (.inl (5, [(2, c1)]))) (hs0 : (spX ++ E)[c0]? = some (.inr (2, n0))) (hs1 : (spX ++ E)[c1]? = some (.inr (2, n1))) (hfit : ∀ i, i < a5.toNatClampNeg → fits .byte (.int (μ2.1 c0 (a2.toNatClampNeg + i))) = true) (hin : ¬ a2 < 0 ∧ ¬ a4 < 0 ∧ ¬ a5 < 0 ∧ a2.toNatClampNeg + a5.toNatClampNeg ≤ n0 ∧ a4.toNatClampNeg + a5.toNatClampNeg ≤ n1) (M : Nat) (hm : fX6_paste M a1 a2 a3 a4 a5 μm = some ((0), μm1)) : wO_58 (wZa aE ad adK adV fo) l D ca a1 a2 a3 a4 a5 (spX ++ E) μ μm (spX ++ E) (wCpy μ2 c0 c1 a2.toNatClampNeg a4.toNatClampNeg a5.toNatClampNeg) μm1 :=
  ⟨(0), _, _, ⟨Nat.le_of_ble_eq_true rfl, Nat.le_of_ble_eq_true rfl, Nat.le_of_ble_eq_true rfl, Nat.le_of_ble_eq_true rfl, Nat.le_of_ble_eq_true rfl, Nat.le_of_ble_eq_true rfl⟩, fun q => wX_MiWZ (tX0_paste_b l hl hE N μ μ1 μ2 hi1 hi3 h1 hv1 h3 hv3 hb1 hb3 hs0 hs1 hfit hin), fun qm => by
    have h := tX6_paste (E := []) (q := qm) (D := D) (ca := ca) l M a1 a2 a3 a4 a5 μm ((0), μm1) hm
    rwa [List.append_nil] at h⟩
theorem wops_58 {aE : Nat} {ad adK adV : Nat → Nat} {fo : Option Nat} {l : Launch} {D : va_G} {ca : wCA} {a1 a2 a3 a4 a5 : Int32} {E : List wCell} {μ μm μm1 : wMem} (hl : l.stackTraces = false) (hE : wSlots ca (spX ++ E)) (N : Nat) {v1 v3 : Int32} (μ1 μ2 : wMem) (hi1 : ok_in a1 4 = true) (hi3 : ok_in a3 4 = true) (h1 : fX0_isSlot N a1 μ = some (v1, μ1)) (hv1 : ¬ v1 = 0) (h3 : fX0_isSlot N a3 μ1 = some (v3, μ2)) (hv3 : ¬ v3 = 0) {c0 n0 c1 n1 : Nat} (hb1 : (spX ++ E)[24 + a1.toNatClampNeg]? = some (.inl (5, [(2, c0)]))) (hb3 : (spX ++ E)[24 + a3.toNatClampNeg]? = some (.inl (5, [(2, c1)]))) (hs0 : (spX ++ E)[c0]? = some (.inr (4, n0))) (hs1 : (spX ++ E)[c1]? = some (.inr (4, n1))) (hfit : ∀ i, i < a5.toNatClampNeg → fits .short (.int (μ2.1 c0 (a2.toNatClampNeg + i))) = true) (hin : ¬ a2 < 0 ∧ ¬ a4 < 0 ∧ ¬ a5 < 0 ∧ a2.toNatClampNeg + a5.toNatClampNeg ≤ n0 ∧ a4.toNatClampNeg + a5.toNatClampNeg ≤ n1) (M : Nat) (hm : fX6_paste M a1 a2 a3 a4 a5 μm = some ((0), μm1)) : wO_58 (wZa aE ad adK adV fo) l D ca a1 a2 a3 a4 a5 (spX ++ E) μ μm (spX ++ E) (wCpy μ2 c0 c1 a2.toNatClampNeg a4.toNatClampNeg a5.toNatClampNeg) μm1 :=
  ⟨(0), _, _, ⟨Nat.le_of_ble_eq_true rfl, Nat.le_of_ble_eq_true rfl, Nat.le_of_ble_eq_true rfl, Nat.le_of_ble_eq_true rfl, Nat.le_of_ble_eq_true rfl, Nat.le_of_ble_eq_true rfl⟩, fun q => wX_MiWZ (tX0_paste_s l hl hE N μ μ1 μ2 hi1 hi3 h1 hv1 h3 hv3 hb1 hb3 hs0 hs1 hfit hin), fun qm => by
    have h := tX6_paste (E := []) (q := qm) (D := D) (ca := ca) l M a1 a2 a3 a4 a5 μm ((0), μm1) hm
    rwa [List.append_nil] at h⟩
theorem wopl_58 {aE : Nat} {ad adK adV : Nat → Nat} {fo : Option Nat} {l : Launch} {D : va_G} {ca : wCA} {a1 a2 a3 a4 a5 : Int32} {E : List wCell} {μ μm μm1 : wMem} (hl : l.stackTraces = false) (hE : wSlots ca (spX ++ E)) (N : Nat) {v1 v3 : Int32} (μ1 μ2 : wMem) (hi1 : ok_in a1 4 = true) (hi3 : ok_in a3 4 = true) (h1 : fX0_isSlot N a1 μ = some (v1, μ1)) (hv1 : ¬ v1 = 0) (h3 : fX0_isSlot N a3 μ1 = some (v3, μ2)) (hv3 : ¬ v3 = 0) {c0 n0 c1 n1 : Nat} (hb1 : (spX ++ E)[24 + a1.toNatClampNeg]? = some (.inl (5, [(2, c0)]))) (hb3 : (spX ++ E)[24 + a3.toNatClampNeg]? = some (.inl (5, [(2, c1)]))) (hs0 : (spX ++ E)[c0]? = some (.inr (1, n0))) (hs1 : (spX ++ E)[c1]? = some (.inr (1, n1))) (hin : ¬ a2 < 0 ∧ ¬ a4 < 0 ∧ ¬ a5 < 0 ∧ a2.toNatClampNeg + a5.toNatClampNeg ≤ n0 ∧ a4.toNatClampNeg + a5.toNatClampNeg ≤ n1) (M : Nat) (hm : fX6_paste M a1 a2 a3 a4 a5 μm = some ((0), μm1)) : wO_58 (wZa aE ad adK adV fo) l D ca a1 a2 a3 a4 a5 (spX ++ E) μ μm (spX ++ E) (wCpyL μ2 c0 c1 a2.toNatClampNeg a4.toNatClampNeg a5.toNatClampNeg) μm1 :=
  ⟨(0), _, _, ⟨Nat.le_of_ble_eq_true rfl, Nat.le_of_ble_eq_true rfl, Nat.le_of_ble_eq_true rfl, Nat.le_of_ble_eq_true rfl, Nat.le_of_ble_eq_true rfl, Nat.le_of_ble_eq_true rfl⟩, fun q => wX_MiWZ (tX0_paste_l l hl hE N μ μ1 μ2 hi1 hi3 h1 hv1 h3 hv3 hb1 hb3 hs0 hs1 hin), fun qm => by
    have h := tX6_paste (E := []) (q := qm) (D := D) (ca := ca) l M a1 a2 a3 a4 a5 μm ((0), μm1) hm
    rwa [List.append_nil] at h⟩
/-- the world of a family that is read: the reader's cell, the family behind -/
def wSf (E : List wCell) : List wCell := (spX ++ (E ++ [wRd0])).set (spX ++ E).length wRd1
theorem wSf_len {E : List wCell} : (wSf E).length = (spX ++ E).length + 1 := by
  unfold wSf
  rw [List.length_set, ← List.append_assoc, List.length_append]; rfl
theorem wSf_old {E : List wCell} {i : Nat} (h : i < (spX ++ E).length) : (wSf E)[i]? = (spX ++ E)[i]? := by
  unfold wSf
  rw [List.getElem?_set_ne (by omega), ← List.append_assoc, List.getElem?_append_left h]
abbrev wVf (E : List wCell) (a : Nat) : List wCell := (wRW (wSf E) (spX ++ E).length a).set 0 (wXf (wSf E).length)
theorem wRW_len {S : List wCell} {b a : Nat} : (wRW S b a).length = S.length + 7 := by
  unfold wRW
  rw [List.length_set, wFw6_len, List.length_append]; rfl
theorem wVf_fam {E : List wCell} {a : Nat} (hl : 28 ≤ (spX ++ E).length) : wFam (wSf E).length (wVf E a) := by
  have hL := wSf_len (E := E)
  refine wFam_of (fs := wFf0 0) (fun i _ h => (wSf_old (by omega)).trans (wX8 i h)) (by omega) rfl (fun i hi h => ?_) ?_
  · show (((wFw6 (wSf E ++ [wF00]) (wSf E).length).set (spX ++ E).length _).set 0 _)[i]? = _
    rw [List.getElem?_set_ne (fun e => hi e.symm), List.getElem?_set_ne (by omega)]
  · exact List.getElem?_set_self (by rw [wRW_len]; omega)
theorem wVf_new {E : List wCell} {b a t n : Nat} (h : (Sum.inr (t, n) : wCell) ∈ wRW (wSf E) b a) (h4 : 4 < t) : (Sum.inr (t, n) : wCell) ∈ spX ++ E := by
  unfold wRW at h
  rcases List.mem_or_eq_of_mem_set h with h | h
  · rcases List.mem_append.mp (wFw6_new h h4) with h | h
    · unfold wSf at h
      rcases List.mem_or_eq_of_mem_set h with h | h
      · rw [← List.append_assoc] at h
        rcases List.mem_append.mp h with h | h
        · exact h
        · cases List.mem_singleton.mp h
      · cases h
    · cases List.mem_singleton.mp h
  · cases h
theorem wVf_dg {E : List wCell} {a : Nat} (hcl : wClosed (spX ++ E)) (h8 : wDg8 (spX ++ E)) : wDgF (wSf E).length (wVf E a) := fun t n hm h4 => by
  have hm2 : (Sum.inr (t, n) : wCell) ∈ spX ++ E := by
    rcases List.mem_or_eq_of_mem_set hm with h | h
    · exact wVf_new h h4
    · cases h
  exact wDg_of hcl h8 (by rw [wSf_len]; omega) t n hm2 h4
/-- a family is read -/
theorem wor_2 {aE : Nat} {ad adK adV : Nat → Nat} {fo : Option Nat} {l : Launch} {D : va_G} {ca : wCA} {a1 a2 a3 a4 a5 : Int32} {E : List wCell} {μ μm μm1 : wMem} (hl : 28 ≤ (spX ++ E).length) (hcl : wClosed (spX ++ E)) (hA : wAd ad) (N M1 i t9 : Nat) (μ1 μ9 : wMem) (h8 : wDg8 (spX ++ E)) (u : Unit) (hf1 : wNext N (spX ++ E).length (wRm (wZ μ (spX ++ E).length) (spX ++ E).length (wSf E).length) = some (i, μ1)) (hf2 : wRead wLen wByt N (spX ++ E).length (wSf E).length ((wSf E).length + 1) M1 i μ1 = some (.inl (u, t9, μ9))) (M : Nat) (hm : fX6_family M μm = some (((wSI (wSI μ9 0 3 0) 0 4 (-1)).1 (wSf E).length 1), μm1)) : wO_2 (wZa aE ad adK adV fo) l D ca a1 a2 a3 a4 a5 (spX ++ E) μ μm (wSwap (wSf E).length (wVf E (ad t9))) (wMp (wSw (wSf E).length) (wSI (wSI (wSI μ9 0 3 0) 0 4 (-1)) 0 2 0)) μm1 :=
  have hL := wSf_len (E := E)
  ⟨((wSI (wSI μ9 0 3 0) 0 4 (-1)).1 (wSf E).length 1), _, _, ⟨Nat.le_of_ble_eq_true rfl, Nat.le_of_ble_eq_true rfl, Nat.le_of_ble_eq_true rfl, Nat.le_of_ble_eq_true rfl, Nat.le_of_ble_eq_true rfl, Nat.le_of_ble_eq_true rfl⟩, fun q => wXi_perm wNoK (wSw (wSf E).length) _ (wSwap_perm (by omega) (by show _ ≤ ((wRW _ _ _).set 0 _).length; rw [List.length_set, wRW_len]; exact Nat.le_refl _) (wVf_dg hcl h8)) (wSw_pinj (by omega)) (wSw_0 (by omega)) (wX_MKiW wX0_len (tX0_family l (b := (spX ++ E).length) (S := wSf E) rfl rfl hcl (Nat.le_refl _) hA N M1 i t9 μ μ1 μ9 u hf1 hf2)), fun qm => by
    have h := tX6_family (E := []) (q := qm) (D := D) (ca := ca) l M μm (((wSI (wSI μ9 0 3 0) 0 4 (-1)).1 (wSf E).length 1), μm1) hm
    rwa [List.append_nil] at h⟩
/-- a family is not read: a Fault -/
theorem wot_2 {aE : Nat} {ad adK adV : Nat → Nat} {fo : Option Nat} {l : Launch} {D : va_G} {ca : wCA} {a1 a2 a3 a4 a5 : Int32} {E : List wCell} {μ μm μm1 : wMem} (hl : 28 ≤ (spX ++ E).length) (hcl : wClosed (spX ++ E)) (hA : wAd ad) (N M1 i t9 : Nat) (μ1 μ9 : wMem) (kk : Int32) (hf1 : wNext N (spX ++ E).length (wRm (wZ μ (spX ++ E).length) (spX ++ E).length (wSf E).length) = some (i, μ1)) (hf2 : wRead wLen wByt N (spX ++ E).length (wSf E).length ((wSf E).length + 1) M1 i μ1 = some (.inr (kk, t9, μ9))) (M : Nat) (hm : fX6_family M μm = some ((-4), μm1)) : wO_2 (wZa aE ad adK adV fo) l D ca a1 a2 a3 a4 a5 (spX ++ E) μ μm ((wRW (wSf E) (spX ++ E).length (ad t9)) ++ [wFlt]) (wSI (wSI (wSI (wFm μ9 (wRW (wSf E) (spX ++ E).length (ad t9)).length kk ((wZ μ9 (wRW (wSf E) (spX ++ E).length (ad t9)).length).1 (spX ++ E).length 3)) 0 3 ((wFm μ9 (wRW (wSf E) (spX ++ E).length (ad t9)).length kk ((wZ μ9 (wRW (wSf E) (spX ++ E).length (ad t9)).length).1 (spX ++ E).length 3)).1 (wRW (wSf E) (spX ++ E).length (ad t9)).length 6)) 0 4 ((wSI (wFm μ9 (wRW (wSf E) (spX ++ E).length (ad t9)).length kk ((wZ μ9 (wRW (wSf E) (spX ++ E).length (ad t9)).length).1 (spX ++ E).length 3)) 0 3 ((wFm μ9 (wRW (wSf E) (spX ++ E).length (ad t9)).length kk ((wZ μ9 (wRW (wSf E) (spX ++ E).length (ad t9)).length).1 (spX ++ E).length 3)).1 (wRW (wSf E) (spX ++ E).length (ad t9)).length 6)).1 (wRW (wSf E) (spX ++ E).length (ad t9)).length 7)) 0 2 0) μm1 :=
  ⟨(-4), _, _, ⟨Nat.le_of_ble_eq_true rfl, Nat.le_of_ble_eq_true rfl, Nat.le_of_ble_eq_true rfl, Nat.le_of_ble_eq_true rfl, Nat.le_of_ble_eq_true rfl, Nat.le_of_ble_eq_true rfl⟩, fun q => wX_MKiW wX0_len (tX0_familyT l (b := (spX ++ E).length) (S := wSf E) rfl rfl hcl (Nat.le_refl _) hA N M1 i t9 μ μ1 μ9 kk hf1 hf2), fun qm => by
    have h := tX6_family (E := []) (q := qm) (D := D) (ca := ca) l M μm ((-4), μm1) hm
    rwa [List.append_nil] at h⟩
