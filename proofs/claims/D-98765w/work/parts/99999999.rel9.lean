set_option maxRecDepth 100000
/-! part 99999999: the start of the relation; a call of it -/
/-- a memory that is 0 but for the object's own cell -/
def zZ (w : Nat → Int32) (μ : wMem) : Prop := ∀ c i, μ.1 c i = if c = 0 then w i else 0
theorem zZ_z {w : Nat → Int32} {μ : wMem} (h : zZ w μ) {n : Nat} (hn : n ≠ 0) : zZ w (wZ μ n) := fun c i => by
  show (if c = n then (fun _ => (0 : Int32)) else μ.1 c) i = _
  by_cases e : c = n
  · rw [if_pos e, if_neg (by omega)]
  · rw [if_neg e]
    exact h c i
theorem zZ_s {w : Nat → Int32} {μ : wMem} (h : zZ w μ) (j : Nat) (v : Int32) : zZ (fun i => if i = j then v else w i) (wSI μ 0 j v) := fun c i => by
  rw [yS_get]
  by_cases e : c = 0
  · by_cases e2 : i = j
    · rw [if_pos ⟨e, e2⟩, if_pos e]
      exact (if_pos e2).symm
    · rw [if_neg (fun x => e2 x.2), if_pos e]
      show _ = if i = j then v else w i
      rw [if_neg e2, h, if_pos e]
  · rw [if_neg (fun x => e x.1), if_neg e, h, if_neg e]
theorem zZ_0 {w : Nat → Int32} {μ : wMem} (h : zZ w μ) {c0 j : Nat} (hc : c0 ≠ 0) : zZ w (wSI μ c0 j 0) := fun c i => by
  rw [yS_get]
  by_cases e : c = c0 ∧ i = j
  · rw [if_pos e, if_neg (by omega)]
  · rw [if_neg e]
    exact h c i
theorem zPiC {c : Nat} (h : c ≠ 0) : wPiC c ≠ 0 := by
  rcases Nat.lt_or_ge c 28 with g | g
  · have k : ∀ c : Nat, c < 28 → c ≠ 0 → wPiC c ≠ 0 := by decide
    exact k c g h
  · unfold wPiC
    rw [List.getD_eq_getElem?_getD, List.getElem?_eq_none (by exact g)]
    exact h
theorem zZ_p {w : Nat → Int32} {μ : wMem} (h : zZ w μ) : zZ w (wMp wPiC μ) := fun c i => by
  show μ.1 (wPiC c) i = _
  rw [h]
  by_cases e : c = 0
  · subst e
    rfl
  · rw [if_neg e, if_neg (zPiC e)]
/-- the component's first memory -/
def zM0 : wMem := wZ (fun _ _ => 0, fun _ _ => 0) 0
theorem zX0 : zZ (fun i => if i = 4 then -1 else 0) (fX0_init zM0) := by
  have h0 : zZ (fun _ => 0) zM0 := fun c i => by
    show (if c = 0 then (fun _ => (0 : Int32)) else (fun _ => 0)) i = _
    by_cases e : c = 0
    · rw [if_pos e, if_pos e]
    · rw [if_neg e, if_neg e]
  exact (zZ_0 (zZ_z (zZ_z (zZ_z (zZ_z (zZ_z (zZ_z (zZ_z (zZ_z (zZ_z (zZ_z (zZ_z (zZ_z (zZ_z (zZ_z (zZ_z (zZ_z (zZ_z (zZ_z (zZ_z (zZ_s (zZ_z (zZ_z (zZ_z (zZ_z (zZ_z (zZ_z (zZ_z (zZ_z h0 (n := 1) (by decide)) (n := 2) (by decide)) (n := 3) (by decide)) (n := 4) (by decide)) (n := 5) (by decide)) (n := 6) (by decide)) (n := 7) (by decide)) (n := 8) (by decide)) 4 (-1)) (n := 9) (by decide)) (n := 10) (by decide)) (n := 11) (by decide)) (n := 12) (by decide)) (n := 13) (by decide)) (n := 14) (by decide)) (n := 15) (by decide)) (n := 16) (by decide)) (n := 17) (by decide)) (n := 18) (by decide)) (n := 19) (by decide)) (n := 20) (by decide)) (n := 21) (by decide)) (n := 22) (by decide)) (n := 23) (by decide)) (n := 24) (by decide)) (n := 25) (by decide)) (n := 26) (by decide)) (n := 27) (by decide)) (c0 := 27) (j := 0) (by decide))
theorem zC0 : zZ (fun i => if i = 4 then -1 else 0) (wZ (wMp wPiC (fX0_init zM0)) 28) := zZ_z (zZ_p zX0) (by decide)
theorem zInit {μ : wMem} (h : zZ (fun _ => 0) μ) : ∃ r0, fX6_init 5 μ = some r0 ∧ ∀ c i, r0.1 c i = if c = 0 then (if i = 15 then -1 else 0) else if c = 1 ∧ i < 4 then -1 else 0 := by
  have t : zZ (fun i => if i = 15 then -1 else 0) (wZ (wZ (wZ (wZ (wZ (wZ (wZ (wZ (wZ (wZ (wZ (wZ (wZ (wZ (wZ (wZ (wZ (wZ (wSI (wZ (wZ (wZ (wZ (wZ μ 1) 2) 3) 4) 5) 0 15 (-1)) 6) 7) 8) 9) 10) 11) 12) 13) 14) 15) 16) 17) 18) 19) 20) 21) 22) 23) := (zZ_z (zZ_z (zZ_z (zZ_z (zZ_z (zZ_z (zZ_z (zZ_z (zZ_z (zZ_z (zZ_z (zZ_z (zZ_z (zZ_z (zZ_z (zZ_z (zZ_z (zZ_z (zZ_s (zZ_z (zZ_z (zZ_z (zZ_z (zZ_z h (n := 1) (by decide)) (n := 2) (by decide)) (n := 3) (by decide)) (n := 4) (by decide)) (n := 5) (by decide)) 15 (-1)) (n := 6) (by decide)) (n := 7) (by decide)) (n := 8) (by decide)) (n := 9) (by decide)) (n := 10) (by decide)) (n := 11) (by decide)) (n := 12) (by decide)) (n := 13) (by decide)) (n := 14) (by decide)) (n := 15) (by decide)) (n := 16) (by decide)) (n := 17) (by decide)) (n := 18) (by decide)) (n := 19) (by decide)) (n := 20) (by decide)) (n := 21) (by decide)) (n := 22) (by decide)) (n := 23) (by decide))
  have e : fX6_init 5 μ = gX6_init_195 5 (fun μ9 => some μ9) 5 0 (wZ (wZ (wZ (wZ (wZ (wZ (wZ (wZ (wZ (wZ (wZ (wZ (wZ (wZ (wZ (wZ (wZ (wZ (wSI (wZ (wZ (wZ (wZ (wZ μ 1) 2) 3) 4) 5) 0 15 (-1)) 6) 7) 8) 9) 10) 11) 12) 13) 14) 15) 16) 17) 18) 19) 20) 21) 22) 23) := rfl
  rw [e]
  clear e
  revert t
  generalize (wZ (wZ (wZ (wZ (wZ (wZ (wZ (wZ (wZ (wZ (wZ (wZ (wZ (wZ (wZ (wZ (wZ (wZ (wSI (wZ (wZ (wZ (wZ (wZ μ 1) 2) 3) 4) 5) 0 15 (-1)) 6) 7) 8) 9) 10) 11) 12) 13) 14) 15) 16) 17) 18) 19) 20) 21) 22) 23) = X
  intro t
  refine ⟨wSI (wSI (wSI (wSI X 1 0 (-1)) 1 1 (-1)) 1 2 (-1)) 1 3 (-1), ?_, fun c i => ?_⟩
  · have a0 : gX6_init_195 5 (fun μ9 => some μ9) 5 0 X = gX6_init_195 5 (fun μ9 => some μ9) 4 1 (wSI X 1 0 (-1)) := rfl
    have a1 : gX6_init_195 5 (fun μ9 => some μ9) 4 1 (wSI X 1 0 (-1)) = gX6_init_195 5 (fun μ9 => some μ9) 3 2 (wSI (wSI X 1 0 (-1)) 1 1 (-1)) := rfl
    have a2 : gX6_init_195 5 (fun μ9 => some μ9) 3 2 (wSI (wSI X 1 0 (-1)) 1 1 (-1)) = gX6_init_195 5 (fun μ9 => some μ9) 2 3 (wSI (wSI (wSI X 1 0 (-1)) 1 1 (-1)) 1 2 (-1)) := rfl
    have a3 : gX6_init_195 5 (fun μ9 => some μ9) 2 3 (wSI (wSI (wSI X 1 0 (-1)) 1 1 (-1)) 1 2 (-1)) = gX6_init_195 5 (fun μ9 => some μ9) 1 4 (wSI (wSI (wSI (wSI X 1 0 (-1)) 1 1 (-1)) 1 2 (-1)) 1 3 (-1)) := rfl
    rw [a0, a1, a2, a3]
    rfl
  · rw [yS_get, yS_get, yS_get, yS_get, t]
    by_cases e0 : c = 0
    · rw [if_neg (by omega), if_neg (by omega), if_neg (by omega), if_neg (by omega), if_pos e0, if_pos e0]
    · rw [if_neg e0, if_neg e0]
      by_cases e3 : c = 1 ∧ i = 3
      · rw [if_pos e3, if_pos (by omega)]
      · rw [if_neg e3]
        by_cases e2 : c = 1 ∧ i = 2
        · rw [if_pos e2, if_pos (by omega)]
        · rw [if_neg e2]
          by_cases e1 : c = 1 ∧ i = 1
          · rw [if_pos e1, if_pos (by omega)]
          · rw [if_neg e1]
            by_cases e0 : c = 1 ∧ i = 0
            · rw [if_pos e0, if_pos (by omega)]
            · rw [if_neg e0, if_neg (by omega)]
theorem zAll {P : wCell → Bool} (h0 : (spX1 0).all P = true) (h : ∀ aE, P (wLoA aE) = true) (aE : Nat) : (spX1 aE).all P = true := by
  rw [List.all_eq_true] at h0 ⊢
  intro d hd
  obtain ⟨i, hi⟩ := List.getElem?_of_mem hd
  by_cases h23 : i = 23
  · subst h23
    cases hi
    exact h aE
  · have hl : i < 28 := (List.getElem?_eq_some_iff.mp hi).1
    have e1 : (spX1 aE)[i]? = (spX1 0)[i]? := by
      rcases i with _ | _ | _ | _ | _ | _ | _ | _ | _ | _ | _ | _ | _ | _ | _ | _ | _ | _ | _ | _ | _ | _ | _ | _ | _ | _ | _ | _ | i <;> first | rfl | exact absurd rfl h23 | omega
    rw [e1] at hi
    exact h0 d (List.mem_of_getElem? hi)
def zDb (d : wCell) : Bool := match d with
  | .inl _ => true
  | .inr a => !(decide (4 < a.1)) || (List.range 16).all fun i => decide (wRd a.1 i = 0) || decide (8 ≤ wRd a.1 i - 1)
theorem zShp0 {ca : wCA} (hg : wGood ca) (aE : Nat) : zShp ca 64 (spX1 aE) := by
  refine ⟨Nat.le_refl 28, Nat.le_refl 1052, wClosed_of (zAll (P := fun d => wBel d 28) (by decide +kernel) (fun aE => ?_) aE), fun t n hm h4 i hi hz => ?_, rfl, hg.1⟩
  · show ([(0, 0), (aE + 4, 0), (0, 0)].all fun f => !(f.1 == 2) || decide (f.2 < 28)) = true
    simp
  · have h := List.all_eq_true.mp (zAll (P := zDb) (by decide +kernel) (fun _ => rfl) aE) _ hm
    have h2 : (!(decide (4 < t)) || (List.range 16).all fun i => decide (wRd t i = 0) || decide (8 ≤ wRd t i - 1)) = true := h
    rw [decide_eq_true h4] at h2
    have h3 := List.all_eq_true.mp (show ((List.range 16).all fun i => decide (wRd t i = 0) || decide (8 ≤ wRd t i - 1)) = true from h2) i (List.mem_range.mpr hi)
    rcases Bool.or_eq_true_iff.mp h3 with q | q
    · exact absurd (of_decide_eq_true q) hz
    · exact of_decide_eq_true q
theorem zStart0 {ca : wCA} (hg : wGood ca) (aE : Nat) : ∃ (N : Nat) (r0 : wMem), fX6_init N (wMp (fun _ => 28) (wZ (wMp wPiC (fX0_init zM0)) 28)) = some r0 ∧ zRel ca aE 64 (spX1 aE) (wZ (wMp wPiC (fX0_init zM0)) 28) r0 := by
  have hC := zC0
  have hm : zZ (fun _ => 0) (wMp (fun _ => 28) (wZ (wMp wPiC (fX0_init zM0)) 28)) := fun c i => by
    show (wZ (wMp wPiC (fX0_init zM0)) 28).1 28 i = _
    rw [hC 28 i, if_neg (by decide)]
    by_cases e : c = 0
    · rw [if_pos e]
    · rw [if_neg e]
  obtain ⟨r0, e, hr⟩ := zInit hm
  refine ⟨5, r0, e, ?_⟩
  clear e hm
  revert hC
  generalize wZ (wMp wPiC (fX0_init zM0)) 28 = μ
  intro hC
  have c1 : ∀ c i, c ≠ 0 → μ.1 c i = nI 0 := fun c i h => by rw [hC, if_neg h]; rfl
  have c0 : ∀ i, i ≠ 4 → μ.1 0 i = nI 0 := fun i h => by rw [hC, if_pos rfl]; exact (if_neg h).trans rfl
  have r2 : ∀ c i, 2 ≤ c → r0.1 c i = nI 0 := fun c i h => by rw [hr, if_neg (by omega), if_neg (by omega)]; rfl
  have r00 : ∀ i, i ≠ 15 → r0.1 0 i = nI 0 := fun i h => by rw [hr, if_pos rfl, if_neg h]; rfl
  have z8 : ∀ i : Nat, (fun _ _ => 0 : Nat → Nat → Nat) 0 i = 0 := fun _ => rfl
  refine ⟨[.inr (7881415313719326, 4), wLoA aE, .inl (5, [(3, 0)]), .inl (5, [(3, 0)]), .inl (5, [(3, 0)]), .inl (5, [(3, 0)])], fun _ => 0, fun _ _ => 0, rfl, zShp0 hg aE, ⟨?_, fun i h => absurd h (Nat.not_lt_zero i), ⟨fun h => absurd rfl h, fun h => absurd h (Nat.lt_irrefl 0), fun h => absurd h (Nat.lt_irrefl 0)⟩, ?_, ?_⟩, ?_, ?_, ⟨fun i hi => .inl ⟨rfl, ⟨0, ?_⟩, ?_⟩, fun i j _ _ _ h => absurd rfl h⟩, .inl ⟨rfl, c1 23 2 (by decide), fun k _ => r2 12 k (by decide)⟩⟩
  · exact ⟨Nat.zero_le _, by decide, Nat.zero_le _, Nat.zero_le _, by decide, by decide, Nat.zero_le _, Nat.zero_le _, fun i h => absurd h (Nat.not_lt_zero i), fun i h => absurd h (Nat.not_lt_zero i), fun i h => absurd h (Nat.not_lt_zero i), fun i h => absurd h (Nat.not_lt_zero i), fun i h => absurd h (Nat.not_lt_zero i)⟩
  · exact ⟨fun i _ => c1 1 i (by decide), fun i h => absurd h (Nat.not_lt_zero i), fun i h => absurd h (Nat.not_lt_zero i), fun i h => absurd h (Nat.not_lt_zero i), fun i h => absurd h (Nat.not_lt_zero i), fun i h => absurd h (Nat.not_lt_zero i), fun i h => absurd h (Nat.not_lt_zero i)⟩
  · exact ⟨⟨r2 7 _ (by decide), r2 6 _ (by decide), r2 7 _ (by decide), r2 7 _ (by decide), r2 7 _ (by decide), r2 7 _ (by decide), r2 7 _ (by decide), r2 7 _ (by decide)⟩, fun i h => absurd h (Nat.not_lt_zero i), fun i h => absurd h (Nat.not_lt_zero i), fun i h => absurd h (Nat.not_lt_zero i), fun i h => absurd h (Nat.not_lt_zero i)⟩
  · refine ⟨⟨0, by decide, c0 2 (by decide), r00 6 (by decide), fun i h => absurd h (Nat.not_lt_zero i), fun i h => absurd h (Nat.not_lt_zero i)⟩, (c0 3 (by decide)).trans (r00 14 (by decide)).symm, ?_⟩
    rw [hC, hr]
    rfl
  · exact ⟨0, fun _ => 0, by decide, r00 34 (by decide), fun i h => absurd h (Nat.not_lt_zero i), fun s _ _ => r2 14 s (by decide)⟩
  · rcases (by omega : i = 0 ∨ i = 1 ∨ i = 2 ∨ i = 3) with h | h | h | h <;> subst h <;> rfl
  · rw [hr, if_neg (by decide), if_pos ⟨rfl, hi⟩]
theorem zRel.less {ca : wCA} {aE n : Nat} {sp : List wCell} {μ μm : wMem} (R : zRel ca aE (n + 1) sp μ μm) : zRel ca aE n sp μ μm := by
  obtain ⟨E, cs, φ, e, Sh, r⟩ := R
  exact ⟨E, cs, φ, e, Sh.less, r⟩
theorem zStep {aE : Nat} {ad adK adV : Nat → Nat} {fo : Option Nat} {l : Launch} {D : va_G} {ca : wCA} (W : yBnd) (hl : l.stackTraces = false) (hg : wGood ca) (hA : wAd ad) (n k : Nat) (a1 a2 a3 a4 a5 : Int32) (sp : List wCell) (μ μm : wMem) (R : zRel ca aE (n + 1) sp μ μm) : ∃ sp1 μ1 μm1, zRel ca aE n sp1 μ1 μm1 ∧ wOK (wZa aE ad adK adV fo) l D ca a1 a2 a3 a4 a5 sp μ μm sp1 μ1 μm1 k := by
  obtain ⟨E, _, _, e, _⟩ := id R
  subst e
  match k with
  | 0 => exact zc_0 a1 a2 a3 a4 a5 W hl R
  | 1 => exact zc_1 a1 a2 a3 a4 a5 W hl R
  | 2 => exact zc_2 a1 a2 a3 a4 a5 W hl R hA
  | 3 => exact zc_3 a1 a2 a3 a4 a5 W hl R
  | 4 => exact zc_4 a1 a2 a3 a4 a5 W hl R
  | 5 => exact zc_5 a1 a2 a3 a4 a5 W hl R
  | 6 => exact zc_6 a1 a2 a3 a4 a5 W hl R
  | 7 => exact zc_7 a1 a2 a3 a4 a5 W hl R
  | 8 => exact zc_8 a1 a2 a3 a4 a5 W hl R
  | 9 => exact zc_9 a1 a2 a3 a4 a5 W hl R
  | 10 => exact zc_10 a1 a2 a3 a4 a5 W hl R
  | 11 => exact zc_11 a1 a2 a3 a4 a5 W hl R
  | 12 => exact zc_12 a1 a2 a3 a4 a5 W hl R
  | 13 => exact zc_13 a1 a2 a3 a4 a5 W hl R
  | 14 => exact zc_14 a1 a2 a3 a4 a5 W hl R
  | 15 => exact zc_15 a1 a2 a3 a4 a5 W hl R
  | 16 => exact zc_16 a1 a2 a3 a4 a5 W hl R
  | 17 => exact zc_17 a1 a2 a3 a4 a5 W hl R
  | 18 => exact zc_18 a1 a2 a3 a4 a5 W hl R
  | 19 => exact zc_19 a1 a2 a3 a4 a5 W hl R
  | 20 => exact zc_20 a1 a2 a3 a4 a5 W hl R
  | 21 => exact zc_21 a1 a2 a3 a4 a5 W hl R
  | 22 => exact zc_22 a1 a2 a3 a4 a5 W hl R
  | 23 => exact zc_23 a1 a2 a3 a4 a5 W hl R
  | 24 => exact zc_24 a1 a2 a3 a4 a5 W hl R
  | 25 => exact zc_25 a1 a2 a3 a4 a5 W hl R
  | 26 => exact zc_26 a1 a2 a3 a4 a5 W hl R
  | 27 => exact zc_27 a1 a2 a3 a4 a5 W hl R
  | 28 => exact zc_28 a1 a2 a3 a4 a5 W hl R
  | 29 => exact zc_29 a1 a2 a3 a4 a5 W hl R
  | 30 => exact zc_30 a1 a2 a3 a4 a5 W hl R
  | 31 => exact zc_31 a1 a2 a3 a4 a5 W hl R
  | 32 => exact zc_32 a1 a2 a3 a4 a5 W hl R
  | 33 => exact zc_33 a1 a2 a3 a4 a5 W hl R
  | 34 => exact zc_34 a1 a2 a3 a4 a5 W hl R
  | 35 => exact zc_35 a1 a2 a3 a4 a5 W hl R
  | 36 => exact zc_36 a1 a2 a3 a4 a5 W hl R
  | 37 => exact zc_37 a1 a2 a3 a4 a5 W hl R
  | 38 => exact zc_38 a1 a2 a3 a4 a5 W hl R
  | 39 => exact zc_39 a1 a2 a3 a4 a5 W hl R
  | 40 => exact zc_40 a1 a2 a3 a4 a5 W hl R
  | 41 => exact zc_41 a1 a2 a3 a4 a5 W hl R
  | 42 => exact zc_42 a1 a2 a3 a4 a5 W hl R
  | 43 => exact zc_43 a1 a2 a3 a4 a5 W hl R
  | 44 => exact zc_44 a1 a2 a3 a4 a5 W hl R
  | 45 => exact zc_45 a1 a2 a3 a4 a5 W hl R
  | 46 => exact zc_46 a1 a2 a3 a4 a5 W hl R
  | 47 => exact zc_47 a1 a2 a3 a4 a5 W hl R
  | 48 => exact zc_48 a1 a2 a3 a4 a5 W hl R
  | 49 => exact zc_49 a1 a2 a3 a4 a5 W hl R
  | 50 => exact zc_50 a1 a2 a3 a4 a5 W hl R
  | 51 => exact zc_51 a1 a2 a3 a4 a5 W hl R
  | 52 => exact zc_52 a1 a2 a3 a4 a5 W hl R
  | 53 => exact zc_53 a1 a2 a3 a4 a5 W hl R
  | 54 => exact zc_54 a1 a2 a3 a4 a5 W hl R hg
  | 55 => exact zc_55 a1 a2 a3 a4 a5 W hl R hg
  | 56 => exact zc_56 a1 a2 a3 a4 a5 W hl R
  | 57 => exact zc_57 a1 a2 a3 a4 a5 W hl R
  | 58 => exact zc_58 a1 a2 a3 a4 a5 W hl R
  | k + 59 => exact ⟨_, _, _, R.less, rfl, rfl, rfl⟩
theorem zRel.obj {ca : wCA} {aE n : Nat} {sp : List wCell} {μ μm : wMem} (R : zRel ca aE n sp μ μm) : ∃ fs, sp[0]? = some (.inl (0, fs)) := by
  obtain ⟨E, _, _, e, _⟩ := R
  subst e
  exact ⟨_, rfl⟩
