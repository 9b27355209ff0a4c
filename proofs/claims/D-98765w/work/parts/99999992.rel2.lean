set_option maxRecDepth 100000
/-! part 99999992 (printed by mkrel.py): the calls, in the relation -/
theorem zWf_4 {φ ψ : Nat → Nat → Nat} (W : zWf φ) (h : ∀ j, j < 4 → ψ 0 j = φ 0 j) : zWf ψ := by
  unfold zWf
  rw [h 0 (by decide), h 1 (by decide), h 2 (by decide), h 3 (by decide)]
  exact W
theorem zWf_1 {φ ψ : Nat → Nat → Nat} {μ ν : wMem} (O : yOk φ) (W : zWf φ) (F : yFC φ μ) (O2 : yOk ψ) (F2 : yFC ψ ν) (k : yKC1 μ ν) : zWf ψ := by
  refine zWf_4 W fun j hj => ?_
  have e : nI (ψ 0 j) = nI (φ 0 j) := by
    rw [← F2.1 j (by omega), ← F.1 j (by omega)]
    exact (k 1 j (by omega) (by omega) (by omega) (by omega)).1
  have b1 : ∀ χ : Nat → Nat → Nat, yOk χ → χ 0 j < 2 ^ 31 := fun χ H => by
    have h0 := H.loaf
    have h1 := H.lines
    have h2 := H.persons
    have h3 := H.posts
    rcases (by omega : j = 0 ∨ j = 1 ∨ j = 2 ∨ j = 3) with q | q | q | q <;> rw [q] <;> omega
  have := xI_eq (b1 ψ O2) (b1 φ O)
  rw [this] at e
  exact e
theorem zc_3 {aE : Nat} {ad adK adV : Nat → Nat} {fo : Option Nat} {l : Launch} {D : va_G} {ca : wCA} (a1 a2 a3 a4 a5 : Int32) {E : List wCell} {μ μm : wMem} {n : Nat} (W : yBnd) (hl : l.stackTraces = false) (R : zRel ca aE (n + 1) (spX ++ E) μ μm) : ∃ sp1 μ1 μm1, zRel ca aE n sp1 μ1 μm1 ∧ wO_3 (wZa aE ad adK adV fo) l D ca a1 a2 a3 a4 a5 (spX ++ E) μ μm sp1 μ1 μm1 := by
  obtain ⟨_, cs, φ, _, Sh, ⟨O, G, Wf, F, M⟩, T, Q, X, I⟩ := id R
  obtain ⟨v, μ1, μm1, h1, h2, h3, h4⟩ := yq_fault T.2.1 T.2.2 zN a1
  exact ⟨_, μ1, μm1, R.same (zFm2.th ⟨O, G, Wf, F, M⟩ h3 (fun c i h => (h4 c i (by omega) (by omega) (by omega)).1)) h3.z h4.z (ySn_km Q h4), wo_3 zN h1 zN h2⟩
theorem zc_4 {aE : Nat} {ad adK adV : Nat → Nat} {fo : Option Nat} {l : Launch} {D : va_G} {ca : wCA} (a1 a2 a3 a4 a5 : Int32) {E : List wCell} {μ μm : wMem} {n : Nat} (W : yBnd) (hl : l.stackTraces = false) (R : zRel ca aE (n + 1) (spX ++ E) μ μm) : ∃ sp1 μ1 μm1, zRel ca aE n sp1 μ1 μm1 ∧ wO_4 (wZa aE ad adK adV fo) l D ca a1 a2 a3 a4 a5 (spX ++ E) μ μm sp1 μ1 μm1 := by
  obtain ⟨_, cs, φ, _, Sh, ⟨O, G, Wf, F, M⟩, T, Q, X, I⟩ := id R
  obtain ⟨v, μ1, μm1, h1, h2, h3, h4⟩ := yq_person (N := zN) O G F M (Nat.le_of_ble_eq_true rfl) a1 a2
  exact ⟨_, μ1, μm1, R.same (zFm2.th ⟨O, G, Wf, F, M⟩ h3 (fun c i h => (h4 c i (by omega) (by omega) (by omega)).1)) h3.z h4.z (ySn_km Q h4), wo_4 zN h1 zN h2⟩
theorem zc_5 {aE : Nat} {ad adK adV : Nat → Nat} {fo : Option Nat} {l : Launch} {D : va_G} {ca : wCA} (a1 a2 a3 a4 a5 : Int32) {E : List wCell} {μ μm : wMem} {n : Nat} (W : yBnd) (hl : l.stackTraces = false) (R : zRel ca aE (n + 1) (spX ++ E) μ μm) : ∃ sp1 μ1 μm1, zRel ca aE n sp1 μ1 μm1 ∧ wO_5 (wZa aE ad adK adV fo) l D ca a1 a2 a3 a4 a5 (spX ++ E) μ μm sp1 μ1 μm1 := by
  obtain ⟨_, cs, φ, _, Sh, ⟨O, G, Wf, F, M⟩, T, Q, X, I⟩ := id R
  obtain ⟨v, μ1, μm1, h1, h2, h3, h4⟩ := yq_post (N := zN) O G F M (Nat.le_of_ble_eq_true rfl) a1 a2
  exact ⟨_, μ1, μm1, R.same (zFm2.th ⟨O, G, Wf, F, M⟩ h3 (fun c i h => (h4 c i (by omega) (by omega) (by omega)).1)) h3.z h4.z (ySn_km Q h4), wo_5 zN h1 zN h2⟩
theorem zc_6 {aE : Nat} {ad adK adV : Nat → Nat} {fo : Option Nat} {l : Launch} {D : va_G} {ca : wCA} (a1 a2 a3 a4 a5 : Int32) {E : List wCell} {μ μm : wMem} {n : Nat} (W : yBnd) (hl : l.stackTraces = false) (R : zRel ca aE (n + 1) (spX ++ E) μ μm) : ∃ sp1 μ1 μm1, zRel ca aE n sp1 μ1 μm1 ∧ wO_6 (wZa aE ad adK adV fo) l D ca a1 a2 a3 a4 a5 (spX ++ E) μ μm sp1 μ1 μm1 := by
  obtain ⟨_, cs, φ, _, Sh, ⟨O, G, Wf, F, M⟩, T, Q, X, I⟩ := id R
  obtain ⟨v, μ1, μm1, h1, h2, h3, h4⟩ := yq_risk O F M zN a1 a2
  exact ⟨_, μ1, μm1, R.same (zFm2.th ⟨O, G, Wf, F, M⟩ h3 (fun c i h => (h4 c i (by omega) (by omega) (by omega)).1)) h3.z h4.z (ySn_km Q h4), wo_6 zN h1 zN h2⟩
theorem zc_7 {aE : Nat} {ad adK adV : Nat → Nat} {fo : Option Nat} {l : Launch} {D : va_G} {ca : wCA} (a1 a2 a3 a4 a5 : Int32) {E : List wCell} {μ μm : wMem} {n : Nat} (W : yBnd) (hl : l.stackTraces = false) (R : zRel ca aE (n + 1) (spX ++ E) μ μm) : ∃ sp1 μ1 μm1, zRel ca aE n sp1 μ1 μm1 ∧ wO_7 (wZa aE ad adK adV fo) l D ca a1 a2 a3 a4 a5 (spX ++ E) μ μm sp1 μ1 μm1 := by
  obtain ⟨_, cs, φ, _, Sh, ⟨O, G, Wf, F, M⟩, T, Q, X, I⟩ := id R
  obtain ⟨v, μ1, μm1, h1, h2, h3, h4⟩ := yq_after (N := zN) O F M (Nat.le_of_ble_eq_true rfl) a1 a2
  exact ⟨_, μ1, μm1, R.same (zFm2.th ⟨O, G, Wf, F, M⟩ h3 (fun c i h => (h4 c i (by omega) (by omega) (by omega)).1)) h3.z h4.z (ySn_km Q h4), wo_7 zN h1 zN h2⟩
theorem zc_8 {aE : Nat} {ad adK adV : Nat → Nat} {fo : Option Nat} {l : Launch} {D : va_G} {ca : wCA} (a1 a2 a3 a4 a5 : Int32) {E : List wCell} {μ μm : wMem} {n : Nat} (W : yBnd) (hl : l.stackTraces = false) (R : zRel ca aE (n + 1) (spX ++ E) μ μm) : ∃ sp1 μ1 μm1, zRel ca aE n sp1 μ1 μm1 ∧ wO_8 (wZa aE ad adK adV fo) l D ca a1 a2 a3 a4 a5 (spX ++ E) μ μm sp1 μ1 μm1 := by
  obtain ⟨_, cs, φ, _, Sh, ⟨O, G, Wf, F, M⟩, T, Q, X, I⟩ := id R
  obtain ⟨v, μ1, μm1, h1, h2, h3, h4⟩ := yq_now (N := zN) O G F M (Nat.le_of_ble_eq_true rfl) a1
  exact ⟨_, μ1, μm1, R.same (zFm2.th ⟨O, G, Wf, F, M⟩ h3 (fun c i h => (h4 c i (by omega) (by omega) (by omega)).1)) h3.z h4.z (ySn_km Q h4), wo_8 zN h1 zN h2⟩
theorem zc_9 {aE : Nat} {ad adK adV : Nat → Nat} {fo : Option Nat} {l : Launch} {D : va_G} {ca : wCA} (a1 a2 a3 a4 a5 : Int32) {E : List wCell} {μ μm : wMem} {n : Nat} (W : yBnd) (hl : l.stackTraces = false) (R : zRel ca aE (n + 1) (spX ++ E) μ μm) : ∃ sp1 μ1 μm1, zRel ca aE n sp1 μ1 μm1 ∧ wO_9 (wZa aE ad adK adV fo) l D ca a1 a2 a3 a4 a5 (spX ++ E) μ μm sp1 μ1 μm1 := by
  obtain ⟨_, cs, φ, _, Sh, ⟨O, G, Wf, F, M⟩, T, Q, X, I⟩ := id R
  obtain ⟨v, μ1, μm1, h1, h2, h3, h4⟩ := yq_stamp (N := zN) O G F M (Nat.le_of_ble_eq_true rfl) a1
  exact ⟨_, μ1, μm1, R.same (zFm2.th ⟨O, G, Wf, F, M⟩ h3 (fun c i h => (h4 c i (by omega) (by omega) (by omega)).1)) h3.z h4.z (ySn_km Q h4), wo_9 zN h1 zN h2⟩
theorem zc_10 {aE : Nat} {ad adK adV : Nat → Nat} {fo : Option Nat} {l : Launch} {D : va_G} {ca : wCA} (a1 a2 a3 a4 a5 : Int32) {E : List wCell} {μ μm : wMem} {n : Nat} (W : yBnd) (hl : l.stackTraces = false) (R : zRel ca aE (n + 1) (spX ++ E) μ μm) : ∃ sp1 μ1 μm1, zRel ca aE n sp1 μ1 μm1 ∧ wO_10 (wZa aE ad adK adV fo) l D ca a1 a2 a3 a4 a5 (spX ++ E) μ μm sp1 μ1 μm1 := by
  obtain ⟨_, cs, φ, _, Sh, ⟨O, G, Wf, F, M⟩, T, Q, X, I⟩ := id R
  obtain ⟨v, μ1, μm1, h1, h2, h3, h4⟩ := yq_lies (N := zN) O G F M (Nat.le_of_ble_eq_true rfl)
  exact ⟨_, μ1, μm1, R.same (zFm2.th ⟨O, G, Wf, F, M⟩ h3 (fun c i h => (h4 c i (by omega) (by omega) (by omega)).1)) h3.z h4.z (ySn_km Q h4), wo_10 zN h1 zN h2⟩
theorem zc_11 {aE : Nat} {ad adK adV : Nat → Nat} {fo : Option Nat} {l : Launch} {D : va_G} {ca : wCA} (a1 a2 a3 a4 a5 : Int32) {E : List wCell} {μ μm : wMem} {n : Nat} (W : yBnd) (hl : l.stackTraces = false) (R : zRel ca aE (n + 1) (spX ++ E) μ μm) : ∃ sp1 μ1 μm1, zRel ca aE n sp1 μ1 μm1 ∧ wO_11 (wZa aE ad adK adV fo) l D ca a1 a2 a3 a4 a5 (spX ++ E) μ μm sp1 μ1 μm1 := by
  obtain ⟨_, cs, φ, _, Sh, ⟨O, G, Wf, F, M⟩, T, Q, X, I⟩ := id R
  obtain ⟨v, μ1, μm1, h1, h2, h3, h4⟩ := yq_why (N := zN) O G F M (Nat.le_of_ble_eq_true rfl) a1 a2 a3
  exact ⟨_, μ1, μm1, R.same (zFm2.th ⟨O, G, Wf, F, M⟩ h3 (fun c i h => (h4 c i (by omega) (by omega) (by omega)).1)) h3.z h4.z (ySn_km Q h4), wo_11 zN h1 zN h2⟩
theorem zc_12 {aE : Nat} {ad adK adV : Nat → Nat} {fo : Option Nat} {l : Launch} {D : va_G} {ca : wCA} (a1 a2 a3 a4 a5 : Int32) {E : List wCell} {μ μm : wMem} {n : Nat} (W : yBnd) (hl : l.stackTraces = false) (R : zRel ca aE (n + 1) (spX ++ E) μ μm) : ∃ sp1 μ1 μm1, zRel ca aE n sp1 μ1 μm1 ∧ wO_12 (wZa aE ad adK adV fo) l D ca a1 a2 a3 a4 a5 (spX ++ E) μ μm sp1 μ1 μm1 := by
  obtain ⟨_, cs, φ, _, Sh, ⟨O, G, Wf, F, M⟩, T, Q, X, I⟩ := id R
  obtain ⟨v, μ1, μm1, ψ, h1, h2, h3, h4, f1, f2, f3, f4⟩ := yq_cross (N := zN) O G F M (Nat.le_of_ble_eq_true rfl) a1 a2 a3
  exact ⟨_, μ1, μm1, R.same (ψ := ψ) ⟨f3, f4, zWf_1 O Wf F f3 f1 h3, f1, f2⟩ h3.z h4.z (h4.sn Q), wo_12 zN h1 zN h2⟩
theorem zc_13 {aE : Nat} {ad adK adV : Nat → Nat} {fo : Option Nat} {l : Launch} {D : va_G} {ca : wCA} (a1 a2 a3 a4 a5 : Int32) {E : List wCell} {μ μm : wMem} {n : Nat} (W : yBnd) (hl : l.stackTraces = false) (R : zRel ca aE (n + 1) (spX ++ E) μ μm) : ∃ sp1 μ1 μm1, zRel ca aE n sp1 μ1 μm1 ∧ wO_13 (wZa aE ad adK adV fo) l D ca a1 a2 a3 a4 a5 (spX ++ E) μ μm sp1 μ1 μm1 := by
  obtain ⟨_, cs, φ, _, Sh, ⟨O, G, Wf, F, M⟩, T, Q, X, I⟩ := id R
  obtain ⟨v, μ1, μm1, ψ, h1, h2, h3, h4, f1, f2, f3, f4⟩ := yq_loaf (N := zN) O G F M (Nat.le_of_ble_eq_true rfl)
  exact ⟨_, μ1, μm1, R.same (ψ := ψ) ⟨f3, f4, zWf_1 O Wf F f3 f1 h3, f1, f2⟩ h3.z h4.z (h4.sn Q), wo_13 zN h1 zN h2⟩
theorem zc_14 {aE : Nat} {ad adK adV : Nat → Nat} {fo : Option Nat} {l : Launch} {D : va_G} {ca : wCA} (a1 a2 a3 a4 a5 : Int32) {E : List wCell} {μ μm : wMem} {n : Nat} (W : yBnd) (hl : l.stackTraces = false) (R : zRel ca aE (n + 1) (spX ++ E) μ μm) : ∃ sp1 μ1 μm1, zRel ca aE n sp1 μ1 μm1 ∧ wO_14 (wZa aE ad adK adV fo) l D ca a1 a2 a3 a4 a5 (spX ++ E) μ μm sp1 μ1 μm1 := by
  obtain ⟨_, cs, φ, _, Sh, ⟨O, G, Wf, F, M⟩, T, Q, X, I⟩ := id R
  obtain ⟨v, μ1, μm1, ψ, h1, h2, h3, h4, f1, f2, f3, f4⟩ := yq_undo O G F M zN
  exact ⟨_, μ1, μm1, R.same (ψ := ψ) ⟨f3, f4, zWf_1 O Wf F f3 f1 h3, f1, f2⟩ h3.z h4.z (h4.sn Q), wo_14 zN h1 zN h2⟩
theorem zc_15 {aE : Nat} {ad adK adV : Nat → Nat} {fo : Option Nat} {l : Launch} {D : va_G} {ca : wCA} (a1 a2 a3 a4 a5 : Int32) {E : List wCell} {μ μm : wMem} {n : Nat} (W : yBnd) (hl : l.stackTraces = false) (R : zRel ca aE (n + 1) (spX ++ E) μ μm) : ∃ sp1 μ1 μm1, zRel ca aE n sp1 μ1 μm1 ∧ wO_15 (wZa aE ad adK adV fo) l D ca a1 a2 a3 a4 a5 (spX ++ E) μ μm sp1 μ1 μm1 := by
  obtain ⟨_, cs, φ, _, Sh, ⟨O, G, Wf, F, M⟩, T, Q, X, I⟩ := id R
  obtain ⟨v, μ1, μm1, ψ, h1, h2, h3, h4, f1, f2, f3, f4⟩ := yq_anew O G F M zN
  exact ⟨_, μ1, μm1, R.same (ψ := ψ) ⟨f3, f4, zWf_1 O Wf F f3 f1 h3, f1, f2⟩ h3.z h4.z (h4.sn Q), wo_15 zN h1 zN h2⟩
theorem zc_16 {aE : Nat} {ad adK adV : Nat → Nat} {fo : Option Nat} {l : Launch} {D : va_G} {ca : wCA} (a1 a2 a3 a4 a5 : Int32) {E : List wCell} {μ μm : wMem} {n : Nat} (W : yBnd) (hl : l.stackTraces = false) (R : zRel ca aE (n + 1) (spX ++ E) μ μm) : ∃ sp1 μ1 μm1, zRel ca aE n sp1 μ1 μm1 ∧ wO_16 (wZa aE ad adK adV fo) l D ca a1 a2 a3 a4 a5 (spX ++ E) μ μm sp1 μ1 μm1 := by
  obtain ⟨_, cs, φ, _, Sh, ⟨O, G, Wf, F, M⟩, T, Q, X, I⟩ := id R
  obtain ⟨v, μ1, μm1, h1, h2, h3, h4⟩ := yq_act O F M zN a1
  exact ⟨_, μ1, μm1, R.same (zFm2.th ⟨O, G, Wf, F, M⟩ h3 (fun c i h => (h4 c i (by omega) (by omega) (by omega)).1)) h3.z h4.z (ySn_km Q h4), wo_16 zN h1 zN h2⟩
theorem zc_17 {aE : Nat} {ad adK adV : Nat → Nat} {fo : Option Nat} {l : Launch} {D : va_G} {ca : wCA} (a1 a2 a3 a4 a5 : Int32) {E : List wCell} {μ μm : wMem} {n : Nat} (W : yBnd) (hl : l.stackTraces = false) (R : zRel ca aE (n + 1) (spX ++ E) μ μm) : ∃ sp1 μ1 μm1, zRel ca aE n sp1 μ1 μm1 ∧ wO_17 (wZa aE ad adK adV fo) l D ca a1 a2 a3 a4 a5 (spX ++ E) μ μm sp1 μ1 μm1 := by
  obtain ⟨_, cs, φ, _, Sh, ⟨O, G, Wf, F, M⟩, T, Q, X, I⟩ := id R
  obtain ⟨v, μ1, μm1, h1, h2, h3, h4⟩ := yq_acts (N := zN) O G F M (Nat.le_of_ble_eq_true rfl)
  exact ⟨_, μ1, μm1, R.same (zFm2.th ⟨O, G, Wf, F, M⟩ h3 (fun c i h => (h4 c i (by omega) (by omega) (by omega)).1)) h3.z h4.z (ySn_km Q h4), wo_17 zN h1 zN h2⟩
theorem zc_18 {aE : Nat} {ad adK adV : Nat → Nat} {fo : Option Nat} {l : Launch} {D : va_G} {ca : wCA} (a1 a2 a3 a4 a5 : Int32) {E : List wCell} {μ μm : wMem} {n : Nat} (W : yBnd) (hl : l.stackTraces = false) (R : zRel ca aE (n + 1) (spX ++ E) μ μm) : ∃ sp1 μ1 μm1, zRel ca aE n sp1 μ1 μm1 ∧ wO_18 (wZa aE ad adK adV fo) l D ca a1 a2 a3 a4 a5 (spX ++ E) μ μm sp1 μ1 μm1 := by
  obtain ⟨_, cs, φ, _, Sh, ⟨O, G, Wf, F, M⟩, T, Q, X, I⟩ := id R
  obtain ⟨v, μ1, μm1, h1, h2, h3, h4⟩ := yq_may (N := zN) O G F M (Nat.le_of_ble_eq_true rfl) a1
  exact ⟨_, μ1, μm1, R.same (zFm2.th ⟨O, G, Wf, F, M⟩ h3 (fun c i h => (h4 c i (by omega) (by omega) (by omega)).1)) h3.z h4.z (ySn_km Q h4), wo_18 zN h1 zN h2⟩
theorem zc_19 {aE : Nat} {ad adK adV : Nat → Nat} {fo : Option Nat} {l : Launch} {D : va_G} {ca : wCA} (a1 a2 a3 a4 a5 : Int32) {E : List wCell} {μ μm : wMem} {n : Nat} (W : yBnd) (hl : l.stackTraces = false) (R : zRel ca aE (n + 1) (spX ++ E) μ μm) : ∃ sp1 μ1 μm1, zRel ca aE n sp1 μ1 μm1 ∧ wO_19 (wZa aE ad adK adV fo) l D ca a1 a2 a3 a4 a5 (spX ++ E) μ μm sp1 μ1 μm1 := by
  obtain ⟨_, cs, φ, _, Sh, ⟨O, G, Wf, F, M⟩, T, Q, X, I⟩ := id R
  obtain ⟨v, μ1, μm1, h1, h2, h3, h4, h5⟩ := yq_days (N := zN) W O Wf.1 G F M Q (Nat.le_of_ble_eq_true rfl)
  exact ⟨_, μ1, μm1, R.same (zFm2.th ⟨O, G, Wf, F, M⟩ h3 (fun c i h => (h4 c i (by omega) (by omega) (by omega)).1)) h3.z h4.z h5, wo_19 zN h1 zN h2⟩
theorem zc_20 {aE : Nat} {ad adK adV : Nat → Nat} {fo : Option Nat} {l : Launch} {D : va_G} {ca : wCA} (a1 a2 a3 a4 a5 : Int32) {E : List wCell} {μ μm : wMem} {n : Nat} (W : yBnd) (hl : l.stackTraces = false) (R : zRel ca aE (n + 1) (spX ++ E) μ μm) : ∃ sp1 μ1 μm1, zRel ca aE n sp1 μ1 μm1 ∧ wO_20 (wZa aE ad adK adV fo) l D ca a1 a2 a3 a4 a5 (spX ++ E) μ μm sp1 μ1 μm1 := by
  obtain ⟨_, cs, φ, _, Sh, ⟨O, G, Wf, F, M⟩, T, Q, X, I⟩ := id R
  obtain ⟨v, μ1, μm1, h1, h2, h3, h4, h5⟩ := yq_plan (N := zN) W O Wf.1 G F M Q (Nat.le_of_ble_eq_true rfl) a1
  exact ⟨_, μ1, μm1, R.same (zFm2.th ⟨O, G, Wf, F, M⟩ h3 (fun c i h => (h4 c i (by omega) (by omega) (by omega)).1)) h3.z h4.z h5, wo_20 zN h1 zN h2⟩
theorem zc_21 {aE : Nat} {ad adK adV : Nat → Nat} {fo : Option Nat} {l : Launch} {D : va_G} {ca : wCA} (a1 a2 a3 a4 a5 : Int32) {E : List wCell} {μ μm : wMem} {n : Nat} (W : yBnd) (hl : l.stackTraces = false) (R : zRel ca aE (n + 1) (spX ++ E) μ μm) : ∃ sp1 μ1 μm1, zRel ca aE n sp1 μ1 μm1 ∧ wO_21 (wZa aE ad adK adV fo) l D ca a1 a2 a3 a4 a5 (spX ++ E) μ μm sp1 μ1 μm1 := by
  obtain ⟨_, cs, φ, _, Sh, ⟨O, G, Wf, F, M⟩, T, Q, X, I⟩ := id R
  obtain ⟨v, μ1, μm1, h1, h2, h3, h4, h5⟩ := yq_surest (N := zN) W O Wf.1 G F M Q (Nat.le_of_ble_eq_true rfl)
  exact ⟨_, μ1, μm1, R.same (zFm2.th ⟨O, G, Wf, F, M⟩ h3 (fun c i h => (h4 c i (by omega) (by omega) (by omega)).1)) h3.z h4.z h5, wo_21 zN h1 zN h2⟩
theorem zc_22 {aE : Nat} {ad adK adV : Nat → Nat} {fo : Option Nat} {l : Launch} {D : va_G} {ca : wCA} (a1 a2 a3 a4 a5 : Int32) {E : List wCell} {μ μm : wMem} {n : Nat} (W : yBnd) (hl : l.stackTraces = false) (R : zRel ca aE (n + 1) (spX ++ E) μ μm) : ∃ sp1 μ1 μm1, zRel ca aE n sp1 μ1 μm1 ∧ wO_22 (wZa aE ad adK adV fo) l D ca a1 a2 a3 a4 a5 (spX ++ E) μ μm sp1 μ1 μm1 := by
  obtain ⟨_, cs, φ, _, Sh, ⟨O, G, Wf, F, M⟩, T, Q, X, I⟩ := id R
  obtain ⟨v, μ1, μm1, h1, h2, h3, h4, h5⟩ := yq_surely (N := zN) W O Wf.1 G F M Q (Nat.le_of_ble_eq_true rfl) a1
  exact ⟨_, μ1, μm1, R.same (zFm2.th ⟨O, G, Wf, F, M⟩ h3 (fun c i h => (h4 c i (by omega) (by omega) (by omega)).1)) h3.z h4.z h5, wo_22 zN h1 zN h2⟩
theorem zc_23 {aE : Nat} {ad adK adV : Nat → Nat} {fo : Option Nat} {l : Launch} {D : va_G} {ca : wCA} (a1 a2 a3 a4 a5 : Int32) {E : List wCell} {μ μm : wMem} {n : Nat} (W : yBnd) (hl : l.stackTraces = false) (R : zRel ca aE (n + 1) (spX ++ E) μ μm) : ∃ sp1 μ1 μm1, zRel ca aE n sp1 μ1 μm1 ∧ wO_23 (wZa aE ad adK adV fo) l D ca a1 a2 a3 a4 a5 (spX ++ E) μ μm sp1 μ1 μm1 := by
  obtain ⟨_, cs, φ, _, Sh, ⟨O, G, Wf, F, M⟩, T, Q, X, I⟩ := id R
  obtain ⟨v, μ1, μm1, h1, h2, h3, h4, h5⟩ := yq_slowly (N := zN) W O Wf.1 G F M Q (Nat.le_of_ble_eq_true rfl)
  exact ⟨_, μ1, μm1, R.same (zFm2.th ⟨O, G, Wf, F, M⟩ h3 (fun c i h => (h4 c i (by omega) (by omega) (by omega)).1)) h3.z h4.z h5, wo_23 zN h1 zN h2⟩
theorem zc_24 {aE : Nat} {ad adK adV : Nat → Nat} {fo : Option Nat} {l : Launch} {D : va_G} {ca : wCA} (a1 a2 a3 a4 a5 : Int32) {E : List wCell} {μ μm : wMem} {n : Nat} (W : yBnd) (hl : l.stackTraces = false) (R : zRel ca aE (n + 1) (spX ++ E) μ μm) : ∃ sp1 μ1 μm1, zRel ca aE n sp1 μ1 μm1 ∧ wO_24 (wZa aE ad adK adV fo) l D ca a1 a2 a3 a4 a5 (spX ++ E) μ μm sp1 μ1 μm1 := by
  obtain ⟨_, cs, φ, _, Sh, ⟨O, G, Wf, F, M⟩, T, Q, X, I⟩ := id R
  obtain ⟨v, μ1, μm1, h1, h2, h3, h4, h5⟩ := yq_crossings (N := zN) W O Wf.1 G F M Q (Nat.le_of_ble_eq_true rfl)
  exact ⟨_, μ1, μm1, R.same (zFm2.th ⟨O, G, Wf, F, M⟩ h3 (fun c i h => (h4 c i (by omega) (by omega) (by omega)).1)) h3.z h4.z h5, wo_24 zN h1 zN h2⟩
theorem zc_25 {aE : Nat} {ad adK adV : Nat → Nat} {fo : Option Nat} {l : Launch} {D : va_G} {ca : wCA} (a1 a2 a3 a4 a5 : Int32) {E : List wCell} {μ μm : wMem} {n : Nat} (W : yBnd) (hl : l.stackTraces = false) (R : zRel ca aE (n + 1) (spX ++ E) μ μm) : ∃ sp1 μ1 μm1, zRel ca aE n sp1 μ1 μm1 ∧ wO_25 (wZa aE ad adK adV fo) l D ca a1 a2 a3 a4 a5 (spX ++ E) μ μm sp1 μ1 μm1 := by
  obtain ⟨_, cs, φ, _, Sh, ⟨O, G, Wf, F, M⟩, T, Q, X, I⟩ := id R
  obtain ⟨v, μ1, μm1, h1, h2, h3, h4, h5⟩ := yq_moves (N := zN) W O Wf.1 G F M Q (Nat.le_of_ble_eq_true rfl)
  exact ⟨_, μ1, μm1, R.same (zFm2.th ⟨O, G, Wf, F, M⟩ h3 (fun c i h => (h4 c i (by omega) (by omega) (by omega)).1)) h3.z h4.z h5, wo_25 zN h1 zN h2⟩
theorem zc_26 {aE : Nat} {ad adK adV : Nat → Nat} {fo : Option Nat} {l : Launch} {D : va_G} {ca : wCA} (a1 a2 a3 a4 a5 : Int32) {E : List wCell} {μ μm : wMem} {n : Nat} (W : yBnd) (hl : l.stackTraces = false) (R : zRel ca aE (n + 1) (spX ++ E) μ μm) : ∃ sp1 μ1 μm1, zRel ca aE n sp1 μ1 μm1 ∧ wO_26 (wZa aE ad adK adV fo) l D ca a1 a2 a3 a4 a5 (spX ++ E) μ μm sp1 μ1 μm1 := by
  obtain ⟨_, cs, φ, _, Sh, ⟨O, G, Wf, F, M⟩, T, Q, X, I⟩ := id R
  obtain ⟨v, μ1, μm1, h1, h2, h3, h4, h5⟩ := yq_chance (N := zN) W O Wf.1 G F M Q (Nat.le_of_ble_eq_true rfl) a1
  exact ⟨_, μ1, μm1, R.same (zFm2.th ⟨O, G, Wf, F, M⟩ h3 (fun c i h => (h4 c i (by omega) (by omega) (by omega)).1)) h3.z h4.z h5, wo_26 zN h1 zN h2⟩
theorem zc_27 {aE : Nat} {ad adK adV : Nat → Nat} {fo : Option Nat} {l : Launch} {D : va_G} {ca : wCA} (a1 a2 a3 a4 a5 : Int32) {E : List wCell} {μ μm : wMem} {n : Nat} (W : yBnd) (hl : l.stackTraces = false) (R : zRel ca aE (n + 1) (spX ++ E) μ μm) : ∃ sp1 μ1 μm1, zRel ca aE n sp1 μ1 μm1 ∧ wO_27 (wZa aE ad adK adV fo) l D ca a1 a2 a3 a4 a5 (spX ++ E) μ μm sp1 μ1 μm1 := by
  obtain ⟨_, cs, φ, _, Sh, ⟨O, G, Wf, F, M⟩, T, Q, X, I⟩ := id R
  obtain ⟨v, μ1, μm1, h1, h2, h3, h4, h5⟩ := yq_states (N := zN) O Wf.1 F M Q (Nat.le_of_ble_eq_true rfl)
  exact ⟨_, μ1, μm1, R.same (zFm2.th ⟨O, G, Wf, F, M⟩ h3 (fun c i h => (h4 c i (by omega) (by omega) (by omega)).1)) h3.z h4.z h5, wo_27 zN h1 zN h2⟩
theorem zc_28 {aE : Nat} {ad adK adV : Nat → Nat} {fo : Option Nat} {l : Launch} {D : va_G} {ca : wCA} (a1 a2 a3 a4 a5 : Int32) {E : List wCell} {μ μm : wMem} {n : Nat} (W : yBnd) (hl : l.stackTraces = false) (R : zRel ca aE (n + 1) (spX ++ E) μ μm) : ∃ sp1 μ1 μm1, zRel ca aE n sp1 μ1 μm1 ∧ wO_28 (wZa aE ad adK adV fo) l D ca a1 a2 a3 a4 a5 (spX ++ E) μ μm sp1 μ1 μm1 := by
  obtain ⟨_, cs, φ, _, Sh, ⟨O, G, Wf, F, M⟩, T, Q, X, I⟩ := id R
  obtain ⟨v, μ1, μm1, h1, h2, h3, h4, h5⟩ := yq_hopeful (N := zN) O Wf.1 F M Q (Nat.le_of_ble_eq_true rfl)
  exact ⟨_, μ1, μm1, R.same (zFm2.th ⟨O, G, Wf, F, M⟩ h3 (fun c i h => (h4 c i (by omega) (by omega) (by omega)).1)) h3.z h4.z h5, wo_28 zN h1 zN h2⟩
theorem zc_29 {aE : Nat} {ad adK adV : Nat → Nat} {fo : Option Nat} {l : Launch} {D : va_G} {ca : wCA} (a1 a2 a3 a4 a5 : Int32) {E : List wCell} {μ μm : wMem} {n : Nat} (W : yBnd) (hl : l.stackTraces = false) (R : zRel ca aE (n + 1) (spX ++ E) μ μm) : ∃ sp1 μ1 μm1, zRel ca aE n sp1 μ1 μm1 ∧ wO_29 (wZa aE ad adK adV fo) l D ca a1 a2 a3 a4 a5 (spX ++ E) μ μm sp1 μ1 μm1 := by
  obtain ⟨_, cs, φ, _, Sh, ⟨O, G, Wf, F, M⟩, T, Q, X, I⟩ := id R
  obtain ⟨v, μ1, μm1, h1, h2, h3, h4, h5⟩ := yq_till (N := zN) O Wf.1 Wf.2.1 G F M Q (Nat.le_of_ble_eq_true rfl) a1
  exact ⟨_, μ1, μm1, R.same (zFm2.th ⟨O, G, Wf, F, M⟩ h3 (fun c i h => (h4 c i (by omega) (by omega) (by omega)).1)) h3.z h4.z h5, wo_29 zN h1 zN h2⟩
theorem zc_30 {aE : Nat} {ad adK adV : Nat → Nat} {fo : Option Nat} {l : Launch} {D : va_G} {ca : wCA} (a1 a2 a3 a4 a5 : Int32) {E : List wCell} {μ μm : wMem} {n : Nat} (W : yBnd) (hl : l.stackTraces = false) (R : zRel ca aE (n + 1) (spX ++ E) μ μm) : ∃ sp1 μ1 μm1, zRel ca aE n sp1 μ1 μm1 ∧ wO_30 (wZa aE ad adK adV fo) l D ca a1 a2 a3 a4 a5 (spX ++ E) μ μm sp1 μ1 μm1 := by
  obtain ⟨_, cs, φ, _, Sh, ⟨O, G, Wf, F, M⟩, T, Q, X, I⟩ := id R
  obtain ⟨v, μ1, μm1, h1, h2, h3, h4, h5⟩ := yq_over (N := zN) O Wf.1 Wf.2.1 G F M Q (Nat.le_of_ble_eq_true rfl) a1
  exact ⟨_, μ1, μm1, R.same (zFm2.th ⟨O, G, Wf, F, M⟩ h3 (fun c i h => (h4 c i (by omega) (by omega) (by omega)).1)) h3.z h4.z h5, wo_30 zN h1 zN h2⟩
theorem zc_31 {aE : Nat} {ad adK adV : Nat → Nat} {fo : Option Nat} {l : Launch} {D : va_G} {ca : wCA} (a1 a2 a3 a4 a5 : Int32) {E : List wCell} {μ μm : wMem} {n : Nat} (W : yBnd) (hl : l.stackTraces = false) (R : zRel ca aE (n + 1) (spX ++ E) μ μm) : ∃ sp1 μ1 μm1, zRel ca aE n sp1 μ1 μm1 ∧ wO_31 (wZa aE ad adK adV fo) l D ca a1 a2 a3 a4 a5 (spX ++ E) μ μm sp1 μ1 μm1 := by
  obtain ⟨_, cs, φ, _, Sh, ⟨O, G, Wf, F, M⟩, T, Q, X, I⟩ := id R
  obtain ⟨v, μ1, μm1, h1, h2, h3, h4, h5⟩ := yq_never (N := zN) O Wf.1 G F M Q (Nat.le_of_ble_eq_true rfl)
  exact ⟨_, μ1, μm1, R.same (zFm2.th ⟨O, G, Wf, F, M⟩ h3 (fun c i h => (h4 c i (by omega) (by omega) (by omega)).1)) h3.z h4.z h5, wo_31 zN h1 zN h2⟩
theorem zc_32 {aE : Nat} {ad adK adV : Nat → Nat} {fo : Option Nat} {l : Launch} {D : va_G} {ca : wCA} (a1 a2 a3 a4 a5 : Int32) {E : List wCell} {μ μm : wMem} {n : Nat} (W : yBnd) (hl : l.stackTraces = false) (R : zRel ca aE (n + 1) (spX ++ E) μ μm) : ∃ sp1 μ1 μm1, zRel ca aE n sp1 μ1 μm1 ∧ wO_32 (wZa aE ad adK adV fo) l D ca a1 a2 a3 a4 a5 (spX ++ E) μ μm sp1 μ1 μm1 := by
  obtain ⟨_, cs, φ, _, Sh, ⟨O, G, Wf, F, M⟩, T, Q, X, I⟩ := id R
  obtain ⟨v, μ1, μm1, h1, h2, h3, h4, h5⟩ := yq_lost (N := zN) W O Wf.1 G F M Q (Nat.le_of_ble_eq_true rfl) a1
  exact ⟨_, μ1, μm1, R.same (zFm2.th ⟨O, G, Wf, F, M⟩ h3 (fun c i h => (h4 c i (by omega) (by omega) (by omega)).1)) h3.z h4.z h5, wo_32 zN h1 zN h2⟩
theorem zc_33 {aE : Nat} {ad adK adV : Nat → Nat} {fo : Option Nat} {l : Launch} {D : va_G} {ca : wCA} (a1 a2 a3 a4 a5 : Int32) {E : List wCell} {μ μm : wMem} {n : Nat} (W : yBnd) (hl : l.stackTraces = false) (R : zRel ca aE (n + 1) (spX ++ E) μ μm) : ∃ sp1 μ1 μm1, zRel ca aE n sp1 μ1 μm1 ∧ wO_33 (wZa aE ad adK adV fo) l D ca a1 a2 a3 a4 a5 (spX ++ E) μ μm sp1 μ1 μm1 := by
  obtain ⟨_, cs, φ, _, Sh, ⟨O, G, Wf, F, M⟩, T, Q, X, I⟩ := id R
  obtain ⟨v, μ1, μm1, h1, h2, h3, h4, h5⟩ := yq_worst (N := zN) W O Wf.1 G F M Q (Nat.le_of_ble_eq_true rfl)
  exact ⟨_, μ1, μm1, R.same (zFm2.th ⟨O, G, Wf, F, M⟩ h3 (fun c i h => (h4 c i (by omega) (by omega) (by omega)).1)) h3.z h4.z h5, wo_33 zN h1 zN h2⟩
theorem zc_43 {aE : Nat} {ad adK adV : Nat → Nat} {fo : Option Nat} {l : Launch} {D : va_G} {ca : wCA} (a1 a2 a3 a4 a5 : Int32) {E : List wCell} {μ μm : wMem} {n : Nat} (W : yBnd) (hl : l.stackTraces = false) (R : zRel ca aE (n + 1) (spX ++ E) μ μm) : ∃ sp1 μ1 μm1, zRel ca aE n sp1 μ1 μm1 ∧ wO_43 (wZa aE ad adK adV fo) l D ca a1 a2 a3 a4 a5 (spX ++ E) μ μm sp1 μ1 μm1 := by
  obtain ⟨_, cs, φ, _, Sh, ⟨O, G, Wf, F, M⟩, T, Q, X, I⟩ := id R
  obtain ⟨v, μ1, μm1, h1, h2, h3, h4⟩ := yq_alone O F M zN a1 a2
  exact ⟨_, μ1, μm1, R.same (zFm2.th ⟨O, G, Wf, F, M⟩ h3 (fun c i h => (h4 c i (by omega) (by omega) (by omega)).1)) h3.z h4.z (ySn_km Q h4), wo_43 zN h1 zN h2⟩
theorem zc_44 {aE : Nat} {ad adK adV : Nat → Nat} {fo : Option Nat} {l : Launch} {D : va_G} {ca : wCA} (a1 a2 a3 a4 a5 : Int32) {E : List wCell} {μ μm : wMem} {n : Nat} (W : yBnd) (hl : l.stackTraces = false) (R : zRel ca aE (n + 1) (spX ++ E) μ μm) : ∃ sp1 μ1 μm1, zRel ca aE n sp1 μ1 μm1 ∧ wO_44 (wZa aE ad adK adV fo) l D ca a1 a2 a3 a4 a5 (spX ++ E) μ μm sp1 μ1 μm1 := by
  obtain ⟨_, cs, φ, _, Sh, ⟨O, G, Wf, F, M⟩, T, Q, X, I⟩ := id R
  obtain ⟨v, μ1, μm1, h1, h2, h3, h4, h5⟩ := yq_worth (N := zN) W O (fun h => Wf.1 (Wf.2.1 h)) G F M Q (Nat.le_of_ble_eq_true rfl) a1 a2
  exact ⟨_, μ1, μm1, R.same (zFm2.th ⟨O, G, Wf, F, M⟩ h3 (fun c i h => (h4 c i (by omega) (by omega) (by omega)).1)) h3.z h4.z h5, wo_44 zN h1 zN h2⟩
theorem zc_45 {aE : Nat} {ad adK adV : Nat → Nat} {fo : Option Nat} {l : Launch} {D : va_G} {ca : wCA} (a1 a2 a3 a4 a5 : Int32) {E : List wCell} {μ μm : wMem} {n : Nat} (W : yBnd) (hl : l.stackTraces = false) (R : zRel ca aE (n + 1) (spX ++ E) μ μm) : ∃ sp1 μ1 μm1, zRel ca aE n sp1 μ1 μm1 ∧ wO_45 (wZa aE ad adK adV fo) l D ca a1 a2 a3 a4 a5 (spX ++ E) μ μm sp1 μ1 μm1 := by
  obtain ⟨_, cs, φ, _, Sh, ⟨O, G, Wf, F, M⟩, T, Q, X, I⟩ := id R
  obtain ⟨v, μ1, μm1, h1, h2, h3, h4, h5⟩ := yq_whom (N := zN) W O Wf.1 G F M Q (Nat.le_of_ble_eq_true rfl) a1
  exact ⟨_, μ1, μm1, R.same (zFm2.th ⟨O, G, Wf, F, M⟩ h3 (fun c i h => (h4 c i (by omega) (by omega) (by omega)).1)) h3.z h4.z h5, wo_45 zN h1 zN h2⟩
theorem zc_46 {aE : Nat} {ad adK adV : Nat → Nat} {fo : Option Nat} {l : Launch} {D : va_G} {ca : wCA} (a1 a2 a3 a4 a5 : Int32) {E : List wCell} {μ μm : wMem} {n : Nat} (W : yBnd) (hl : l.stackTraces = false) (R : zRel ca aE (n + 1) (spX ++ E) μ μm) : ∃ sp1 μ1 μm1, zRel ca aE n sp1 μ1 μm1 ∧ wO_46 (wZa aE ad adK adV fo) l D ca a1 a2 a3 a4 a5 (spX ++ E) μ μm sp1 μ1 μm1 := by
  obtain ⟨_, cs, φ, _, Sh, ⟨O, G, Wf, F, M⟩, T, Q, X, I⟩ := id R
  obtain ⟨v, μ1, μm1, h1, h2, h3, h4, h5⟩ := yq_blur (N := zN) O (fun h => Wf.1 (Wf.2.2 h)) G F M Q (Nat.le_of_ble_eq_true rfl) a1
  exact ⟨_, μ1, μm1, R.same (zFm2.th ⟨O, G, Wf, F, M⟩ h3 (fun c i h => (h4 c i (by omega) (by omega) (by omega)).1)) h3.z h4.z h5, wo_46 zN h1 zN h2⟩
theorem zc_47 {aE : Nat} {ad adK adV : Nat → Nat} {fo : Option Nat} {l : Launch} {D : va_G} {ca : wCA} (a1 a2 a3 a4 a5 : Int32) {E : List wCell} {μ μm : wMem} {n : Nat} (W : yBnd) (hl : l.stackTraces = false) (R : zRel ca aE (n + 1) (spX ++ E) μ μm) : ∃ sp1 μ1 μm1, zRel ca aE n sp1 μ1 μm1 ∧ wO_47 (wZa aE ad adK adV fo) l D ca a1 a2 a3 a4 a5 (spX ++ E) μ μm sp1 μ1 μm1 := by
  obtain ⟨_, cs, φ, _, Sh, ⟨O, G, Wf, F, M⟩, T, Q, X, I⟩ := id R
  obtain ⟨v, μ1, μm1, h1, h2, h3, h4, h5⟩ := yq_looks (N := zN) O (fun h => Wf.1 (Wf.2.2 h)) G F M Q (Nat.le_of_ble_eq_true rfl) a1
  exact ⟨_, μ1, μm1, R.same (zFm2.th ⟨O, G, Wf, F, M⟩ h3 (fun c i h => (h4 c i (by omega) (by omega) (by omega)).1)) h3.z h4.z h5, wo_47 zN h1 zN h2⟩
theorem zc_48 {aE : Nat} {ad adK adV : Nat → Nat} {fo : Option Nat} {l : Launch} {D : va_G} {ca : wCA} (a1 a2 a3 a4 a5 : Int32) {E : List wCell} {μ μm : wMem} {n : Nat} (W : yBnd) (hl : l.stackTraces = false) (R : zRel ca aE (n + 1) (spX ++ E) μ μm) : ∃ sp1 μ1 μm1, zRel ca aE n sp1 μ1 μm1 ∧ wO_48 (wZa aE ad adK adV fo) l D ca a1 a2 a3 a4 a5 (spX ++ E) μ μm sp1 μ1 μm1 := by
  obtain ⟨_, cs, φ, _, Sh, ⟨O, G, Wf, F, M⟩, T, Q, X, I⟩ := id R
  obtain ⟨v, μ1, μm1, h1, h2, h3, h4, h5⟩ := yq_drawn (N := zN) W O Wf.1 G F M Q (Nat.le_of_ble_eq_true rfl) a1 a2
  exact ⟨_, μ1, μm1, R.same (zFm2.th ⟨O, G, Wf, F, M⟩ h3 (fun c i h => (h4 c i (by omega) (by omega) (by omega)).1)) h3.z h4.z h5, wo_48 zN h1 zN h2⟩
theorem zc_49 {aE : Nat} {ad adK adV : Nat → Nat} {fo : Option Nat} {l : Launch} {D : va_G} {ca : wCA} (a1 a2 a3 a4 a5 : Int32) {E : List wCell} {μ μm : wMem} {n : Nat} (W : yBnd) (hl : l.stackTraces = false) (R : zRel ca aE (n + 1) (spX ++ E) μ μm) : ∃ sp1 μ1 μm1, zRel ca aE n sp1 μ1 μm1 ∧ wO_49 (wZa aE ad adK adV fo) l D ca a1 a2 a3 a4 a5 (spX ++ E) μ μm sp1 μ1 μm1 := by
  obtain ⟨_, cs, φ, _, Sh, ⟨O, G, Wf, F, M⟩, T, Q, X, I⟩ := id R
  obtain ⟨v, μ1, μm1, h1, h2, h3, h4, h5⟩ := yq_luck (N := zN) W O Wf.1 G F M Q (Nat.le_of_ble_eq_true rfl) a1 a2
  exact ⟨_, μ1, μm1, R.same (zFm2.th ⟨O, G, Wf, F, M⟩ h3 (fun c i h => (h4 c i (by omega) (by omega) (by omega)).1)) h3.z h4.z h5, wo_49 zN h1 zN h2⟩
theorem zc_50 {aE : Nat} {ad adK adV : Nat → Nat} {fo : Option Nat} {l : Launch} {D : va_G} {ca : wCA} (a1 a2 a3 a4 a5 : Int32) {E : List wCell} {μ μm : wMem} {n : Nat} (W : yBnd) (hl : l.stackTraces = false) (R : zRel ca aE (n + 1) (spX ++ E) μ μm) : ∃ sp1 μ1 μm1, zRel ca aE n sp1 μ1 μm1 ∧ wO_50 (wZa aE ad adK adV fo) l D ca a1 a2 a3 a4 a5 (spX ++ E) μ μm sp1 μ1 μm1 := by
  obtain ⟨_, cs, φ, _, Sh, ⟨O, G, Wf, F, M⟩, T, Q, X, I⟩ := id R
  obtain ⟨v, μ1, μm1, ψ, h1, h2, h3, h4, h5, f1, f2, f3, f4, f5⟩ := yq_grow O G F M Q zN a1 a2
  exact ⟨_, μ1, μm1, R.same (ψ := ψ) ⟨f3, f4, zWf_4 Wf f5, f1, f2⟩ h3.z h4.z h5, wo_50 zN h1 zN h2⟩
theorem zc_51 {aE : Nat} {ad adK adV : Nat → Nat} {fo : Option Nat} {l : Launch} {D : va_G} {ca : wCA} (a1 a2 a3 a4 a5 : Int32) {E : List wCell} {μ μm : wMem} {n : Nat} (W : yBnd) (hl : l.stackTraces = false) (R : zRel ca aE (n + 1) (spX ++ E) μ μm) : ∃ sp1 μ1 μm1, zRel ca aE n sp1 μ1 μm1 ∧ wO_51 (wZa aE ad adK adV fo) l D ca a1 a2 a3 a4 a5 (spX ++ E) μ μm sp1 μ1 μm1 := by
  obtain ⟨_, cs, φ, _, Sh, ⟨O, G, Wf, F, M⟩, T, Q, X, I⟩ := id R
  obtain ⟨v, μ1, μm1, ψ, h1, h2, h3, h4, h5, f1, f2, f3, f4, f5⟩ := yq_guard O G F M Q zN a1 a2
  exact ⟨_, μ1, μm1, R.same (ψ := ψ) ⟨f3, f4, zWf_4 Wf f5, f1, f2⟩ h3.z h4.z h5, wo_51 zN h1 zN h2⟩
theorem zc_52 {aE : Nat} {ad adK adV : Nat → Nat} {fo : Option Nat} {l : Launch} {D : va_G} {ca : wCA} (a1 a2 a3 a4 a5 : Int32) {E : List wCell} {μ μm : wMem} {n : Nat} (W : yBnd) (hl : l.stackTraces = false) (R : zRel ca aE (n + 1) (spX ++ E) μ μm) : ∃ sp1 μ1 μm1, zRel ca aE n sp1 μ1 μm1 ∧ wO_52 (wZa aE ad adK adV fo) l D ca a1 a2 a3 a4 a5 (spX ++ E) μ μm sp1 μ1 μm1 := by
  obtain ⟨_, cs, φ, _, Sh, ⟨O, G, Wf, F, M⟩, T, Q, X, I⟩ := id R
  obtain ⟨v, μ1, μm1, ψ, h1, h2, h3, h4, h5, f1, f2, f3, f4, f5⟩ := yq_stay O G F M Q zN a1 a2
  exact ⟨_, μ1, μm1, R.same (ψ := ψ) ⟨f3, f4, zWf_4 Wf f5, f1, f2⟩ h3.z h4.z h5, wo_52 zN h1 zN h2⟩
theorem yKd_row (w : Nat) : yKd w = 2 ∨ yKd w = 4 ∨ yKd w = 0 ∨ yKd w = 1 := by
  unfold yKd
  by_cases h0 : w = 0
  · rw [if_pos h0]; exact .inl rfl
  · rw [if_neg h0]
    by_cases h1 : w = 1
    · rw [if_pos h1]; exact .inr (.inl rfl)
    · rw [if_neg h1]
      by_cases h2 : w = 2
      · rw [if_pos h2]; exact .inr (.inr (.inl rfl))
      · rw [if_neg h2]; exact .inr (.inr (.inr rfl))
theorem zc_34 {aE : Nat} {ad adK adV : Nat → Nat} {fo : Option Nat} {l : Launch} {D : va_G} {ca : wCA} (a1 a2 a3 a4 a5 : Int32) {E : List wCell} {μ μm : wMem} {n : Nat} (W : yBnd) (hl : l.stackTraces = false) (R : zRel ca aE (n + 1) (spX ++ E) μ μm) : ∃ sp1 μ1 μm1, zRel ca aE n sp1 μ1 μm1 ∧ wO_34 (wZa aE ad adK adV fo) l D ca a1 a2 a3 a4 a5 (spX ++ E) μ μm sp1 μ1 μm1 := by
  obtain ⟨_, cs, φ, _, Sh, ⟨O, G, Wf, F, M⟩, T, Q, X, I⟩ := id R
  by_cases g : yIs a1 4
  · obtain ⟨i, hi, rfl⟩ := zIs (by decide) g
    have oki : ok_in (nI i) 4 = true := xI_in hi (by decide)
    have ci : (nI i).toNatClampNeg = i := xI_cl (by omega)
    rcases X.1 i hi with ⟨z1, ⟨x0, z2⟩, z3⟩ | ⟨z1, z2, w, m, zw, z4, z5, Y, z6⟩
    · have z3i : μm.1 1 (nI i).toNatClampNeg = -1 := by rw [ci]; exact z3
      obtain ⟨v, μ1, μm1, h1, h2, h3, h4⟩ := yqn_judge O F M zN i hi z3
      exact ⟨_, μ1, μm1, R.same (zFm2.th ⟨O, G, Wf, F, M⟩ h3 (fun c i h => (h4 c i (by omega) (by omega) (by omega)).1)) h3.z h4.z (ySn_km Q h4), won_34 hl Sh.2.2.2.2 zN oki (by rw [ci]; exact z2) h1 zN h2⟩
    · have hr : wRow (spX ++ E) (cs i) (yKd w) m := ⟨z4, yKd_row w⟩
      obtain ⟨v, μ1, μm1, h1, h2, h3, h4⟩ := yq_judge (N := zN) O F M (Nat.le_of_ble_eq_true rfl) Y
      exact ⟨_, μ1, μm1, R.same (zFm2.th ⟨O, G, Wf, F, M⟩ h3 (fun c i h => (h4 c i (by omega) (by omega) (by omega)).1)) h3.z h4.z (ySn_km Q h4), wo_34 Sh.2.2.2.2 zN (cs i) (yKd w) m oki (by rw [ci]; exact z2) hr h1 zN h2⟩
  · obtain ⟨v, μ1, μm1, h1, h2, h3, h4⟩ := yqb_judge O F M zN a1 g
    exact ⟨_, μ1, μm1, R.same (zFm2.th ⟨O, G, Wf, F, M⟩ h3 (fun c i h => (h4 c i (by omega) (by omega) (by omega)).1)) h3.z h4.z (ySn_km Q h4), wob_34 zN h1 zN h2⟩
theorem zc_35 {aE : Nat} {ad adK adV : Nat → Nat} {fo : Option Nat} {l : Launch} {D : va_G} {ca : wCA} (a1 a2 a3 a4 a5 : Int32) {E : List wCell} {μ μm : wMem} {n : Nat} (W : yBnd) (hl : l.stackTraces = false) (R : zRel ca aE (n + 1) (spX ++ E) μ μm) : ∃ sp1 μ1 μm1, zRel ca aE n sp1 μ1 μm1 ∧ wO_35 (wZa aE ad adK adV fo) l D ca a1 a2 a3 a4 a5 (spX ++ E) μ μm sp1 μ1 μm1 := by
  obtain ⟨_, cs, φ, _, Sh, ⟨O, G, Wf, F, M⟩, T, Q, X, I⟩ := id R
  by_cases g : yIs a1 4
  · obtain ⟨i, hi, rfl⟩ := zIs (by decide) g
    have oki : ok_in (nI i) 4 = true := xI_in hi (by decide)
    have ci : (nI i).toNatClampNeg = i := xI_cl (by omega)
    rcases X.1 i hi with ⟨z1, ⟨x0, z2⟩, z3⟩ | ⟨z1, z2, w, m, zw, z4, z5, Y, z6⟩
    · have z3i : μm.1 1 (nI i).toNatClampNeg = -1 := by rw [ci]; exact z3
      obtain ⟨v, μ1, μm1, h1, h2, h3, h4⟩ := yqn_there O F M zN i hi z3
      exact ⟨_, μ1, μm1, R.same (zFm2.th ⟨O, G, Wf, F, M⟩ h3 (fun c i h => (h4 c i (by omega) (by omega) (by omega)).1)) h3.z h4.z (ySn_km Q h4), won_35 hl Sh.2.2.2.2 zN oki (by rw [ci]; exact z2) h1 zN h2⟩
    · have hr : wRow (spX ++ E) (cs i) (yKd w) m := ⟨z4, yKd_row w⟩
      obtain ⟨v, μ1, μm1, h1, h2, h3, h4⟩ := yq_there (N := zN) O F M (Nat.le_of_ble_eq_true rfl) Y
      exact ⟨_, μ1, μm1, R.same (zFm2.th ⟨O, G, Wf, F, M⟩ h3 (fun c i h => (h4 c i (by omega) (by omega) (by omega)).1)) h3.z h4.z (ySn_km Q h4), wo_35 Sh.2.2.2.2 zN (cs i) (yKd w) m oki (by rw [ci]; exact z2) hr h1 zN h2⟩
  · obtain ⟨v, μ1, μm1, h1, h2, h3, h4⟩ := yqb_there O F M zN a1 g
    exact ⟨_, μ1, μm1, R.same (zFm2.th ⟨O, G, Wf, F, M⟩ h3 (fun c i h => (h4 c i (by omega) (by omega) (by omega)).1)) h3.z h4.z (ySn_km Q h4), wob_35 zN h1 zN h2⟩
theorem zc_36 {aE : Nat} {ad adK adV : Nat → Nat} {fo : Option Nat} {l : Launch} {D : va_G} {ca : wCA} (a1 a2 a3 a4 a5 : Int32) {E : List wCell} {μ μm : wMem} {n : Nat} (W : yBnd) (hl : l.stackTraces = false) (R : zRel ca aE (n + 1) (spX ++ E) μ μm) : ∃ sp1 μ1 μm1, zRel ca aE n sp1 μ1 μm1 ∧ wO_36 (wZa aE ad adK adV fo) l D ca a1 a2 a3 a4 a5 (spX ++ E) μ μm sp1 μ1 μm1 := by
  obtain ⟨_, cs, φ, _, Sh, ⟨O, G, Wf, F, M⟩, T, Q, X, I⟩ := id R
  by_cases g : yIs a1 4
  · obtain ⟨i, hi, rfl⟩ := zIs (by decide) g
    have oki : ok_in (nI i) 4 = true := xI_in hi (by decide)
    have ci : (nI i).toNatClampNeg = i := xI_cl (by omega)
    rcases X.1 i hi with ⟨z1, ⟨x0, z2⟩, z3⟩ | ⟨z1, z2, w, m, zw, z4, z5, Y, z6⟩
    · have z3i : μm.1 1 (nI i).toNatClampNeg = -1 := by rw [ci]; exact z3
      obtain ⟨v, μ1, μm1, h1, h2, h3, h4⟩ := yqn_takes O F M zN i hi z3
      exact ⟨_, μ1, μm1, R.same (zFm2.th ⟨O, G, Wf, F, M⟩ h3 (fun c i h => (h4 c i (by omega) (by omega) (by omega)).1)) h3.z h4.z (ySn_km Q h4), won_36 hl Sh.2.2.2.2 zN oki (by rw [ci]; exact z2) h1 zN h2⟩
    · have hr : wRow (spX ++ E) (cs i) (yKd w) m := ⟨z4, yKd_row w⟩
      obtain ⟨v, μ1, μm1, h1, h2, h3, h4⟩ := yq_takes (N := zN) O F M (Nat.le_of_ble_eq_true rfl) Y
      exact ⟨_, μ1, μm1, R.same (zFm2.th ⟨O, G, Wf, F, M⟩ h3 (fun c i h => (h4 c i (by omega) (by omega) (by omega)).1)) h3.z h4.z (ySn_km Q h4), wo_36 Sh.2.2.2.2 zN (cs i) (yKd w) m oki (by rw [ci]; exact z2) hr h1 zN h2⟩
  · obtain ⟨v, μ1, μm1, h1, h2, h3, h4⟩ := yqb_takes O F M zN a1 g
    exact ⟨_, μ1, μm1, R.same (zFm2.th ⟨O, G, Wf, F, M⟩ h3 (fun c i h => (h4 c i (by omega) (by omega) (by omega)).1)) h3.z h4.z (ySn_km Q h4), wob_36 zN h1 zN h2⟩
theorem zc_37 {aE : Nat} {ad adK adV : Nat → Nat} {fo : Option Nat} {l : Launch} {D : va_G} {ca : wCA} (a1 a2 a3 a4 a5 : Int32) {E : List wCell} {μ μm : wMem} {n : Nat} (W : yBnd) (hl : l.stackTraces = false) (R : zRel ca aE (n + 1) (spX ++ E) μ μm) : ∃ sp1 μ1 μm1, zRel ca aE n sp1 μ1 μm1 ∧ wO_37 (wZa aE ad adK adV fo) l D ca a1 a2 a3 a4 a5 (spX ++ E) μ μm sp1 μ1 μm1 := by
  obtain ⟨_, cs, φ, _, Sh, ⟨O, G, Wf, F, M⟩, T, Q, X, I⟩ := id R
  by_cases g : yIs a1 4
  · obtain ⟨i, hi, rfl⟩ := zIs (by decide) g
    have oki : ok_in (nI i) 4 = true := xI_in hi (by decide)
    have ci : (nI i).toNatClampNeg = i := xI_cl (by omega)
    rcases X.1 i hi with ⟨z1, ⟨x0, z2⟩, z3⟩ | ⟨z1, z2, w, m, zw, z4, z5, Y, z6⟩
    · have z3i : μm.1 1 (nI i).toNatClampNeg = -1 := by rw [ci]; exact z3
      obtain ⟨v, μ1, μm1, h1, h2, h3, h4⟩ := yqn_dares O F M zN i hi z3
      exact ⟨_, μ1, μm1, R.same (zFm2.th ⟨O, G, Wf, F, M⟩ h3 (fun c i h => (h4 c i (by omega) (by omega) (by omega)).1)) h3.z h4.z (ySn_km Q h4), won_37 hl Sh.2.2.2.2 zN oki (by rw [ci]; exact z2) h1 zN h2⟩
    · have hr : wRow (spX ++ E) (cs i) (yKd w) m := ⟨z4, yKd_row w⟩
      obtain ⟨v, μ1, μm1, h1, h2, h3, h4⟩ := yq_dares (N := zN) O F M (Nat.le_of_ble_eq_true rfl) Y
      exact ⟨_, μ1, μm1, R.same (zFm2.th ⟨O, G, Wf, F, M⟩ h3 (fun c i h => (h4 c i (by omega) (by omega) (by omega)).1)) h3.z h4.z (ySn_km Q h4), wo_37 Sh.2.2.2.2 zN (cs i) (yKd w) m oki (by rw [ci]; exact z2) hr h1 zN h2⟩
  · obtain ⟨v, μ1, μm1, h1, h2, h3, h4⟩ := yqb_dares O F M zN a1 g
    exact ⟨_, μ1, μm1, R.same (zFm2.th ⟨O, G, Wf, F, M⟩ h3 (fun c i h => (h4 c i (by omega) (by omega) (by omega)).1)) h3.z h4.z (ySn_km Q h4), wob_37 zN h1 zN h2⟩
theorem zc_38 {aE : Nat} {ad adK adV : Nat → Nat} {fo : Option Nat} {l : Launch} {D : va_G} {ca : wCA} (a1 a2 a3 a4 a5 : Int32) {E : List wCell} {μ μm : wMem} {n : Nat} (W : yBnd) (hl : l.stackTraces = false) (R : zRel ca aE (n + 1) (spX ++ E) μ μm) : ∃ sp1 μ1 μm1, zRel ca aE n sp1 μ1 μm1 ∧ wO_38 (wZa aE ad adK adV fo) l D ca a1 a2 a3 a4 a5 (spX ++ E) μ μm sp1 μ1 μm1 := by
  obtain ⟨_, cs, φ, _, Sh, ⟨O, G, Wf, F, M⟩, T, Q, X, I⟩ := id R
  by_cases g : yIs a1 4
  · obtain ⟨i, hi, rfl⟩ := zIs (by decide) g
    have oki : ok_in (nI i) 4 = true := xI_in hi (by decide)
    have ci : (nI i).toNatClampNeg = i := xI_cl (by omega)
    rcases X.1 i hi with ⟨z1, ⟨x0, z2⟩, z3⟩ | ⟨z1, z2, w, m, zw, z4, z5, Y, z6⟩
    · have z3i : μm.1 1 (nI i).toNatClampNeg = -1 := by rw [ci]; exact z3
      obtain ⟨v, μ1, μm1, h1, h2, h3, h4⟩ := yqn_lied O F M zN i hi z3
      exact ⟨_, μ1, μm1, R.same (zFm2.th ⟨O, G, Wf, F, M⟩ h3 (fun c i h => (h4 c i (by omega) (by omega) (by omega)).1)) h3.z h4.z (ySn_km Q h4), won_38 hl Sh.2.2.2.2 zN oki (by rw [ci]; exact z2) h1 zN h2⟩
    · have hr : wRow (spX ++ E) (cs i) (yKd w) m := ⟨z4, yKd_row w⟩
      obtain ⟨v, μ1, μm1, h1, h2, h3, h4⟩ := yq_lied (N := zN) O F M (Nat.le_of_ble_eq_true rfl) Y
      exact ⟨_, μ1, μm1, R.same (zFm2.th ⟨O, G, Wf, F, M⟩ h3 (fun c i h => (h4 c i (by omega) (by omega) (by omega)).1)) h3.z h4.z (ySn_km Q h4), wo_38 Sh.2.2.2.2 zN (cs i) (yKd w) m oki (by rw [ci]; exact z2) hr h1 zN h2⟩
  · obtain ⟨v, μ1, μm1, h1, h2, h3, h4⟩ := yqb_lied O F M zN a1 g
    exact ⟨_, μ1, μm1, R.same (zFm2.th ⟨O, G, Wf, F, M⟩ h3 (fun c i h => (h4 c i (by omega) (by omega) (by omega)).1)) h3.z h4.z (ySn_km Q h4), wob_38 zN h1 zN h2⟩
theorem zc_39 {aE : Nat} {ad adK adV : Nat → Nat} {fo : Option Nat} {l : Launch} {D : va_G} {ca : wCA} (a1 a2 a3 a4 a5 : Int32) {E : List wCell} {μ μm : wMem} {n : Nat} (W : yBnd) (hl : l.stackTraces = false) (R : zRel ca aE (n + 1) (spX ++ E) μ μm) : ∃ sp1 μ1 μm1, zRel ca aE n sp1 μ1 μm1 ∧ wO_39 (wZa aE ad adK adV fo) l D ca a1 a2 a3 a4 a5 (spX ++ E) μ μm sp1 μ1 μm1 := by
  obtain ⟨_, cs, φ, _, Sh, ⟨O, G, Wf, F, M⟩, T, Q, X, I⟩ := id R
  by_cases g : yIs a1 4
  · obtain ⟨i, hi, rfl⟩ := zIs (by decide) g
    have oki : ok_in (nI i) 4 = true := xI_in hi (by decide)
    have ci : (nI i).toNatClampNeg = i := xI_cl (by omega)
    rcases X.1 i hi with ⟨z1, ⟨x0, z2⟩, z3⟩ | ⟨z1, z2, w, m, zw, z4, z5, Y, z6⟩
    · have z3i : μm.1 1 (nI i).toNatClampNeg = -1 := by rw [ci]; exact z3
      obtain ⟨v, μ1, μm1, h1, h2, h3, h4⟩ := yqn_stamped O F M zN (nI i) (fun _ => z3i)
      exact ⟨_, μ1, μm1, R.same (zFm2.th ⟨O, G, Wf, F, M⟩ h3 (fun c i h => (h4 c i (by omega) (by omega) (by omega)).1)) h3.z h4.z (h4.sn Q), won_39 hl Sh.2.2.2.2 zN oki (by rw [ci]; exact z2) h1 zN h2⟩
    · have hr : wRow (spX ++ E) (cs i) (yKd w) m := ⟨z4, yKd_row w⟩
      obtain ⟨v, μ1, μm1, h1, h2, h3, h4⟩ := yq_stamped (N := zN) O F M (Nat.le_of_ble_eq_true rfl) Y
      exact ⟨_, μ1, μm1, R.same (zFm2.th ⟨O, G, Wf, F, M⟩ h3 (fun c i h => (h4 c i (by omega) (by omega) (by omega)).1)) h3.z h4.z (h4.sn Q), wo_39 Sh.2.2.2.2 zN (cs i) (yKd w) m oki (by rw [ci]; exact z2) hr h1 zN h2⟩
  · obtain ⟨v, μ1, μm1, h1, h2, h3, h4⟩ := yqb_stamped O M zN g
    exact ⟨_, μ1, μm1, R.same (zFm2.th ⟨O, G, Wf, F, M⟩ h3 (fun c i h => (h4 c i (by omega) (by omega) (by omega)).1)) h3.z h4.z (h4.sn Q), wob_39 zN h1 zN h2⟩
theorem zc_40 {aE : Nat} {ad adK adV : Nat → Nat} {fo : Option Nat} {l : Launch} {D : va_G} {ca : wCA} (a1 a2 a3 a4 a5 : Int32) {E : List wCell} {μ μm : wMem} {n : Nat} (W : yBnd) (hl : l.stackTraces = false) (R : zRel ca aE (n + 1) (spX ++ E) μ μm) : ∃ sp1 μ1 μm1, zRel ca aE n sp1 μ1 μm1 ∧ wO_40 (wZa aE ad adK adV fo) l D ca a1 a2 a3 a4 a5 (spX ++ E) μ μm sp1 μ1 μm1 := by
  obtain ⟨_, cs, φ, _, Sh, ⟨O, G, Wf, F, M⟩, T, Q, X, I⟩ := id R
  by_cases g : yIs a1 4
  · obtain ⟨i, hi, rfl⟩ := zIs (by decide) g
    have oki : ok_in (nI i) 4 = true := xI_in hi (by decide)
    have ci : (nI i).toNatClampNeg = i := xI_cl (by omega)
    rcases X.1 i hi with ⟨z1, ⟨x0, z2⟩, z3⟩ | ⟨z1, z2, w, m, zw, z4, z5, Y, z6⟩
    · have z3i : μm.1 1 (nI i).toNatClampNeg = -1 := by rw [ci]; exact z3
      obtain ⟨v, μ1, μm1, h1, h2, h3, h4⟩ := yqn_had O F M zN (nI i) a2 (fun _ => z3i)
      exact ⟨_, μ1, μm1, R.same (zFm2.th ⟨O, G, Wf, F, M⟩ h3 (fun c i h => (h4 c i (by omega) (by omega) (by omega)).1)) h3.z h4.z (h4.sn Q), won_40 hl Sh.2.2.2.2 zN oki (by rw [ci]; exact z2) h1 zN h2⟩
    · have hr : wRow (spX ++ E) (cs i) (yKd w) m := ⟨z4, yKd_row w⟩
      obtain ⟨v, μ1, μm1, h1, h2, h3, h4⟩ := yq_had (N := zN) O F M (Nat.le_of_ble_eq_true rfl) Y a2
      exact ⟨_, μ1, μm1, R.same (zFm2.th ⟨O, G, Wf, F, M⟩ h3 (fun c i h => (h4 c i (by omega) (by omega) (by omega)).1)) h3.z h4.z (h4.sn Q), wo_40 Sh.2.2.2.2 zN (cs i) (yKd w) m oki (by rw [ci]; exact z2) hr h1 zN h2⟩
  · obtain ⟨v, μ1, μm1, h1, h2, h3, h4⟩ := yqb_had O M zN g a2
    exact ⟨_, μ1, μm1, R.same (zFm2.th ⟨O, G, Wf, F, M⟩ h3 (fun c i h => (h4 c i (by omega) (by omega) (by omega)).1)) h3.z h4.z (h4.sn Q), wob_40 zN h1 zN h2⟩
theorem zc_41 {aE : Nat} {ad adK adV : Nat → Nat} {fo : Option Nat} {l : Launch} {D : va_G} {ca : wCA} (a1 a2 a3 a4 a5 : Int32) {E : List wCell} {μ μm : wMem} {n : Nat} (W : yBnd) (hl : l.stackTraces = false) (R : zRel ca aE (n + 1) (spX ++ E) μ μm) : ∃ sp1 μ1 μm1, zRel ca aE n sp1 μ1 μm1 ∧ wO_41 (wZa aE ad adK adV fo) l D ca a1 a2 a3 a4 a5 (spX ++ E) μ μm sp1 μ1 μm1 := by
  obtain ⟨_, cs, φ, _, Sh, ⟨O, G, Wf, F, M⟩, T, Q, X, I⟩ := id R
  by_cases g : yIs a1 4
  · obtain ⟨i, hi, rfl⟩ := zIs (by decide) g
    have oki : ok_in (nI i) 4 = true := xI_in hi (by decide)
    have ci : (nI i).toNatClampNeg = i := xI_cl (by omega)
    rcases X.1 i hi with ⟨z1, ⟨x0, z2⟩, z3⟩ | ⟨z1, z2, w, m, zw, z4, z5, Y, z6⟩
    · have z3i : μm.1 1 (nI i).toNatClampNeg = -1 := by rw [ci]; exact z3
      obtain ⟨v, μ1, μm1, h1, h2, h3, h4⟩ := yqn_sures O F M zN (nI i) a2 (fun _ => z3i)
      exact ⟨_, μ1, μm1, R.same (zFm2.th ⟨O, G, Wf, F, M⟩ h3 (fun c i h => (h4 c i (by omega) (by omega) (by omega)).1)) h3.z h4.z (h4.sn Q), won_41 hl Sh.2.2.2.2 zN oki (by rw [ci]; exact z2) h1 zN h2⟩
    · have hr : wRow (spX ++ E) (cs i) (yKd w) m := ⟨z4, yKd_row w⟩
      obtain ⟨v, μ1, μm1, h1, h2, h3, h4⟩ := yq_sures (N := zN) O F M (Nat.le_of_ble_eq_true rfl) Y a2
      exact ⟨_, μ1, μm1, R.same (zFm2.th ⟨O, G, Wf, F, M⟩ h3 (fun c i h => (h4 c i (by omega) (by omega) (by omega)).1)) h3.z h4.z (h4.sn Q), wo_41 Sh.2.2.2.2 zN (cs i) (yKd w) m oki (by rw [ci]; exact z2) hr h1 zN h2⟩
  · obtain ⟨v, μ1, μm1, h1, h2, h3, h4⟩ := yqb_sures O M zN g a2
    exact ⟨_, μ1, μm1, R.same (zFm2.th ⟨O, G, Wf, F, M⟩ h3 (fun c i h => (h4 c i (by omega) (by omega) (by omega)).1)) h3.z h4.z (h4.sn Q), wob_41 zN h1 zN h2⟩
theorem zc_42 {aE : Nat} {ad adK adV : Nat → Nat} {fo : Option Nat} {l : Launch} {D : va_G} {ca : wCA} (a1 a2 a3 a4 a5 : Int32) {E : List wCell} {μ μm : wMem} {n : Nat} (W : yBnd) (hl : l.stackTraces = false) (R : zRel ca aE (n + 1) (spX ++ E) μ μm) : ∃ sp1 μ1 μm1, zRel ca aE n sp1 μ1 μm1 ∧ wO_42 (wZa aE ad adK adV fo) l D ca a1 a2 a3 a4 a5 (spX ++ E) μ μm sp1 μ1 μm1 := by
  obtain ⟨_, cs, φ, _, Sh, ⟨O, G, Wf, F, M⟩, T, Q, X, I⟩ := id R
  by_cases g : yIs a1 4
  · obtain ⟨i, hi, rfl⟩ := zIs (by decide) g
    have oki : ok_in (nI i) 4 = true := xI_in hi (by decide)
    have ci : (nI i).toNatClampNeg = i := xI_cl (by omega)
    rcases X.1 i hi with ⟨z1, ⟨x0, z2⟩, z3⟩ | ⟨z1, z2, w, m, zw, z4, z5, Y, z6⟩
    · have z3i : μm.1 1 (nI i).toNatClampNeg = -1 := by rw [ci]; exact z3
      obtain ⟨v, μ1, μm1, h1, h2, h3, h4⟩ := yqn_dared O F M zN (nI i) (fun _ => z3i)
      exact ⟨_, μ1, μm1, R.same (zFm2.th ⟨O, G, Wf, F, M⟩ h3 (fun c i h => (h4 c i (by omega) (by omega) (by omega)).1)) h3.z h4.z (h4.sn Q), won_42 hl Sh.2.2.2.2 zN oki (by rw [ci]; exact z2) h1 zN h2⟩
    · have hr : wRow (spX ++ E) (cs i) (yKd w) m := ⟨z4, yKd_row w⟩
      obtain ⟨v, μ1, μm1, h1, h2, h3, h4⟩ := yq_dared (N := zN) O F M (Nat.le_of_ble_eq_true rfl) Y
      exact ⟨_, μ1, μm1, R.same (zFm2.th ⟨O, G, Wf, F, M⟩ h3 (fun c i h => (h4 c i (by omega) (by omega) (by omega)).1)) h3.z h4.z (h4.sn Q), wo_42 Sh.2.2.2.2 zN (cs i) (yKd w) m oki (by rw [ci]; exact z2) hr h1 zN h2⟩
  · obtain ⟨v, μ1, μm1, h1, h2, h3, h4⟩ := yqb_dared O M zN g
    exact ⟨_, μ1, μm1, R.same (zFm2.th ⟨O, G, Wf, F, M⟩ h3 (fun c i h => (h4 c i (by omega) (by omega) (by omega)).1)) h3.z h4.z (h4.sn Q), wob_42 zN h1 zN h2⟩
