set_option maxRecDepth 100000
/-! part 99999993: the relation when the world grows; feed, end, count, write, paste -/
def zGood : wCell → Prop
  | .inl o => ∀ y ∈ o.2, y.1 = 2 → 28 ≤ y.2
  | .inr _ => True
def zHoldB (b : Nat) (sp sp1 : List wCell) : Prop := ∀ i d, 22 ≤ i → i ≠ b → sp[i]? = some d → zGood d → sp1[i]? = some d
abbrev zHold (sp sp1 : List wCell) : Prop := zHoldB 0 sp sp1
theorem zHold.rfl' (sp : List wCell) : zHold sp sp := fun _ _ _ _ h _ => h
def zKf (μ ν : wMem) : Prop := ∀ c i, 6 ≤ c → c ≤ 12 → (c = 6 → 1 ≤ i ∧ i ≠ 4) → (c = 7 → 7 ≤ i ∧ i < 28) → (c = 8 → 6 ≤ i ∧ i < 24) → (c = 9 → 6 ≤ i ∧ i < 24) → (c = 10 → 6 ≤ i ∧ i < 24) → (c = 11 → 40 ≤ i) → ν.1 c i = μ.1 c i
theorem zKf.fm {μ ν : wMem} (h : zKf μ ν) {φ : Nat → Nat → Nat} (O : yOk φ) {f : Nat} (hf : 1 ≤ f) (h3 : f ≤ 3) (F : yFM φ f μ) : yFM φ f ν := by
  have O6 := O.persons
  have O2 := O.posts
  obtain ⟨⟨a0, a1, a2, a3, a4, a5, a6, a7⟩, b1, b2, b3, b4⟩ := F
  refine ⟨⟨?_, ?_, ?_, ?_, ?_, ?_, ?_, ?_⟩, fun i hi => ?_, fun i hi => ?_, fun i hi => ?_, fun i hi => ?_⟩
  · rw [h _ _ (by omega) (by omega) (by omega) (by omega) (by omega) (by omega) (by omega) (by omega)]; exact a0
  · rw [h _ _ (by omega) (by omega) (by omega) (by omega) (by omega) (by omega) (by omega) (by omega)]; exact a1
  · rw [h _ _ (by omega) (by omega) (by omega) (by omega) (by omega) (by omega) (by omega) (by omega)]; exact a2
  · rw [h _ _ (by omega) (by omega) (by omega) (by omega) (by omega) (by omega) (by omega) (by omega)]; exact a3
  · rw [h _ _ (by omega) (by omega) (by omega) (by omega) (by omega) (by omega) (by omega) (by omega)]; exact a4
  · rw [h _ _ (by omega) (by omega) (by omega) (by omega) (by omega) (by omega) (by omega) (by omega)]; exact a5
  · rw [h _ _ (by omega) (by omega) (by omega) (by omega) (by omega) (by omega) (by omega) (by omega)]; exact a6
  · rw [h _ _ (by omega) (by omega) (by omega) (by omega) (by omega) (by omega) (by omega) (by omega)]; exact a7
  · rw [h _ _ (by omega) (by omega) (by omega) (by omega) (by omega) (by omega) (by omega) (by omega)]; exact b1 i hi
  · rw [h _ _ (by omega) (by omega) (by omega) (by omega) (by omega) (by omega) (by omega) (by omega)]; exact b2 i hi
  · rw [h _ _ (by omega) (by omega) (by omega) (by omega) (by omega) (by omega) (by omega) (by omega), h _ _ (by omega) (by omega) (by omega) (by omega) (by omega) (by omega) (by omega) (by omega), h _ _ (by omega) (by omega) (by omega) (by omega) (by omega) (by omega) (by omega) (by omega)]; exact b3 i hi
  · rw [h _ _ (by omega) (by omega) (by omega) (by omega) (by omega) (by omega) (by omega) (by omega)]; exact b4 i hi
theorem zSlo.grow {sp sp1 : List wCell} {μ μm ν νm : wMem} {i c : Nat} (h : zSlo sp μ μm i c) {b : Nat} (hb : 28 ≤ c → b ≠ c) (hb2 : b ≠ 24 + i) (H : zHoldB b sp sp1) (kc : 28 ≤ c → c < sp.length → ν.1 c = μ.1 c ∧ ν.2 c = μ.2 c) (t1 : νm.1 1 i = μm.1 1 i) (t2 : νm.1 2 i = μm.1 2 i) (t3 : ∀ j, j < 60 → νm.2 3 (60 * i + j) = μm.2 3 (60 * i + j)) : zSlo sp1 ν νm i c := by
  rcases h with ⟨h1, ⟨x0, h2⟩, h3⟩ | ⟨h1, h2, w, n, h3, h4, h5, ⟨x1, x2, x3, x4, x5, x6⟩, h7⟩
  · exact .inl ⟨h1, ⟨x0, H _ _ (by omega) (by omega) h2 (fun y hy he => by
      rw [List.mem_singleton.mp hy] at he
      exact absurd he (show ¬ (3 : Nat) = 2 by decide))⟩, by rw [t1]; exact h3⟩
  · have lt : c < sp.length := (List.getElem?_eq_some_iff.mp h4).1
    obtain ⟨k1, k2⟩ := kc h1 lt
    refine .inr ⟨h1, H _ _ (by omega) (by omega) h2 (fun y hy _ => by rw [List.mem_singleton.mp hy]; exact h1), w, n, h3, H _ _ (by omega) (fun e => hb h1 e.symm) h4 trivial, by rw [t1]; exact h5, ⟨x1, x2, x3, fun j hj => ?_, by rw [t2]; exact x5, by rw [t1]; exact x6⟩, fun j hj => by rw [k1]; exact h7 j hj⟩
    rw [t3 j (by omega)]
    refine Eq.trans ?_ (x4 j hj)
    unfold wAt
    rw [k1, k2]
theorem zIm.grow {sp sp1 : List wCell} {cs cs1 : Nat → Nat} {μ μm ν νm : wMem} {k d : Nat} (hk : k < 3) (h : zIm sp cs μ μm k d) {b : Nat} (hb : b < d ∨ d + 6 < b) (H : zHoldB b sp sp1) (hc : ∀ i, i < 4 → cs1 i = cs i ∨ sp.length ≤ cs1 i) (kc : ∀ c, 28 ≤ c → c < sp.length → (∀ i, i < 4 → cs i ≠ c) → ν.1 c = μ.1 c) (kf : zKf μm νm) : zIm sp1 cs1 ν νm k d := by
  obtain ⟨h1, h2, h3, h4, h5, h6, h7, h8, h9, ψ, p1, p2, p3, p4, p5⟩ := h
  have lt : d + 1 + 5 < sp.length := (List.getElem?_eq_some_iff.mp h8).1
  have kk : ∀ c, d ≤ c → c ≤ d + 6 → ν.1 c = μ.1 c := fun c a b => kc c (by omega) (by omega) (fun i hi e => by have := h9 i hi; omega)
  refine ⟨h1, H _ _ (by omega) (by omega) h2 (fun y hy he => ?_), H _ _ (by omega) (by omega) h3 trivial, H _ _ (by omega) (by omega) h4 trivial, H _ _ (by omega) (by omega) h5 trivial, H _ _ (by omega) (by omega) h6 trivial, H _ _ (by omega) (by omega) h7 trivial, H _ _ (by omega) (by omega) h8 trivial, fun i hi => ?_, ψ, p1, p2, p3, yFCg_of p4 (kk _ (by omega) (by omega)) (kk _ (by omega) (by omega)) (kk _ (by omega) (by omega)) (kk _ (by omega) (by omega)) (kk _ (by omega) (by omega)) (kk _ (by omega) (by omega)) (kk _ (by omega) (by omega)), kf.fm p1 (by omega) (by omega) p5⟩
  · simp only [wFf6, List.mem_cons, List.not_mem_nil, or_false] at hy
    rcases hy with e | e | e | e | e | e | e | e | e | e | e | e | e | e <;> rw [e] at he ⊢ <;> first | exact absurd he (by decide) | (show 28 ≤ _; omega)
  · have := h9 i hi
    rcases hc i hi with q | q
    · rw [q]; exact this
    · omega
theorem zImg.grow {ca : wCA} {aE : Nat} {sp sp1 : List wCell} {cs cs1 : Nat → Nat} {μ μm ν νm : wMem} (h : zImg ca aE sp cs μ μm) {b : Nat} (hb : b < 28) (hb2 : b ≠ 23) (H : zHoldB b sp sp1) (hc : ∀ i, i < 4 → cs1 i = cs i ∨ sp.length ≤ cs1 i) (k23 : ν.1 23 2 = μ.1 23 2) (kc : ∀ c, 28 ≤ c → c < sp.length → (∀ i, i < 4 → cs i ≠ c) → ν.1 c = μ.1 c) (kf : zKf μm νm) : zImg ca aE sp1 cs1 ν νm := by
  have t12 : ∀ j, νm.1 12 j = μm.1 12 j := fun j => kf 12 j (by omega) (by omega) (by omega) (by omega) (by omega) (by omega) (by omega) (by omega)
  rcases h with ⟨h1, h2, h3⟩ | ⟨cA, t, h1, h2, h3, h4, h5, h6, h7, h8⟩
  · refine .inl ⟨H _ _ (by omega) (by omega) h1 (fun y hy he => ?_), by rw [k23]; exact h2, fun j hj => by rw [t12]; exact h3 j hj⟩
    simp only [List.mem_cons, List.not_mem_nil, or_false] at hy
    rcases hy with e | e | e <;> rw [e] at he
    · exact absurd he (by decide)
    · have : aE + 4 = 2 := he
      omega
    · exact absurd he (by decide)
  · have lt : cA < sp.length := (List.getElem?_eq_some_iff.mp h4).1
    refine .inr ⟨cA, t, h1, H _ _ (by omega) (by omega) h2 (fun y hy he => ?_), by rw [k23]; exact h3, H _ _ (by omega) (by omega) h4 trivial, h5, h6, fun i hi => ?_, fun j hj => ?_⟩
    · simp only [List.mem_cons, List.not_mem_nil, or_false] at hy
      rcases hy with e | e | e <;> rw [e] at he ⊢
      · exact absurd he (by decide)
      · exact h1
      · exact absurd he (by decide)
    · have := h7 i hi
      rcases hc i hi with q | q
      · rw [q]; exact this
      · omega
    · rcases h8 j hj with ⟨q1, q2⟩ | ⟨d, q1, q2, q3⟩
      · exact .inl ⟨q1, by rw [t12]; exact q2⟩
      · exact .inr ⟨d, q1, by rw [t12]; exact q2, zIm.grow hj q3 (.inl (by have := q3.1; omega)) H hc kc kf⟩
/-- rows are as they were, the world may have grown -/
theorem zRel.grow {ca : wCA} {aE n : Nat} {sp sp1 E1 : List wCell} {μ μm ν νm : wMem} (R : zRel ca aE (n + 1) sp μ μm) (e1 : sp1 = spX ++ E1) (Sh1 : zShp ca n sp1) (H : zHold sp sp1) {ψ : Nat → Nat → Nat} (F : zFm2 ψ ν νm) (T : zTF ν νm) (Q : ySn νm) (k : ∀ c, 21 < c → c < sp.length → ν.1 c = μ.1 c ∧ ν.2 c = μ.2 c) (s1 : ∀ i, i < 4 → νm.1 1 i = μm.1 1 i ∧ νm.1 2 i = μm.1 2 i) (s3 : ∀ j, νm.2 3 j = μm.2 3 j) (kf : zKf μm νm) : zRel ca aE n sp1 ν νm := by
  obtain ⟨E, cs, φ, e, Sh, _, _, _, ⟨X, Y⟩, I⟩ := R
  have l28 := Sh.1
  exact ⟨E1, cs, ψ, e1, Sh1, F, T, Q, ⟨fun i hi => (X i hi).grow (fun h => by omega) (by omega) H (fun h1 h2 => k _ (by omega) h2) (s1 i hi).1 (s1 i hi).2 (fun j _ => s3 _), Y⟩, I.grow (by decide : 0 < 28) (by decide) H (fun i _ => .inl rfl) (by rw [(k 23 (by omega) (by omega)).1]) (fun c h1 h2 _ => (k c (by omega) h2).1) kf⟩
theorem yKC2.fam {φ : Nat → Nat → Nat} {μ ν : wMem} (F : yFC φ μ) (e : ∀ c, 1 ≤ c → c ≤ 7 → ν.1 c = μ.1 c) : yFC φ ν :=
  yFCg_1.mp (yFCg_of (yFCg_1.mpr F) (e 1 (by omega) (by omega)) (e 2 (by omega) (by omega)) (e 3 (by omega) (by omega)) (e 4 (by omega) (by omega)) (e 5 (by omega) (by omega)) (e 6 (by omega) (by omega)) (e 7 (by omega) (by omega)))
theorem zRel.tape {ca : wCA} {aE n : Nat} {E : List wCell} {μ μm ν νm : wMem} (R : zRel ca aE (n + 1) (spX ++ E) μ μm) {m : Nat} (k : yKC2 μ ν) (kt : yKM2 μm νm) (T : yTp m ν νm) : zRel ca aE n (spX ++ E) ν νm := by
  obtain ⟨_, cs, φ, _, Sh, ⟨O, G, Wf, F, M⟩, T0, Q, X, I⟩ := id R
  refine R.grow rfl Sh.less (zHold.rfl' _) (ψ := φ) ⟨O, G, Wf, yKC2.fam F (fun c h1 h2 => funext fun i => (k c i (by omega) (by omega)).1), yFM_of M fun c h1 h2 i => (kt c i (by omega) (by omega)).1⟩ ⟨⟨m, T⟩, ?_, ?_⟩ (ySn_of Q fun c i hc => (kt c i (by omega) (by omega)).1) (fun c h1 h2 => ⟨funext fun i => (k c i (by omega) (by omega)).1, funext fun i => (k c i (by omega) (by omega)).2⟩) (fun i hi => ⟨(kt 1 i (by omega) (by omega)).1, (kt 2 i (by omega) (by omega)).1⟩) (fun j => (kt 3 j (by omega) (by omega)).2) (fun c i h1 h2 _ _ _ _ _ _ => (kt c i (by omega) (by omega)).1)
  · rw [(k 0 3 (by omega) (by omega)).1, (kt 0 14 (by omega) (by omega)).1]; exact T0.2.1
  · rw [(k 0 4 (by omega) (by omega)).1, (kt 0 15 (by omega) (by omega)).1]; exact T0.2.2
theorem zc_0 {aE : Nat} {ad adK adV : Nat → Nat} {fo : Option Nat} {l : Launch} {D : va_G} {ca : wCA} (a1 a2 a3 a4 a5 : Int32) {E : List wCell} {μ μm : wMem} {n : Nat} (W : yBnd) (hl : l.stackTraces = false) (R : zRel ca aE (n + 1) (spX ++ E) μ μm) : ∃ sp1 μ1 μm1, zRel ca aE n sp1 μ1 μm1 ∧ wO_0 (wZa aE ad adK adV fo) l D ca a1 a2 a3 a4 a5 (spX ++ E) μ μm sp1 μ1 μm1 := by
  obtain ⟨_, cs, φ, _, Sh, ⟨O, G, Wf, F, M⟩, T, Q, X, I⟩ := id R
  obtain ⟨m, T1⟩ := T.1
  obtain ⟨v, μ1, μm1, m1, h1, h2, h3, h4, h5⟩ := yq_feed (N := zN) T1 (Nat.le_of_ble_eq_true rfl) a1 a2 a3 a4 a5
  exact ⟨_, μ1, μm1, R.tape h3 h4 h5, wo_0 zN h1 zN h2⟩
theorem zc_1 {aE : Nat} {ad adK adV : Nat → Nat} {fo : Option Nat} {l : Launch} {D : va_G} {ca : wCA} (a1 a2 a3 a4 a5 : Int32) {E : List wCell} {μ μm : wMem} {n : Nat} (W : yBnd) (hl : l.stackTraces = false) (R : zRel ca aE (n + 1) (spX ++ E) μ μm) : ∃ sp1 μ1 μm1, zRel ca aE n sp1 μ1 μm1 ∧ wO_1 (wZa aE ad adK adV fo) l D ca a1 a2 a3 a4 a5 (spX ++ E) μ μm sp1 μ1 μm1 := by
  obtain ⟨_, cs, φ, _, Sh, ⟨O, G, Wf, F, M⟩, T, Q, X, I⟩ := id R
  obtain ⟨m, T1⟩ := T.1
  obtain ⟨v, μ1, μm1, m1, h1, h2, h3, h4, h5⟩ := yq_end T1 zN a1
  exact ⟨_, μ1, μm1, R.tape h3 h4 h5, wo_1 zN h1 zN h2⟩
theorem zW_ne {w : Nat} (h : w < 4) : ¬ nI w = (-1 : Int32) := by
  rcases (by omega : w = 0 ∨ w = 1 ∨ w = 2 ∨ w = 3) with q | q | q | q <;> rw [q] <;> decide
theorem zc_53 {aE : Nat} {ad adK adV : Nat → Nat} {fo : Option Nat} {l : Launch} {D : va_G} {ca : wCA} (a1 a2 a3 a4 a5 : Int32) {E : List wCell} {μ μm : wMem} {n : Nat} (W : yBnd) (hl : l.stackTraces = false) (R : zRel ca aE (n + 1) (spX ++ E) μ μm) : ∃ sp1 μ1 μm1, zRel ca aE n sp1 μ1 μm1 ∧ wO_53 (wZa aE ad adK adV fo) l D ca a1 a2 a3 a4 a5 (spX ++ E) μ μm sp1 μ1 μm1 := by
  obtain ⟨_, cs, φ, _, Sh, ⟨O, G, Wf, F, M⟩, T, Q, X, I⟩ := id R
  obtain ⟨m, T1⟩ := T.1
  obtain ⟨v, μ1, μm1, h1, h2, h3, h4⟩ := yq_count (N := zN) O F M T1 (Nat.le_of_ble_eq_true rfl) (fun i => decide (cs i ≠ 0)) (fun i hi => by
    rcases X.1 i hi with ⟨z1, _, z3⟩ | ⟨z1, _, w, m, zw, _, z5, _⟩
    · rw [z3, z1]
      exact ⟨fun q => absurd q (by decide), fun q => absurd rfl q⟩
    · rw [z5]
      exact ⟨fun _ => zW_ne zw, fun _ => decide_eq_true (by omega)⟩) a1
  refine ⟨_, μ1, μm1, R.same (zFm2.th ⟨O, G, Wf, F, M⟩ h3 (fun c i h => (h4 c i (by omega) (by omega) (by omega)).1)) h3.z h4.z (ySn_km Q h4), wo_53 Sh.2.2.2.2 zN _ (fun i hi => ?_) h1 zN h2⟩
  rcases X.1 i hi with ⟨z1, ⟨x0, z2⟩, _⟩ | ⟨z1, z2, _⟩
  · refine ⟨x0, ?_⟩
    rw [z2, z1]
    rfl
  · refine ⟨cs i, ?_⟩
    rw [z2]
    have : decide (cs i ≠ 0) = true := decide_eq_true (by omega)
    rw [this]
    rfl
theorem zFit_b (b : Int8) : fits .byte (.int b.toInt32) = true := by
  have h1 := Int8.le_toInt b
  have h2 := Int8.toInt_lt b
  have e : b.toInt32.toInt = b.toInt := Int8.toInt_toInt32 b
  show (decide (-128 ≤ b.toInt32) && decide (b.toInt32 ≤ 127)) = true
  have c1 : (-128 : Int32).toInt = -128 := by decide
  have c2 : (127 : Int32).toInt = 127 := by decide
  rw [decide_eq_true (Int32.le_iff_toInt_le.mpr (by rw [c1, e]; omega)), decide_eq_true (Int32.le_iff_toInt_le.mpr (by rw [c2, e]; omega))]
  rfl
theorem zFit_s (b : Int16) : fits .short (.int b.toInt32) = true := by
  have h1 := Int16.le_toInt b
  have h2 := Int16.toInt_lt b
  have e : b.toInt32.toInt = b.toInt := Int16.toInt_toInt32 b
  show (decide (-32768 ≤ b.toInt32) && decide (b.toInt32 ≤ 32767)) = true
  have c1 : (-32768 : Int32).toInt = -32768 := by decide
  have c2 : (32767 : Int32).toInt = 32767 := by decide
  rw [decide_eq_true (Int32.le_iff_toInt_le.mpr (by rw [c1, e]; omega)), decide_eq_true (Int32.le_iff_toInt_le.mpr (by rw [c2, e]; omega))]
  rfl
/-- one row is written, on both sides -/
theorem zRel.put {ca : wCA} {aE n : Nat} {E : List wCell} {cs : Nat → Nat} {φ : Nat → Nat → Nat} {μ μm ν νm : wMem} (Sh : zShp ca (n + 1) (spX ++ E)) (F : zFm2 φ μ μm) (T : zTF μ μm) (Q : ySn μm) (X : zRow (spX ++ E) cs μ μm) (I : zImg ca aE (spX ++ E) cs μ μm) {i w m : Nat} (hi : i < 4) (z1 : 28 ≤ cs i) (z2 : (spX ++ E)[24 + i]? = some (.inl (5, [(2, cs i)]))) (zw : w < 4) (z4 : (spX ++ E)[cs i]? = some (.inr (yKd w, m))) (z5 : νm.1 1 i = nI w) (Y : ySl (cs i) (yKd w) m i ν νm) (Ft : ∀ j, j < m → zFits w (ν.1 (cs i) j))
    (k : ∀ c, c ≠ cs i → ν.1 c = μ.1 c ∧ ν.2 c = μ.2 c) (kt : ∀ c j, (c = 0 → j ≠ 0) → νm.1 c j = μm.1 c j) (k3 : ∀ j, j < 60 * i ∨ 60 * i + 60 ≤ j → νm.2 3 j = μm.2 3 j) : zRel ca aE n (spX ++ E) ν νm := by
  obtain ⟨O, G, Wf, F1, M⟩ := F
  have k0 : ∀ c, c < 28 → ν.1 c = μ.1 c := fun c hc => (k c (by omega)).1
  obtain ⟨X1, X2⟩ := X
  refine ⟨E, cs, φ, rfl, Sh.less, ⟨O, G, Wf, yKC2.fam F1 (fun c h1 h2 => k0 c (by omega)), yFM_of M fun c h1 h2 j => kt c j (by omega)⟩, ?_, ySn_of Q fun c j hc => kt c j (by omega), ⟨fun i2 hi2 => ?_, X2⟩, I.grow (by decide : 0 < 28) (by decide) (zHold.rfl' _) (fun i2 _ => .inl rfl) (by rw [k0 23 (by omega)]) (fun c h1 h2 h3 => (k c (fun e => h3 i hi e.symm)).1) (fun c j h1 h2 _ _ _ _ _ _ => kt c j (by omega))⟩
  · obtain ⟨⟨t, n6, t1, t2, t3, t4⟩, h1, h2⟩ := T
    exact ⟨⟨t, n6, by rw [k0 0 (by omega)]; exact t1, by rw [kt 0 6 (by omega)]; exact t2, fun j hj => by rw [k0 8 (by omega), kt 5 j (by omega)]; exact t3 j hj, fun j hj => by rw [k0 8 (by omega)]; exact t4 j hj⟩, by rw [k0 0 (by omega), kt 0 14 (by omega)]; exact h1, by rw [k0 0 (by omega), kt 0 15 (by omega)]; exact h2⟩
  · by_cases q : i2 = i
    · rw [q]
      exact .inr ⟨z1, z2, w, m, zw, z4, z5, Y, Ft⟩
    · exact (X1 i2 hi2).grow (fun h => by omega) (by omega) (zHold.rfl' _) (fun h1 h2 => k _ (X2 i2 i hi2 hi q (by omega))) (kt 1 i2 (by omega)) (kt 2 i2 (by omega)) (fun j hj => k3 _ (by omega))
theorem zPut_fit {w : Nat} {μ : wMem} {c j : Nat} {x : Int64} {k : Nat} (h : zFits w (μ.1 c k)) : zFits w ((wPut μ c (yKd w) j x).1 c k) := by
  by_cases q : k = j
  · subst q
    constructor
    · intro e
      subst e
      unfold wPut
      rw [show yKd 0 = 2 from rfl, if_neg (by decide), if_pos rfl, yS_get, if_pos ⟨rfl, rfl⟩]
      exact zFit_b _
    · intro e
      subst e
      unfold wPut
      rw [show yKd 1 = 4 from rfl, if_neg (by decide), if_neg (by decide), if_pos rfl, yS_get, if_pos ⟨rfl, rfl⟩]
      exact zFit_s _
  · rw [wPut_1 μ c (yKd w) j x (.inr q)]
    exact h
theorem zc_57 {aE : Nat} {ad adK adV : Nat → Nat} {fo : Option Nat} {l : Launch} {D : va_G} {ca : wCA} (a1 a2 a3 a4 a5 : Int32) {E : List wCell} {μ μm : wMem} {n : Nat} (W : yBnd) (hl : l.stackTraces = false) (R : zRel ca aE (n + 1) (spX ++ E) μ μm) : ∃ sp1 μ1 μm1, zRel ca aE n sp1 μ1 μm1 ∧ wO_57 (wZa aE ad adK adV fo) l D ca a1 a2 a3 a4 a5 (spX ++ E) μ μm sp1 μ1 μm1 := by
  obtain ⟨_, cs, φ, _, Sh, ⟨O, G, Wf, F, M⟩, T, Q, X, I⟩ := id R
  by_cases g : yIs a1 4
  · obtain ⟨i, hi, rfl⟩ := zIs (by decide) g
    have oki : ok_in (nI i) 4 = true := xI_in hi (by decide)
    have ci : (nI i).toNatClampNeg = i := xI_cl (by omega)
    rcases X.1 i hi with ⟨z1, ⟨x0, z2⟩, z3⟩ | ⟨z1, z2, w, m, zw, z4, z5, Y, z6⟩
    · obtain ⟨v, μ1, μm1, h1, h2, h3, h4⟩ := yqn_write (μ := μ) hi z3 a2 (wLw a3 a4) zN
      exact ⟨_, μ1, μm1, R.same (zFm2.th ⟨O, G, Wf, F, M⟩ h3 (fun c i h => (h4 c i (by omega) (by omega) (by omega)).1)) h3.z h4.z (ySn_km Q h4), won_57 hl Sh.2.2.2.2 zN oki (by rw [ci]; exact z2) h1 zN h2⟩
    · have hr : wRow (spX ++ E) (cs i) (yKd w) m := ⟨z4, yKd_row w⟩
      have m60 := Y.2.2.1
      by_cases q : yIs a2 m
      · obtain ⟨j, hj, rfl⟩ := zIs (by omega) q
        obtain ⟨h1, h2, h3⟩ := yq_write zw Y z5 hj (wLw a3 a4) zN
        refine ⟨_, _, _, zRel.put (ν := wPut μ (cs i) (yKd w) j (wLw a3 a4)) (νm := wSL (wSI μm 0 0 0) 3 (60 * i + j) (yCt w (wLw a3 a4))) Sh ⟨O, G, Wf, F, M⟩ T Q X I hi z1 z2 zw z4 ?_ h3 (fun k hk => zPut_fit (z6 k hk)) (fun c hc => ⟨funext fun k => wPut_1 _ _ _ _ _ (.inl hc), funext fun k => wPut_2 _ _ _ _ _ (.inl hc)⟩) (fun c k hc => ?_) (fun k hk => ?_), wo_57 Sh.2.2.2.2 zN (cs i) (yKd w) m oki (by rw [ci]; exact z2) hr h1 zN h2⟩
        · show (wSI μm 0 0 0).1 1 i = _
          rw [yS_get, if_neg (by omega)]; exact z5
        · show (wSI μm 0 0 0).1 c k = _
          rw [yS_get, if_neg (fun z => hc z.1 z.2)]
        · rw [yL_get, if_neg (by omega)]
          rfl
      · obtain ⟨v, μ1, μm1, h1, h2, h3, h4⟩ := yqo_write (μ := μ) Y q (wLw a3 a4) zN
        exact ⟨_, μ1, μm1, R.same (zFm2.th ⟨O, G, Wf, F, M⟩ h3 (fun c i h => (h4 c i (by omega) (by omega) (by omega)).1)) h3.z h4.z (ySn_km Q h4), woo_57 hl Sh.2.2.2.2 zN (cs i) (yKd w) m oki (by rw [ci]; exact z2) hr (by omega) h1 zN h2⟩
  · obtain ⟨v, μ1, μm1, h1, h2, h3, h4⟩ := yqb_write (μ := μ) (μm := μm) g a2 (wLw a3 a4) zN
    exact ⟨_, μ1, μm1, R.same (zFm2.th ⟨O, G, Wf, F, M⟩ h3 (fun c i h => (h4 c i (by omega) (by omega) (by omega)).1)) h3.z h4.z (ySn_km Q h4), wob_57 zN h1 zN h2⟩
