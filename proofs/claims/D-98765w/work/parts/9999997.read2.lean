set_option maxRecDepth 100000
/-! part 9999997: the first line, all lines -/
theorem zFa_num {φ ψ : Nat → Nat → Nat} {f x : Nat} {μ μm ν νm : wMem} (A : zFa φ f x μ μm) (hx : x = f + 1) (hψ : ∀ c i, ¬ (c = 0 ∧ (i = 0 ∨ i = 1 ∨ i = 7)) → ψ c i = φ c i) (Oψ : yOk ψ)
    (k : ∀ c i, c = f ∨ (x ≤ c ∧ c ≤ x + 5) → (c = f → i ≠ 0 ∧ i ≠ 1 ∧ i ≠ 7) → ν.1 c i = μ.1 c i) (k0 : ν.1 f 0 = nI (ψ 0 0)) (k1 : ν.1 f 1 = nI (ψ 0 1)) (k7 : ν.1 f 7 = nI (ψ 0 7))
    (l : ∀ c i, 6 ≤ c ∧ c ≤ 11 → (c = 6 → i ≠ 4) → (c = 7 → i ≠ 28 ∧ i ≠ 29) → νm.1 c i = μm.1 c i) (l0 : νm.1 7 28 = nI (ψ 0 0)) (l1 : νm.1 6 4 = nI (ψ 0 1)) (l7 : νm.1 7 29 = nI (ψ 0 7)) : zFa ψ f x ν νm := by
  obtain ⟨F, ⟨⟨a0, a1, a2, a3, a4, a5, a6, a7⟩, b1, b2, b3, b4⟩, O, h6⟩ := A
  have r : ∀ i, i ≠ 0 ∧ i ≠ 1 ∧ i ≠ 7 → ψ 0 i = φ 0 i := fun i hi => hψ 0 i (by omega)
  have q : ∀ c i, c ≠ 0 → ψ c i = φ c i := fun c i hc => hψ c i (by omega)
  refine ⟨⟨fun i hi => ?_, fun i hi => ?_, fun i hi => ?_, fun i hi => ?_, fun i hi => ?_, fun i hi => ?_, fun i hi => ?_⟩, ⟨⟨l0, l1, ?_, ?_, ?_, ?_, ?_, l7⟩, fun i hi => ?_, fun i hi => ?_, fun i hi => ?_, fun i hi => ?_⟩, Oψ, by rw [r 6 (by decide)]; exact h6⟩
  · by_cases g0 : i = 0
    · rw [g0]; exact k0
    · by_cases g1 : i = 1
      · rw [g1]; exact k1
      · by_cases g7 : i = 7
        · rw [g7]; exact k7
        · rw [k f i (.inl rfl) (fun _ => ⟨g0, g1, g7⟩), r i ⟨g0, g1, g7⟩]; exact F.1 i hi
  · rw [r 2 (by decide)] at hi
    rw [k _ i (by omega) (by omega), q _ _ (by decide)]; exact F.2.1 i hi
  · rw [r 2 (by decide)] at hi
    rw [k _ i (by omega) (by omega), q _ _ (by decide)]; exact F.2.2.1 i hi
  · rw [r 3 (by decide)] at hi
    rw [k _ i (by omega) (by omega), q _ _ (by decide)]; exact F.2.2.2.1 i hi
  · rw [r 3 (by decide)] at hi
    rw [k _ i (by omega) (by omega), q _ _ (by decide)]; exact F.2.2.2.2.1 i hi
  · rw [r 3 (by decide)] at hi
    rw [k _ i (by omega) (by omega), q _ _ (by decide)]; exact F.2.2.2.2.2.1 i hi
  · rw [r 6 (by decide), h6] at hi
    exact absurd hi (Nat.not_lt_zero i)
  · rw [l _ _ (by decide) (by omega) (by omega), r 2 (by decide)]; exact a2
  · rw [l _ _ (by decide) (by omega) (by omega), r 3 (by decide)]; exact a3
  · rw [l _ _ (by decide) (by omega) (by omega), r 4 (by decide)]; exact a4
  · rw [l _ _ (by decide) (by omega) (by omega), r 5 (by decide)]; exact a5
  · rw [l _ _ (by decide) (by omega) (by omega), r 6 (by decide)]; exact a6
  · rw [r 2 (by decide)] at hi
    rw [l _ _ (by decide) (by omega) (by omega), q _ _ (by decide)]; exact b1 i hi
  · rw [r 2 (by decide)] at hi
    rw [l _ _ (by decide) (by omega) (by omega), q _ _ (by decide)]; exact b2 i hi
  · rw [r 3 (by decide)] at hi
    rw [l _ _ (by decide) (by omega) (by omega), l _ _ (by decide) (by omega) (by omega), l _ _ (by decide) (by omega) (by omega), q _ _ (by decide), q _ _ (by decide), q _ _ (by decide)]; exact b3 i hi
  · rw [r 6 (by decide), h6] at hi
    exact absurd hi (Nat.not_lt_zero i)
theorem zOk_num {φ ψ : Nat → Nat → Nat} (O : yOk φ) (hψ : ∀ c i, ¬ (c = 0 ∧ (i = 0 ∨ i = 1 ∨ i = 7)) → ψ c i = φ c i) (h0 : ψ 0 0 ≤ 9) (h1 : ψ 0 1 < 1000) (h7 : ψ 0 7 ≤ 1) : yOk ψ := by
  have r : ∀ i, i ≠ 0 ∧ i ≠ 1 ∧ i ≠ 7 → ψ 0 i = φ 0 i := fun i hi => hψ 0 i (by omega)
  have q : ∀ c i, c ≠ 0 → ψ c i = φ c i := fun c i hc => hψ c i (by omega)
  refine ⟨h0, h1, by rw [r 2 (by decide)]; exact O.persons, by rw [r 3 (by decide)]; exact O.posts, by rw [r 4 (by decide)]; exact O.children, by rw [r 5 (by decide)]; exact O.stay, by rw [r 6 (by decide)]; exact O.acts, h7, ?_, ?_, ?_, ?_, ?_⟩
  · intro i hi
    rw [r 2 (by decide)] at hi
    rw [q _ _ (by decide)]; exact O.like i hi
  · intro i hi
    rw [r 2 (by decide)] at hi
    rw [q _ _ (by decide)]; exact O.nose i hi
  · intro i hi
    rw [r 3 (by decide)] at hi
    rw [q _ _ (by decide)]; exact O.strict i hi
  · intro i hi
    rw [r 3 (by decide)] at hi
    rw [q _ _ (by decide)]; exact O.keen i hi
  · intro i hi
    rw [r 3 (by decide)] at hi
    rw [q _ _ (by decide)]; exact O.looks i hi
def zFst (φ : Nat → Nat → Nat) (v w : Nat) : Nat → Nat → Nat := fun c i => if c = 0 ∧ i = 0 then v else if c = 0 ∧ i = 7 then w else φ c i
theorem zFst_o (φ : Nat → Nat → Nat) (v w : Nat) {c i : Nat} (h : ¬ (c = 0 ∧ (i = 0 ∨ i = 7))) : zFst φ v w c i = φ c i := by
  unfold zFst
  rw [if_neg (by omega), if_neg (by omega)]
def zFirstM (N : Nat) (J92 : wMem → Option (Int32 × wMem)) (μ7 : wMem) : Option (Int32 × wMem) :=
  wBindV (fX6_asks N 86887672 μ7) fun μ27 => wBind (fX6_number N 247164 1 9 μ27) fun v30 μ29 => wBindV (fX6_tells N 0 v30 μ29) fun μ32 => wLet (fun (v34 : Int32) (v35 : Int32) (μ33 : wMem) => wBindV (fX6_tells N v35 v34 μ33) fun μ37 => J92 μ37) fun Jfamily82 => wLet (fun (v39 : Int32) (μ38 : wMem) => Jfamily82 0 v39 μ38) fun Jfamily81 => if (μ32.1 0 12) = 0 then wBind (fX6_takes N 1384719953 μ32) fun v43 μ42 => if v43 = 0 then Jfamily81 1 μ42 else Jfamily82 1 1 μ42 else Jfamily81 1 μ32
def zOutK (b : Nat → Int32) (n r f x m : Nat) (μ μm : wMem) (o : wRes Unit) (om : (wMem → Option (Int32 × wMem)) → Option (Int32 × wMem)) (P : (Nat → Nat → Nat) → Prop) : Prop :=
  (∃ t1 μ1 μm1 p1 fr1 ψ, o = some (.inl ((), t1, μ1)) ∧ (∀ J, om J = J μm1) ∧ zSy b n r μ1 μm1 t1 p1 fr1 ∧ μm1.1 0 12 = 0 ∧ zFa ψ f x μ1 μm1 ∧ P ψ ∧ zKr r f x μ μ1 ∧ zKm μm μm1 ∧ zM n t1 p1 < m) ∨
  (∃ k t1 μ1 μm1 fr1, o = some (.inr (nI k, t1, μ1)) ∧ μ1.1 r 3 = nI fr1 ∧ (∀ J, om J = J μm1) ∧ zBad k fr1 μm1 ∧ zKr r f x μ μ1 ∧ zKm μm μm1) ∨
  (∃ t1 μ1 μm1 fr1, o = some (.inr (nI 1, t1, μ1)) ∧ t1 < 5 ∧ t1 ≠ 3 ∧ μ1.1 r 3 = nI fr1 ∧ (∀ J, om J = J μm1) ∧ μm1.1 0 12 = 0 ∧ μm1.1 0 8 = nI t1 ∧ μm1.1 0 9 = nI fr1 ∧ zKr r f x μ μ1 ∧ zKm μm μm1)
theorem zOut3.K {b : Nat → Int32} {n r f x m : Nat} {μ μm : wMem} {o : wRes Unit} {om : Option wMem} {P Q : (Nat → Nat → Nat) → Prop} (h : zOut3 b n r f x m μ μm o om P) (hp : ∀ ψ, P ψ → Q ψ) : zOutK b n r f x m μ μm o (fun J => wBindV om fun μ25 => J μ25) Q := by
  rcases h with (⟨a1, a2, a3, a4, a5, a6, b1, b2, b3, b4, b5, b6, b7, b8, b9⟩ | ⟨a1, a2, a3, a4, a5, b1, b2, b3, b4, b5, b6⟩) | ⟨a1, a2, a3, a4, b1, b2, b3, b4, b5, b6, b7, b8, b9, b10⟩
  · exact .inl ⟨a1, a2, a3, a4, a5, a6, b1, fun J => by rw [b2]; rfl, b3, b4, b5, hp _ b6, b7, b8, b9⟩
  · exact .inr (.inl ⟨a1, a2, a3, a4, a5, b1, b2, fun J => by rw [b3]; rfl, b4, b5, b6⟩)
  · exact .inr (.inr ⟨a1, a2, a3, a4, b1, b2, b3, b4, fun J => by rw [b5]; rfl, b6, b7, b8, b9, b10⟩)
def zStart (φ ψ : Nat → Nat → Nat) : Prop := ψ 0 1 = φ 0 1 ∧ 0 < ψ 0 0 ∧ ψ 0 2 = φ 0 2 ∧ ψ 0 3 = φ 0 3
theorem z_first {b : Nat → Int32} {n r f x t p fr : Nat} {μ μm : wMem} (hr : 21 < r) (hf : r < f) (hx : x = f + 1) (S : zSy b n r μ μm t p fr) (h12 : μm.1 0 12 = 0) {φ : Nat → Nat → Nat} (A : zFa φ f x μ μm) (h1 : φ 0 1 = 0) {N : Nat} (hN : 2000 ≤ N) :
    zOutK b n r f x (zM n t p) μ μm (wLine wLen wByt N r f x t μ) (fun J => zFirstM N J μm) (zStart φ) := by
  have O := A.2.2.1
  have f1 : μ.1 f 1 = 0 := by
    have := A.1.1 1 (by decide)
    rw [h1] at this
    exact this
  have e0 : ∀ (v : Int32) (σ : wMem), fX6_tells N 0 v σ = some (wSI σ 7 28 v) := fun v σ => zm_tells (j := 0) (by decide) v N σ
  have e1 : ∀ (v : Int32) (σ : wMem), fX6_tells N 1 v σ = some (wSI σ 7 29 v) := fun v σ => zm_tells (j := 1) (by decide) v N σ
  -- the rest of the twin once it failed
  have bad : ∀ (kk fr3 : Nat) (ν : wMem) (v : Int32), zBad kk fr3 ν → ∃ ρ, (∀ J : wMem → Option (Int32 × wMem), (wBindV (fX6_tells N 0 v ν) fun μ32 => wLet (fun (v34 : Int32) (v35 : Int32) (μ33 : wMem) => wBindV (fX6_tells N v35 v34 μ33) fun μ37 => J μ37) fun Jfamily82 => wLet (fun (v39 : Int32) (μ38 : wMem) => Jfamily82 0 v39 μ38) fun Jfamily81 => if (μ32.1 0 12) = 0 then wBind (fX6_takes N 1384719953 μ32) fun v43 μ42 => if v43 = 0 then Jfamily81 1 μ42 else Jfamily82 1 1 μ42 else Jfamily81 1 μ32) = J ρ) ∧ zBad kk fr3 ρ ∧ zKm ν ρ := fun kk fr3 ν v B => by
    have B1 : zBad kk fr3 (wSI ν 7 28 v) := B.w (zS_row _ (by decide) _ _)
    refine ⟨wSI (wSI ν 7 28 v) 7 29 0, fun J => ?_, B1.w (zS_row _ (by decide) _ _), (zKm_w ν (by omega) v).trans (zKm_w _ (by omega) _)⟩
    rw [e0, yBV, yWL, yWL, if_neg B1.ne]
    dsimp only
    rw [e1, yBV]
  unfold wLine zFirstM
  rw [if_pos f1]
  rcases z_needs S h12 (w := 0) (by decide) hN with ⟨t1, μ1, μm1, p1, fr1, j1, j2, j3, j4, j5, j6, j7⟩ | ⟨μm1, j1, j2, j3, j4⟩
  · have j2' : fX6_asks N 86887672 μm = some μm1 := j2
    rw [j1, zRl]
    rcases z_told j3 j4 (w := 1) (by decide) hN (lo := 1) (hi := 9) (by decide) (by decide) with ⟨v, t2, μ2, μm2, p2, fr2, l1, l2, i1, i2, i3, i4, i5, i6, i7⟩ | ⟨kk, t2, μ2, μm2, fr2, i1, i2, i3, i4, i5, i6⟩
    · have i1' : wTold wLen wByt N r t1 1 1 9 μ1 = some (.inl (nI v, t2, μ2)) := i1
      have i2' : fX6_number N 247164 1 9 μm1 = some (nI v, μm2) := i2
      rw [i1', zRl]
      have S2 := i3.w (ν := wSI μ2 f 0 (nI v)) (νm := wSI μm2 7 28 (nI v)) (zS_row _ (by omega) _ _) (zS_row _ (by omega) _ _) (zS_row _ (by decide) _ _) (zS_row _ (by decide) _ _) rfl
      have q2 : (wSI μm2 7 28 (nI v)).1 0 12 = 0 := by rw [zS_row _ (by decide)]; exact i4
      have A2 := zFa_fr A hf (by omega) (j5.trans i5) (j6.b.trans i6.b)
      have fin : ∀ (t3 : Nat) (μ3 μm3 : wMem) (p3 fr3 w : Nat), w ≤ 1 → zSy b n r μ3 μm3 t3 p3 fr3 → μm3.1 0 12 = 0 → yFr r (wSI μ2 f 0 (nI v)) μ3 → zFb (wSI μm2 7 28 (nI v)) μm3 → zM n t3 p3 ≤ zM n t2 p2 → zSy b n r (wSI μ3 f 7 (nI w)) (wSI μm3 7 29 (nI w)) t3 p3 fr3 ∧ (wSI μm3 7 29 (nI w)).1 0 12 = 0 ∧ zFa (zFst φ v w) f x (wSI μ3 f 7 (nI w)) (wSI μm3 7 29 (nI w)) ∧ zKr r f x μ (wSI μ3 f 7 (nI w)) ∧ zKm μm (wSI μm3 7 29 (nI w)) := fun t3 μ3 μm3 p3 fr3 w hw S3 q3 F3 G3 hm => by
        have O' : yOk (zFst φ v w) := zOk_num O (fun c i h => zFst_o φ v w (by omega)) (by unfold zFst; rw [if_pos ⟨rfl, rfl⟩]; exact l2) (by rw [zFst_o _ _ _ (by decide)]; exact O.lines) (by unfold zFst; rw [if_neg (by decide), if_pos ⟨rfl, rfl⟩]; exact hw)
        refine ⟨S3.w (zS_row _ (by omega) _ _) (zS_row _ (by omega) _ _) (zS_row _ (by decide) _ _) (zS_row _ (by decide) _ _) rfl, by rw [zS_row _ (by decide)]; exact q3, ?_, ?_, ?_⟩
        · refine zFa_num A2 hx (fun c i h => zFst_o φ v w (by omega)) O' (fun c i h h2 => ?_) ?_ ?_ ?_ (fun c i h h2 h3 => ?_) ?_ ?_ ?_
          · rw [yS_get, if_neg (by omega), F3.1 c i (by omega), yS_get, if_neg (by omega)]
          · rw [yS_get, if_neg (by omega), F3.1 f 0 (by omega), yS_get, if_pos ⟨rfl, rfl⟩]
            unfold zFst
            rw [if_pos ⟨rfl, rfl⟩]
          · rw [yS_get, if_neg (by omega), F3.1 f 1 (by omega), yS_get, if_neg (by omega), zFst_o _ _ _ (by decide)]
            exact A2.1.1 1 (by decide)
          · rw [yS_get, if_pos ⟨rfl, rfl⟩]
            unfold zFst
            rw [if_neg (by decide), if_pos ⟨rfl, rfl⟩]
          · rw [yS_get, if_neg (by omega), G3.1 c i (by omega), yS_get, if_neg (by omega)]
          · rw [yS_get, if_neg (by omega), G3.1 7 28 (by omega), yS_get, if_pos ⟨rfl, rfl⟩]
            unfold zFst
            rw [if_pos ⟨rfl, rfl⟩]
          · rw [yS_get, if_neg (by omega), G3.1 6 4 (by omega), yS_get, if_neg (by omega), zFst_o _ _ _ (by decide)]
            exact A2.2.1.1.2.1
          · rw [yS_get, if_pos ⟨rfl, rfl⟩]
            unfold zFst
            rw [if_neg (by decide), if_pos ⟨rfl, rfl⟩]
        · exact (((j5.trans i5).k.trans (zKr_w μ2 (.inl rfl) 0 _)).trans F3.k).trans (zKr_w μ3 (.inl rfl) 7 _)
        · exact (((j6.b.trans i6.b).k.trans (zKm_w μm2 (by omega) _)).trans G3.k).trans (zKm_w μm3 (by omega) _)
      have st : ∀ w, zStart φ (zFst φ v w) := fun w => ⟨zFst_o _ _ _ (by decide), by unfold zFst; rw [if_pos ⟨rfl, rfl⟩]; omega, zFst_o _ _ _ (by decide), zFst_o _ _ _ (by decide)⟩
      left
      rcases z_takes S2 q2 (w := 2) (by decide) hN with ⟨_, u2, _, u4⟩ | ⟨t3, μ3, μm3, p3, fr3, _, u2, _, u4, _, u6, u7, u8, u9, u10, _⟩
      · have u4' : fX6_takes N 1384719953 (wSI μm2 7 28 (nI v)) = some (0, wSI μm2 7 28 (nI v)) := u4
        obtain ⟨d1, d2, d3, d4, d5⟩ := fin t2 _ _ p2 fr2 0 (by decide) S2 q2 (yFr.rfl' _ _) (zFb.rfl' _) (Nat.le_refl _)
        refine ⟨t2, _, _, p2, fr2, _, ?_, fun J => ?_, d1, d2, d3, st 0, d4, d5, Nat.lt_trans i7 j7⟩
        · rw [u2]
          rfl
        · dsimp only
          rw [j2', yBV, i2', yBd, e0, yBV, yWL, yWL, if_pos q2, u4', yBd, if_pos rfl]
          dsimp only
          rw [e1, yBV]
          rfl
      · have u4' : fX6_takes N 1384719953 (wSI μm2 7 28 (nI v)) = some (1, μm3) := u4
        obtain ⟨d1, d2, d3, d4, d5⟩ := fin t3 _ _ p3 fr3 1 (by decide) u6 u7 u8 u9.b (Nat.le_of_lt u10)
        refine ⟨t3, _, _, p3, fr3, _, ?_, fun J => ?_, d1, d2, d3, st 1, d4, d5, Nat.lt_trans u10 (Nat.lt_trans i7 j7)⟩
        · rw [u2]
          rfl
        · dsimp only
          rw [j2', yBV, i2', yBd, e0, yBV, yWL, yWL, if_pos q2, u4', yBd, if_neg (by decide)]
          dsimp only
          rw [e1, yBV]
          rfl
    · have i1' : wTold wLen wByt N r t1 1 1 9 μ1 = some (.inr (nI kk, t2, μ2)) := i1
      have i3' : fX6_number N 247164 1 9 μm1 = some (nI 1, μm2) := i3
      obtain ⟨ρ, a1, a2, a3⟩ := bad kk fr2 μm2 (nI 1) i4
      refine .inr (.inl ⟨kk, t2, μ2, ρ, fr2, ?_, i2, fun J => ?_, a2, (j5.trans i5).k, (j6.b.k.trans i6.k).trans a3⟩)
      · rw [i1', zRr]
      · dsimp only
        rw [j2', yBV, i3', yBd]
        exact a1 J
  · have j2' : fX6_asks N 86887672 μm = some μm1 := j2
    obtain ⟨ρ, a1, a2, a3⟩ := bad 1 fr μm1 1 j3
    refine .inr (.inl ⟨1, t, μ, ρ, fr, ?_, S.2.2.2.2.2.2.2.1, fun J => ?_, a2, zKr.rfl' r f x μ, j4.k.trans a3⟩)
    · rw [j1, zRr]
    · dsimp only
      rw [j2', yBV, zm_number_no j3.ne, yBd]
      exact a1 J
