set_option maxRecDepth 100000
/-! part 9999998: all lines -/
def zWf (φ : Nat → Nat → Nat) : Prop := (φ 0 1 ≠ 0 → 0 < φ 0 0) ∧ (0 < φ 0 2 → φ 0 1 ≠ 0) ∧ (0 < φ 0 3 → φ 0 1 ≠ 0)
def zLn (φ : Nat → Nat → Nat) : Nat → Nat → Nat := fun c i => if c = 0 ∧ i = 1 then φ 0 1 + 1 else φ c i
theorem zLn_o (φ : Nat → Nat → Nat) {c i : Nat} (h : ¬ (c = 0 ∧ i = 1)) : zLn φ c i = φ c i := by
  unfold zLn
  rw [if_neg h]
theorem zLn_1 (φ : Nat → Nat → Nat) : zLn φ 0 1 = φ 0 1 + 1 := by
  unfold zLn
  rw [if_pos ⟨rfl, rfl⟩]
def zEndM (N : Nat) (rec : wMem → Option (Int32 × wMem)) (μ12 : wMem) : Option (Int32 × wMem) :=
  wBind (fX6_isGood N μ12) fun v15 μ14 => wLet (fun (μ16 : wMem) => wG (ok_in (4 : Int32) 5) (wG (ok_in (4 : Int32) 5) (wLet (wSI μ16 6 (Int32.toNatClampNeg (4 : Int32)) ((μ16.1 6 (Int32.toNatClampNeg (4 : Int32))) + (1 : Int32))) fun μ19 => rec μ19))) fun Jfamily103 => if v15 = 0 then Jfamily103 μ14 else wBindV (fX6_ends N μ14) fun μ22 => Jfamily103 μ22
theorem zEnd_j (rec : wMem → Option (Int32 × wMem)) (μ : wMem) : wG (ok_in (4 : Int32) 5) (wG (ok_in (4 : Int32) 5) (wLet (wSI μ 6 (Int32.toNatClampNeg (4 : Int32)) ((μ.1 6 (Int32.toNatClampNeg (4 : Int32))) + (1 : Int32))) fun μ19 => rec μ19)) = rec (wSI μ 6 4 (μ.1 6 4 + (1 : Int32))) := by
  have e : ok_in (4 : Int32) 5 = true := by decide
  have c : Int32.toNatClampNeg (4 : Int32) = 4 := by decide
  rw [yG e, yG e, c]
  rfl
theorem zEnd_bad {μ : wMem} (h : ¬ μ.1 0 12 = 0) (N : Nat) (rec : wMem → Option (Int32 × wMem)) : zEndM N rec μ = rec (wSI μ 6 4 (μ.1 6 4 + (1 : Int32))) := by
  unfold zEndM
  rw [zm_good_no h, yBd, yWL, if_pos rfl]
  exact zEnd_j rec μ
theorem zEnd_no {μ : wMem} (h12 : μ.1 0 12 = 0) {t fr : Nat} (t5 : t < 5) (t3 : t ≠ 3) (c8 : μ.1 0 8 = nI t) (c9 : μ.1 0 9 = nI fr) (N : Nat) : ∃ ν, zBad 1 fr ν ∧ zFb μ ν ∧ ∀ rec : wMem → Option (Int32 × wMem), zEndM N rec μ = rec (wSI ν 6 4 (ν.1 6 4 + (1 : Int32))) := by
  obtain ⟨ν, f1, f2, f3, _⟩ := zm_fails h12 c9 (k := 1) (by decide) N
  have f1' : fX6_fails N 1 μ = some ν := f1
  have e8 : (nI t = (3 : Int32)) = (t = 3) := xI_eq (b := 3) (by omega) (by decide)
  refine ⟨ν, f2, f3, fun rec => ?_⟩
  have en : fX6_ends N μ = some ν := by
    unfold fX6_ends
    rw [yWL, c8, yIf e8, if_neg t3, f1', yBV]
    exact if_neg f2.ne
  unfold zEndM
  rw [zm_good h12, yBd, yWL, if_neg (by decide), en, yBV]
  exact zEnd_j rec ν
theorem zEnd_go {μ μ1 : wMem} (h12 : μ.1 0 12 = 0) (c8 : μ.1 0 8 = nI 3) {N : Nat} (hn : fX6_next N μ = some μ1) (rec : wMem → Option (Int32 × wMem)) : zEndM N rec μ = rec (wSI μ1 6 4 (μ1.1 6 4 + (1 : Int32))) := by
  have en : fX6_ends N μ = some μ1 := by
    unfold fX6_ends
    rw [yWL, c8, if_pos (show nI 3 = (3 : Int32) from rfl)]
    dsimp only
    rw [if_pos h12, hn, yBV]
  unfold zEndM
  rw [zm_good h12, yBd, yWL, if_neg (by decide), en, yBV]
  exact zEnd_j rec μ1
theorem zFam_step (N : Nat) (K rec : wMem → Option (Int32 × wMem)) {μ : wMem} (h12 : μ.1 0 12 = 0) : gbX6_family_13 N K rec μ = if μ.1 0 8 = 0 then K μ else if μ.1 6 4 = 0 then zFirstM N (zEndM N rec) μ else wBindV (fX6_line N μ) fun μ25 => zEndM N rec μ25 := by
  have e : ok_in (4 : Int32) 5 = true := by decide
  have c : Int32.toNatClampNeg (4 : Int32) = 4 := by decide
  unfold gbX6_family_13
  rw [zm_good h12, yBd, if_neg (by decide), yG e, yWL, c]
  rfl
theorem zFam_bad (N : Nat) (K : wMem → Option (Int32 × wMem)) {μ : wMem} (h : ¬ μ.1 0 12 = 0) (M : Nat) : gX6_family_13 N K (M + 1) μ = K μ := by
  show gbX6_family_13 N K _ μ = _
  unfold gbX6_family_13
  rw [zm_good_no h, yBd, if_pos rfl]
def zOutR (r f x : Nat) (μ μm : wMem) (o : wRes Unit) (om : (wMem → Option (Int32 × wMem)) → Option (Int32 × wMem)) : Prop :=
  (∃ t1 μ1 μm1 ψ, o = some (.inl ((), t1, μ1)) ∧ (∀ K, om K = K μm1) ∧ μm1.1 0 12 = 0 ∧ zFa ψ f x μ1 μm1 ∧ zWf ψ ∧ zKr r f x μ μ1 ∧ zKm μm μm1) ∨
  (∃ k t1 μ1 μm1 fr1, o = some (.inr (nI k, t1, μ1)) ∧ μ1.1 r 3 = nI fr1 ∧ (∀ K, om K = K μm1) ∧ zBad k fr1 μm1 ∧ zKr r f x μ μ1 ∧ zKm μm μm1)
theorem zOutR.step {r f x : Nat} {μ μm μ1 μm1 : wMem} {o : wRes Unit} {om : (wMem → Option (Int32 × wMem)) → Option (Int32 × wMem)} (h : zOutR r f x μ1 μm1 o om) (k : zKr r f x μ μ1) (l : zKm μm μm1) : zOutR r f x μ μm o om := by
  rcases h with ⟨a1, a2, a3, a4, b1, b2, b3, b4, b5, b6, b7⟩ | ⟨a1, a2, a3, a4, a5, b1, b2, b3, b4, b5, b6⟩
  · exact .inl ⟨a1, a2, a3, a4, b1, b2, b3, b4, b5, k.trans b6, l.trans b7⟩
  · exact .inr ⟨a1, a2, a3, a4, a5, b1, b2, b3, b4, k.trans b5, l.trans b6⟩
theorem z_read {b : Nat → Int32} {n r f x : Nat} (hr : 21 < r) (hf : r < f) (hx : x = f + 1) {N : Nat} (hN : 2000 ≤ N) : ∀ (m M M2 t p fr : Nat) (φ : Nat → Nat → Nat) (μ μm : wMem), zM n t p ≤ m → m < M → m + 1 < M2 → zSy b n r μ μm t p fr → μm.1 0 12 = 0 → zFa φ f x μ μm → zWf φ → 2 * φ 0 1 + zM n t p ≤ 1201 →
    zOutR r f x μ μm (wRead wLen wByt N r f x M t μ) (fun K => gX6_family_13 N K M2 μm) := by
  intro m
  induction m using Nat.strongRecOn with
  | ind m ih =>
    intro M M2 t p fr φ μ μm hm hM hM2 S h12 A W hl
    obtain ⟨M, rfl⟩ : ∃ q, M = q + 1 := ⟨M - 1, by omega⟩
    obtain ⟨M2, rfl⟩ : ∃ q, M2 = q + 1 := ⟨M2 - 1, by omega⟩
    obtain ⟨M3, rfl⟩ : ∃ q, M2 = q + 1 := ⟨M2 - 1, by omega⟩
    have t5 := S.2.2.2.2.1
    have c8 := S.2.2.2.2.2.2.2.2.2.1
    have e8 : (nI t = (0 : Int32)) = (t = 0) := xI_eq (b := 0) (by omega) (by decide)
    have O := A.2.2.1
    have O1 := O.lines
    have l4 : μm.1 6 4 = nI (φ 0 1) := A.2.1.1.2.1
    have e1 : (nI (φ 0 1) = (0 : Int32)) = (φ 0 1 = 0) := xI_eq (b := 0) (by omega) (by decide)
    by_cases t0 : t = 0
    · left
      refine ⟨t, μ, μm, φ, ?_, fun K => ?_, h12, A, W, zKr.rfl' r f x μ, zKm.rfl' μm⟩
      · unfold wRead
        rw [if_pos t0]
      · show gbX6_family_13 N K _ μm = _
        rw [zFam_step N K _ h12, c8, yIf e8, if_pos t0]
    · -- a line, then its end
      have tm : ∀ K : wMem → Option (Int32 × wMem), gX6_family_13 N K (M3 + 1 + 1) μm = if φ 0 1 = 0 then zFirstM N (zEndM N (gX6_family_13 N K (M3 + 1))) μm else wBindV (fX6_line N μm) fun μ25 => zEndM N (gX6_family_13 N K (M3 + 1)) μ25 := fun K => by
        show gbX6_family_13 N K _ μm = _
        rw [zFam_step N K _ h12, c8, yIf e8, if_neg t0, l4, yIf e1]
      have L : zOutK b n r f x (zM n t p) μ μm (wLine wLen wByt N r f x t μ) (fun J => if φ 0 1 = 0 then zFirstM N J μm else wBindV (fX6_line N μm) fun μ25 => J μ25) (fun ψ => ψ 0 1 = φ 0 1 ∧ 0 < ψ 0 0) := by
        by_cases g : φ 0 1 = 0
        · have z := z_first hr hf hx S h12 A g hN
          have e : (fun J => if φ 0 1 = 0 then zFirstM N J μm else wBindV (fX6_line N μm) fun μ25 => J μ25) = fun J => zFirstM N J μm := funext fun J => if_pos g
          rw [e]
          rcases z with ⟨a1, a2, a3, a4, a5, a6, b1, b2, b3, b4, b5, b6, b7⟩ | z
          · exact .inl ⟨a1, a2, a3, a4, a5, a6, b1, b2, b3, b4, b5, ⟨b6.1, b6.2.1⟩, b7⟩
          · exact .inr z
        · have e : (fun J => if φ 0 1 = 0 then zFirstM N J μm else wBindV (fX6_line N μm) fun μ25 => J μ25) = fun J => wBindV (fX6_line N μm) fun μ25 => J μ25 := funext fun J => if_neg g
          rw [e]
          exact (z_line hr hf hx S h12 A g hN).K fun ψ h => ⟨h.2, by rw [h.1]; exact W.1 g⟩
      have rd : ∀ z, (wRbd (wLine wLen wByt N r f x t μ) fun _ t1 μ1 => if t1 = 3 then (wNext N r μ1).bind fun z => wRead wLen wByt N r f x M z.1 (wSI z.2 f 1 (z.2.1 f 1 + 1)) else some (.inr (1, t1, μ1))) = z → wRead wLen wByt N r f x (M + 1) t μ = z := fun z hz => by
        unfold wRead
        rw [if_neg t0]
        exact hz
      have dead : ∀ (k fr1 : Nat) (ν : wMem) (K : wMem → Option (Int32 × wMem)), zBad k fr1 ν → gX6_family_13 N K (M3 + 1) (wSI ν 6 4 (ν.1 6 4 + (1 : Int32))) = K (wSI ν 6 4 (ν.1 6 4 + (1 : Int32))) ∧ zBad k fr1 (wSI ν 6 4 (ν.1 6 4 + (1 : Int32))) := fun k fr1 ν K B => by
        have B2 : zBad k fr1 (wSI ν 6 4 (ν.1 6 4 + (1 : Int32))) := B.w (zS_row _ (by decide) _ _)
        exact ⟨zFam_bad N K B2.ne M3, B2⟩
      rcases L with ⟨t1, μ1, μm1, p1, fr1, ψ, i1, i2, i3, i4, i5, i6, i7, i8, i9⟩ | ⟨k, t1, μ1, μm1, fr1, i1, i2, i3, i4, i5, i6⟩ | ⟨t1, μ1, μm1, fr1, i1, i2, i3, i4, i5, i6, i7, i8, i9, i10⟩
      · have d8 := i3.2.2.2.2.2.2.2.2.2.1
        by_cases g3 : t1 = 3
        · subst g3
          obtain ⟨t2, μ2, μm2, p2, fr2, j1, j2, j3, j4, j5, j6, j7⟩ := z_next i3.1 i3.2.1 i3.2.2.1 i3.2.2.2.2.2.1 i3.2.2.2.2.2.2.1 (N := N) (by omega)
          have lt := zM_next j6 j3.2.2.1 j7 (by decide : (3 : Nat) ≠ 0)
          have A2 := zFa_fr i5 hf (by omega) j4 j5.b
          have ψ1 : ψ 0 1 = φ 0 1 := i6.1
          have k1 : nI (ψ 0 1) + (1 : Int32) = nI (ψ 0 1 + 1) := nI_add _ 1
          have f1 : μ2.1 f 1 = nI (ψ 0 1) := A2.1.1 1 (by decide)
          have m1 : μm2.1 6 4 = nI (ψ 0 1) := A2.2.1.1.2.1
          have O' : yOk (zLn ψ) := zOk_num A2.2.2.1 (fun c i h => zLn_o ψ (by omega)) (by rw [zLn_o ψ (by decide)]; exact A2.2.2.1.loaf) (by rw [zLn_1]; omega) (by rw [zLn_o ψ (by decide)]; exact A2.2.2.1.compares)
          have A3 : zFa (zLn ψ) f x (wSI μ2 f 1 (nI (ψ 0 1 + 1))) (wSI μm2 6 4 (nI (ψ 0 1 + 1))) := zFa_num A2 hx (fun c i h => zLn_o ψ (by omega)) O' (fun c i h h2 => by rw [yS_get, if_neg (by omega)]) (by rw [yS_get, if_neg (by omega), zLn_o ψ (by decide)]; exact A2.1.1 0 (by decide)) (by rw [yS_get, if_pos ⟨rfl, rfl⟩, zLn_1]) (by rw [yS_get, if_neg (by omega), zLn_o ψ (by decide)]; exact A2.1.1 7 (by decide)) (fun c i h h2 h3 => by rw [yS_get, if_neg (by omega)]) (by rw [yS_get, if_neg (by omega), zLn_o ψ (by decide)]; exact A2.2.1.1.1) (by rw [yS_get, if_pos ⟨rfl, rfl⟩, zLn_1]) (by rw [yS_get, if_neg (by omega), zLn_o ψ (by decide)]; exact A2.2.1.1.2.2.2.2.2.2.2)
          have S3 := j3.w (ν := wSI μ2 f 1 (nI (ψ 0 1 + 1))) (νm := wSI μm2 6 4 (nI (ψ 0 1 + 1))) (zS_row _ (by omega) _ _) (zS_row _ (by omega) _ _) (zS_row _ (by decide) _ _) (zS_row _ (by decide) _ _) rfl
          have q3 : (wSI μm2 6 4 (nI (ψ 0 1 + 1))).1 0 12 = 0 := by rw [zS_row _ (by decide)]; exact j5.bad.trans i4
          have W3 : zWf (zLn ψ) := ⟨fun _ => by rw [zLn_o ψ (by decide)]; exact i6.2, fun _ => by rw [zLn_1]; omega, fun _ => by rw [zLn_1]; omega⟩
          have I := ih (zM n t2 p2) (by omega) M (M3 + 1) t2 p2 fr2 (zLn ψ) _ _ (Nat.le_refl _) (by omega) (by omega) S3 q3 A3 W3 (by rw [zLn_1]; omega)
          have I2 := I.step ((i7.trans j4.k).trans (zKr_w μ2 (.inl rfl) 1 (nI (ψ 0 1 + 1)))) ((i8.trans j5.b.k).trans (zKm_w μm2 (by omega) (nI (ψ 0 1 + 1))))
          have ec : wRead wLen wByt N r f x (M + 1) t μ = wRead wLen wByt N r f x M t2 (wSI μ2 f 1 (nI (ψ 0 1 + 1))) := rd _ (by
            rw [i1, zRl, if_pos rfl, j1]
            show wRead wLen wByt N r f x M t2 (wSI μ2 f 1 (μ2.1 f 1 + 1)) = _
            rw [f1, k1])
          have et : (fun K => gX6_family_13 N K (M3 + 1 + 1) μm) = fun K => gX6_family_13 N K (M3 + 1) (wSI μm2 6 4 (nI (ψ 0 1 + 1))) := funext fun K => by
            rw [tm K]
            refine (i2 (zEndM N (gX6_family_13 N K (M3 + 1)))).trans ?_
            rw [zEnd_go i4 d8 j2, m1, k1]
          rw [ec, et]
          exact I2
        · obtain ⟨ν, v1, v2, v3⟩ := zEnd_no i4 i3.2.2.2.2.1 g3 d8 i3.2.2.2.2.2.2.2.2.1 N
          right
          refine ⟨1, t1, μ1, _, fr1, rd _ (by rw [i1, zRl, if_neg g3]; rfl), i3.2.2.2.2.2.2.2.1, fun K => ?_, (dead 1 fr1 ν (fun _ => none) v1).2, i7, (i8.trans v2.k).trans (zKm_w ν (by omega) _)⟩
          show gX6_family_13 N K (M3 + 1 + 1) μm = _
          rw [tm K]
          refine (i2 (zEndM N (gX6_family_13 N K (M3 + 1)))).trans ?_
          rw [v3, (dead 1 fr1 ν K v1).1]
      · right
        refine ⟨k, t1, μ1, _, fr1, rd _ (by rw [i1, zRr]), i2, fun K => ?_, (dead k fr1 μm1 (fun _ => none) i4).2, i5, i6.trans (zKm_w μm1 (by omega) _)⟩
        show gX6_family_13 N K (M3 + 1 + 1) μm = _
        rw [tm K]
        refine (i3 (zEndM N (gX6_family_13 N K (M3 + 1)))).trans ?_
        rw [zEnd_bad i4.ne, (dead k fr1 μm1 K i4).1]
      · obtain ⟨ν, v1, v2, v3⟩ := zEnd_no i6 i2 i3 i7 i8 N
        right
        refine ⟨1, t1, μ1, _, fr1, rd _ (by rw [i1, zRr]), i4, fun K => ?_, (dead 1 fr1 ν (fun _ => none) v1).2, i9, (i10.trans v2.k).trans (zKm_w ν (by omega) _)⟩
        show gX6_family_13 N K (M3 + 1 + 1) μm = _
        rw [tm K]
        refine (i5 (zEndM N (gX6_family_13 N K (M3 + 1)))).trans ?_
        rw [v3, (dead 1 fr1 ν K v1).1]
