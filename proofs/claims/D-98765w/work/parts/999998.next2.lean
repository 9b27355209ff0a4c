set_option maxRecDepth 100000
/-! part 999998: the next token, both readers -/
def zSy (b : Nat → Int32) (n r : Nat) (μ μm : wMem) (t p fr : Nat) : Prop :=
  yTc b n r μ ∧ zTm b n μm ∧ p ≤ n ∧ fr ≤ p ∧ t < 5 ∧ μ.1 r 2 = nI p ∧ μm.1 0 7 = nI p ∧ μ.1 r 3 = nI fr ∧ μm.1 0 9 = nI fr ∧ μm.1 0 8 = nI t ∧
  (t = 2 → ∃ v w, yVr v w ∧ μ.1 r 4 = nI v ∧ μm.1 0 10 = nI w) ∧
  (t = 1 → μm.2 0 11 = zHw b fr (p - fr) ∧ ∀ i, fr ≤ i → i < p → ¬ (b i < 97 ∨ (122 : Int32) < b i))
theorem z_next {b : Nat → Int32} {n r p : Nat} {μ μm : wMem} (T : yTc b n r μ) (Tm : zTm b n μm) (hp : p ≤ n) (h2 : μ.1 r 2 = nI p) (h7 : μm.1 0 7 = nI p) {N : Nat} (hN : 1000 ≤ N) :
    ∃ t μ1 μm1 p1 fr1, wNext N r μ = some (t, μ1) ∧ fX6_next N μm = some μm1 ∧ zSy b n r μ1 μm1 t p1 fr1 ∧ yFr r μ μ1 ∧ zFm μm μm1 ∧ p ≤ p1 ∧ (t ≠ 0 → p < p1) := by
  have n6 := T.2.1
  obtain ⟨ν, s1, s2, s3⟩ := yr_skip (b := b) (n := n) (n - p) p N μ (by omega) (by omega) T h2
  obtain ⟨ρ, u1, u2, u3⟩ := zm_skip (b := b) (n := n) N (n - p) p N μm (by omega) (by omega) Tm h7
  have hq := ySk_le b (n - p) p
  generalize ySk b (n - p) p = q at s2 u2 hq
  have q1 : p ≤ q := hq.1
  have q2 : q ≤ n := by omega
  have T1 := T.of s3
  have M1 := Tm.of u3
  -- the component, at q
  have k3 : (wSI ν r 3 (nI q)).1 r 3 = nI q := by rw [yS_get, if_pos ⟨rfl, rfl⟩]
  have k2 : (wSI ν r 3 (nI q)).1 r 2 = nI q := by rw [yS_get, if_neg (by omega)]; exact s2
  have F2 : yFr r μ (wSI ν r 3 (nI q)) := s3.trans (yFr.put ν (by omega) _)
  have T2 := T.of F2
  have ec : ∀ z, wNext N r μ = z ↔ (if nI q = nI n then some (0, wSI ν r 3 (nI q)) else if wNxOk (wSI ν r 3 (nI q)) r = true then (if wNx (wSI ν r 3 (nI q)) r 97 122 = 0 then (if wNx (wSI ν r 3 (nI q)) r 48 57 = 0 then (if ok_in (nI q) 600 = true then some (if wBy (wSI ν r 3 (nI q)) r = 59 then 3 else 4, wInc (wSI ν r 3 (nI q)) r) else none) else wBindV (wNum N r (wSI (wSI ν r 3 (nI q)) r 4 0)) fun μ3 => some (2, μ3)) else wBindV (wRun 97 122 N r (wSI ν r 3 (nI q))) fun μ3 => some (1, μ3)) else none) = z := fun z => by
    unfold wNext
    rw [s1, yBV, yWL, s2, k2, T2.2.2.1]
  -- the twin, at q
  have l9 : (wSL (wSI (wSI ρ 0 9 (nI q)) 0 10 (0 : Int32)) 0 11 (0 : Int64)).1 0 9 = nI q := by
    show (wSI (wSI ρ 0 9 (nI q)) 0 10 (0 : Int32)).1 0 9 = _
    rw [yS_get, if_neg (by omega), yS_get, if_pos ⟨rfl, rfl⟩]
  have l7 : (wSL (wSI (wSI ρ 0 9 (nI q)) 0 10 (0 : Int32)) 0 11 (0 : Int64)).1 0 7 = nI q := by
    show (wSI (wSI ρ 0 9 (nI q)) 0 10 (0 : Int32)).1 0 7 = _
    rw [yS_get, if_neg (by omega), yS_get, if_neg (by omega), u2]
  have l10 : (wSL (wSI (wSI ρ 0 9 (nI q)) 0 10 (0 : Int32)) 0 11 (0 : Int64)).1 0 10 = nI 0 := by
    show (wSI (wSI ρ 0 9 (nI q)) 0 10 (0 : Int32)).1 0 10 = _
    rw [yS_get, if_pos ⟨rfl, rfl⟩]
    rfl
  have l11 : (wSL (wSI (wSI ρ 0 9 (nI q)) 0 10 (0 : Int32)) 0 11 (0 : Int64)).2 0 11 = 0 := by rw [yL_get, if_pos ⟨rfl, rfl⟩]
  have G2 : zFm μm (wSL (wSI (wSI ρ 0 9 (nI q)) 0 10 (0 : Int32)) 0 11 (0 : Int64)) := u3.trans ((zFm.put ρ (by omega) _).trans ((zFm.put _ (by omega) _).trans (zFm.putL _ _)))
  have M2 := Tm.of G2
  have em : fX6_next N μm = (fun μ14 : wMem => if (μ14.1 0 7) = (μ14.1 0 6) then wLet (wSI μ14 0 8 (0 : Int32)) fun μ58 => some μ58 else wBind (fX6_isByte N  (μ14.1 0 7) 97 122 μ14) fun v18 μ17 => if v18 = 0 then wBind (fX6_isByte N  (μ17.1 0 7) 48 57 μ17) fun v22 μ21 => if v22 = 0 then wG (ok_in (μ21.1 0 7) 600) (wLet (fun (v26 : Int32) (μ25 : wMem) => wLet (wSI μ25 0 8 v26) fun μ27 => wLet (wSI μ27 0 7 ((μ27.1 0 7) + (1 : Int32))) fun μ28 => some μ28) fun Jnext294 => if (μ21.1 5 (Int32.toNatClampNeg (μ21.1 0 7))) = (59 : Int32) then Jnext294 3 μ21 else Jnext294 4 μ21) else wLet (wSI μ21 0 8 (2 : Int32)) fun μ30 => gX6_next_208 N   (fun  (μ41 : wMem) => some μ41) N  μ30 else wLet (wSI μ17 0 8 (1 : Int32)) fun μ42 => gX6_next_102 N   (fun  (μ57 : wMem) => some μ57) N 0 μ42) (wSL (wSI (wSI ρ 0 9 (nI q)) 0 10 (0 : Int32)) 0 11 (0 : Int64)) := by
    unfold fX6_next
    rw [u1, yWL, yWL, yWL, u2]
  generalize wSL (wSI (wSI ρ 0 9 (nI q)) 0 10 (0 : Int32)) 0 11 (0 : Int64) = σ at l9 l7 l10 l11 G2 M2 em
  generalize wSI ν r 3 (nI q) = τ at k3 k2 F2 T2 ec
  dsimp only at em
  rw [l7, M2.2.1, yIf (xI_eq (a := q) (b := n) (by omega) (by omega))] at em
  by_cases g : q = n
  · rw [if_pos g, yWL] at em
    refine ⟨0, τ, _, q, q, (ec _).mpr ?_, em, ⟨T2, M2.of (zFm.put σ (by omega) _), q2, Nat.le_refl _, by decide, k2, ?_, k3, ?_, ?_, fun e => by omega, fun e => by omega⟩, F2, G2.trans (zFm.put σ (by omega) _), q1, fun e => absurd rfl e⟩
    · rw [yIf (xI_eq (a := q) (b := n) (by omega) (by omega)), if_pos g]
    · rw [yS_get, if_neg (by omega)]; exact l7
    · rw [yS_get, if_neg (by omega)]; exact l9
    · rw [yS_get, if_pos ⟨rfl, rfl⟩]; rfl
  · rw [if_neg g] at em
    have b1 := zm_isByte M2 q2 97 122 N
    have b2 := zm_isByte M2 q2 48 57 N
    obtain ⟨a1, a2⟩ := zNx T2 q2 k2 97 122
    obtain ⟨_, a3⟩ := zNx T2 q2 k2 48 57
    have ec2 : ∀ z, (if wNx τ r 97 122 = 0 then (if wNx τ r 48 57 = 0 then (if ok_in (nI q) 600 = true then some (if wBy τ r = 59 then 3 else 4, wInc τ r) else none) else wBindV (wNum N r (wSI τ r 4 0)) fun μ3 => some (2, μ3)) else wBindV (wRun 97 122 N r τ) fun μ3 => some (1, μ3)) = z → wNext N r μ = z := fun z hz => (ec z).mpr (by
      rw [yIf (xI_eq (a := q) (b := n) (by omega) (by omega)), if_neg g, if_pos a1]
      exact hz)
    by_cases g1 : b q < 97 ∨ (122 : Int32) < b q
    · rw [if_neg (fun z => z.2 g1)] at a2 b1
      rw [b1, yBd, if_pos rfl, l7] at em
      by_cases g2 : b q < 48 ∨ (57 : Int32) < b q
      · rw [if_neg (fun z => z.2 g2)] at a3 b2
        have e5 : σ.1 5 q = b q := M2.2.2 q (by omega)
        rw [b2, yBd, if_pos rfl, l7, yG (xI_in (by omega) (by decide)), yWL, xI_cl (by omega), e5] at em
        have eb : wBy τ r = b q := T2.by' k2 (by omega)
        have fin : ∀ tt : Nat, tt = 3 ∨ tt = 4 → zSy b n r (wInc τ r) (wSI (wSI σ 0 8 (nI tt)) 0 7 ((wSI σ 0 8 (nI tt)).1 0 7 + (1 : Int32))) tt (q + 1) q ∧ yFr r μ (wInc τ r) ∧ zFm μm (wSI (wSI σ 0 8 (nI tt)) 0 7 ((wSI σ 0 8 (nI tt)).1 0 7 + (1 : Int32))) := fun tt ht => by
          have A : zFm σ (wSI (wSI σ 0 8 (nI tt)) 0 7 ((wSI σ 0 8 (nI tt)).1 0 7 + (1 : Int32))) := (zFm.put σ (by omega) _).trans (zFm.put _ (by omega) _)
          have B : yFr r τ (wInc τ r) := yFr.put τ (by omega) _
          have c7 : (wSI σ 0 8 (nI tt)).1 0 7 = nI q := by rw [yS_get, if_neg (by omega)]; exact l7
          refine ⟨⟨T2.of B, M2.of A, by omega, by omega, by omega, yInc_at k2, zm_at c7, ?_, ?_, ?_, fun e => by omega, fun e => by omega⟩, F2.trans B, G2.trans A⟩
          · unfold wInc
            rw [yS_get, if_neg (by omega)]; exact k3
          · rw [yS_get, if_neg (by omega), yS_get, if_neg (by omega)]; exact l9
          · rw [yS_get, if_neg (by omega), yS_get, if_pos ⟨rfl, rfl⟩]
        by_cases g3 : b q = 59
        · rw [if_pos g3] at em
          obtain ⟨f1, f2, f3⟩ := fin 3 (.inl rfl)
          refine ⟨3, _, _, q + 1, q, ec2 _ ?_, em, f1, f2, f3, by omega, fun _ => by omega⟩
          rw [if_pos a2, if_pos a3, if_pos (xI_in (by omega) (by decide)), eb, if_pos g3]
        · rw [if_neg g3] at em
          obtain ⟨f1, f2, f3⟩ := fin 4 (.inr rfl)
          refine ⟨4, _, _, q + 1, q, ec2 _ ?_, em, f1, f2, f3, by omega, fun _ => by omega⟩
          rw [if_pos a2, if_pos a3, if_pos (xI_in (by omega) (by decide)), eb, if_neg g3]
      · rw [if_pos ⟨by omega, g2⟩] at a3 b2
        rw [b2, yBd, if_neg (by decide), yWL] at em
        have B0 : yFr r τ (wSI τ r 4 0) := yFr.put τ (by omega) _
        obtain ⟨ν1, j1, j2, j3, j4, j5⟩ := yr_num (b := b) (n := n) (n - q) q N 0 (wSI τ r 4 0) (by omega) (by omega) (T2.of B0) (by rw [yS_get, if_neg (by omega)]; exact k2) (by rw [yS_get, if_pos ⟨rfl, rfl⟩]; rfl) (by decide)
        have A0 : zFm σ (wSI σ 0 8 (2 : Int32)) := zFm.put σ (by omega) _
        obtain ⟨ν2, i1, i2, i3, i4, i5⟩ := zm_num (b := b) (n := n) N (n - q) q N 0 (wSI σ 0 8 (2 : Int32)) (by omega) (by omega) (M2.of A0) (by rw [yS_get, if_neg (by omega)]; exact l7) (by rw [yS_get, if_neg (by omega)]; exact l10) (by decide)
        rw [i1] at em
        have hr := yRn_le b 48 57 (n - q) q
        have hr2 : q < yRn b 48 57 (n - q) q := by
          obtain ⟨d, hd⟩ : ∃ d, n - q = d + 1 := ⟨n - q - 1, by omega⟩
          rw [hd, yRn, if_neg g2]
          have := yRn_le b 48 57 d (q + 1)
          omega
        refine ⟨2, ν1, ν2, yRn b 48 57 (n - q) q, q, ec2 _ ?_, em, ⟨T2.of (B0.trans j5), M2.of (A0.trans i5), by omega, by omega, by decide, j2, i2, ?_, ?_, ?_, fun _ => ⟨_, _, yVr_all b _ _ 0 0 (by unfold yVr; omega), j3, i3⟩, fun e => by omega⟩, F2.trans (B0.trans j5), G2.trans (A0.trans i5), by omega, fun _ => by omega⟩
        · rw [if_pos a2, if_neg (by rw [a3]; decide), j1, yBV]
        · rw [j4, yS_get, if_neg (by omega)]; exact k3
        · rw [i4 9 (by omega), yS_get, if_neg (by omega)]; exact l9
        · rw [i4 8 (by omega), yS_get, if_pos ⟨rfl, rfl⟩]; rfl
    · rw [if_pos ⟨by omega, g1⟩] at a2 b1
      rw [b1, yBd, if_neg (by decide), yWL] at em
      obtain ⟨ν1, j1, j2, j4, j5⟩ := yr_run (b := b) (n := n) (lo := 97) (hi := 122) (n - q) q N τ (by omega) (by omega) T2 k2
      have A0 : zFm σ (wSI σ 0 8 (1 : Int32)) := zFm.put σ (by omega) _
      obtain ⟨ν2, i1, i2, i3, i4, i5⟩ := zm_word (b := b) (n := n) (fr := q) N (n - q) q N 0 (wSI σ 0 8 (1 : Int32)) (by omega) (by omega) (by omega) (M2.of A0) (by rw [yS_get, if_neg (by omega)]; exact l7) l11
      have em2 := em.trans (i1 _)
      have hr := yRn_le b 97 122 (n - q) q
      have hr2 : q < yRn b 97 122 (n - q) q := by
        obtain ⟨d, hd⟩ : ∃ d, n - q = d + 1 := ⟨n - q - 1, by omega⟩
        rw [hd, yRn, if_neg g1]
        have := yRn_le b 97 122 d (q + 1)
        omega
      refine ⟨1, ν1, ν2, yRn b 97 122 (n - q) q, q, ec2 _ ?_, em2, ⟨T2.of j5, M2.of (A0.trans i5), by omega, by omega, by decide, j2, i2, ?_, ?_, ?_, fun e => by omega, fun _ => ⟨i3, fun i h1 h2 => yRn_in b 97 122 _ _ i h1 h2⟩⟩, F2.trans j5, G2.trans (A0.trans i5), by omega, fun _ => by omega⟩
      · rw [if_neg (by rw [a2]; decide), j1, yBV]
      · rw [j4]; exact k3
      · rw [i4 9 (by omega), yS_get, if_neg (by omega)]; exact l9
      · rw [i4 8 (by omega), yS_get, if_pos ⟨rfl, rfl⟩]; rfl
