set_option maxRecDepth 100000
/-! part 99992: the twin's completes, whole -/
theorem ym_comp_159 {φ : Nat → Nat → Nat} (O : yOk φ) {w : Nat → Nat} {n i0 i κ : Nat} {μ0 : wMem} (F : yFM φ 0 μ0) (n12 : n ≤ 12) (hi : i < n) (hw : ∀ j, w j % 10 < 2) (hk : w i / 10 < φ 0 3) (V : yVz φ κ) (hT : φ 0 3 ≤ 1 → κ % 7 = 0) (fit : yFit (φ 5 (w i / 10)) (w i % 10) (yMz w i) = true) {N : Nat} (hN : 100 ≤ N) (R : Int32 → Int32 → wMem → Option (Int32 × wMem)) (hR : yCp φ w n i0 μ0 (i + 1) R) (K : wMem → Option (Int32 × wMem)) : ∀ (d M p : Nat) (ν : wMem) (s m : Nat), d < M → p + d = φ 0 2 → yKqz μ0 ν → yIv φ w n (i + 1) ν → yHolds (3136 * i + κ) (yQm p fun p => yQm (φ 0 2 + 1) (yFz2 φ w n i κ p)) ν →
    ∃ ν1 s1 m1, gX6_completes_159 N R (nI i0) (nI i) (nI (3136 * i + κ)) (nI (w i / 10)) (nI (w i % 10)) (nI (κ / 49)) (nI (κ / 7 % 7)) (nI (κ % 7)) K M (nI p) (yU ν κ s m) = K (yU ν1 κ s1 m1) ∧ yKqz ν ν1 ∧ yIv φ w n (i + 1) ν1 ∧ yHolds (3136 * i + κ) (yQm (φ 0 2) fun p => yQm (φ 0 2 + 1) (yFz2 φ w n i κ p)) ν1 ∧ yFq (fun y => y < 3136 * (i + 1) ∧ y ≠ 3136 * i + κ) ν ν1 ∧ (∀ p2, p ≤ p2 → p2 < φ 0 2 → ∀ c2, c2 ≤ φ 0 2 → yOz φ w i κ (10 * c2 + p2) = true → ν1.2 18 (3136 * (i + 1) + yTz φ (yNz φ w i κ (10 * c2 + p2))) ≠ -1) ∧ ∀ y, y ≠ 3136 * i + κ → ν.2 18 y ≠ -1 → ν1.2 18 y ≠ -1 := by
  have h6 := O.persons
  have q2 : ∀ (ν : wMem) κ s m, yKqz μ0 ν → (yU ν κ s m).1 7 (Int32.toNatClampNeg (2 : Int32)) = nI (φ 0 2) := fun ν κ s m k => (yFM_put (yKqz_fm F k) _).persons
  intro d
  induction d with
  | zero =>
    intro M p ν s m hM hc kc I H
    obtain ⟨M, rfl⟩ : ∃ q, M = q + 1 := ⟨M - 1, by omega⟩
    have : p = φ 0 2 := by omega
    subst this
    refine ⟨ν, s, m, ?_, yKqz.rfl' _, I, H, fun y _ => ⟨rfl, rfl, rfl, rfl⟩, fun p2 a b => absurd b (by omega), fun _ _ h => h⟩
    show gbX6_completes_159 N _ _ _ _ _ _ _ _ _ _ _ _ _ = _
    unfold gbX6_completes_159
    rw [yG (show ok_in (2 : Int32) 35 = true by decide), q2 _ _ _ _ kc, yIf (xI_le (a := φ 0 2) (b := φ 0 2) (by omega) (by omega)), if_pos (Nat.le_refl _)]
  | succ d ih =>
    intro M p ν s m hM hc kc I H
    obtain ⟨M, rfl⟩ : ∃ q, M = q + 1 := ⟨M - 1, by omega⟩
    have add1 : nI p + (1 : Int32) = nI (p + 1) := nI_add p 1
    obtain ⟨ν1, s1, m1, k1, k2, k3, k4, k5, k6, k7⟩ := ym_comp_173 O F n12 hi hw hk (p := p) (by omega) V hT fit (N := N) R hR (fun (μ104 : wMem) => wLet (nI p + 1 : Int32) fun x105 => gX6_completes_159 N R (nI i0) (nI i) (nI (3136 * i + κ)) (nI (w i / 10)) (nI (w i % 10)) (nI (κ / 49)) (nI (κ / 7 % 7)) (nI (κ % 7)) K M x105 μ104) (yQm p fun p => yQm (φ 0 2 + 1) (yFz2 φ w n i κ p)) (φ 0 2 + 1) N 0 ν s m (by omega) (by omega) kc I (by rw [yQm_0, List.append_nil]; exact H)
    obtain ⟨ν2, s2, m2, j1, j2, j3, j4, j5, j6, j7⟩ := ih M (p + 1) ν1 s1 m1 (by omega) (by omega) (kc.trans k2) k3 (by rw [yQm_s]; exact k4)
    refine ⟨ν2, s2, m2, Eq.trans ?_ j1, k2.trans j2, j3, j4, k5.trans j5 (fun y hy => ⟨hy, hy⟩), fun p2 a b c2 e f => by
      by_cases y : p2 = p
      · subst y
        exact j7 _ (by have := yVz_lt O V; omega) (k6 c2 (Nat.zero_le _) e f)
      · exact j6 p2 (by omega) b c2 e f, fun y hy h => j7 y hy (k7 y hy h)⟩
    have e : (nI 0 - 1 : Int32) = -1 := by decide
    rw [e] at k1
    show gbX6_completes_159 N _ _ _ _ _ _ _ _ _ _ _ _ _ = _
    unfold gbX6_completes_159
    rw [yG (show ok_in (2 : Int32) 35 = true by decide), q2 _ _ _ _ kc, yIf (xI_le (by omega) (by omega)), if_neg (by omega)]
    refine Eq.trans k1 ?_
    rw [yWL, add1]
theorem yWz_pc (φ : Nat → Nat → Nat) (w : Nat → Nat) {n i : Nat} (hi : i < n) (κ : Nat) : yWz φ w n (n - i) κ = yQm (φ 0 2) fun p => yQm (φ 0 2 + 1) (yFz2 φ w n i κ p) := by
  obtain ⟨r, hr⟩ : ∃ r, n - i = r + 1 := ⟨n - i - 1, by omega⟩
  have e1 : n - (r + 1) = i := by omega
  have e2 : n - (i + 1) = r := by omega
  rw [hr]
  show (yQm (φ 0 2) fun p => yQm (φ 0 2 + 1) fun c => if yOz φ w (n - (r + 1)) κ (10 * c + p) = true then (yWz φ w n r (yTz φ (yNz φ w (n - (r + 1)) κ (10 * c + p)))).map fun x => (x.1, yRz φ w (n - (r + 1)) (10 * c + p) + x.2) else []) = _
  unfold yFz2
  rw [e1, e2]
theorem yWm_keep {φ : Nat → Nat → Nat} {w : Nat → Nat} {n i : Nat} {μ ν : wMem} (X : yWm φ w n i μ) (k : yKqz μ ν) : yWm φ w n i ν := by
  obtain ⟨h1, h2, h3, h4, h5⟩ := X
  exact ⟨h1, h2, by rw [k.1 2 i (by decide) (by decide) (by decide)]; exact h3, fun j hj => by rw [k.2 3 _ (by decide)]; exact h4 j hj, h5⟩
theorem yWm_U {φ : Nat → Nat → Nat} {w : Nat → Nat} {n i : Nat} {μ : wMem} (X : yWm φ w n i μ) (κ s m : Nat) : yWm φ w n i (yU μ κ s m) := by
  obtain ⟨h1, h2, h3, h4, h5⟩ := X
  exact ⟨h1, h2, (yTut_c _ _ (by decide) _).trans h3, h4, h5⟩
theorem ym_kindz (N : Nat) (ν : wMem) (κ s m : Nat) : fX6_kindOf N (yU ν κ s m) = some (nI κ, yU ν κ s m) := by
  have m1 : ∀ x, nI x * (49 : Int32) = nI (x * 49) := fun x => xI_mul x 49
  have m2 : ∀ x, nI x * (7 : Int32) = nI (x * 7) := fun x => xI_mul x 7
  unfold fX6_kindOf yU
  rw [yTut_23, yTut_25, yTut_26]
  show some ((nI (κ / 49) * (49 : Int32) + nI (κ / 7 % 7) * (7 : Int32)) + nI (κ % 7), _) = _
  rw [m1, m2, nI_add, nI_add, show κ / 49 * 49 + κ / 7 % 7 * 7 + κ % 7 = κ by omega]
theorem ym_comp_step {φ : Nat → Nat → Nat} (O : yOk φ) {w : Nat → Nat} {n i0 : Nat} {μ0 : wMem} (F : yFM φ 0 μ0) (X : yWm φ w n i0 μ0) {N : Nat} (hN : 100 ≤ N) (M i : Nat) (hin : i ≤ n) (hR : i < n → yCp φ w n i0 μ0 (i + 1) (fX6_completes N M)) : yCp φ w n i0 μ0 i (fX6_completes N (M + 1)) := by
  have n12 := X.2.1
  have i04 := X.1
  have hw := X.2.2.2.2
  intro κ s m ν V hT kc I
  have hκ := yVz_lt O V
  have x4 : (3136 : Int32) * nI i + nI κ = nI (3136 * i + κ) := by
    have : (3136 : Int32) * nI i = nI (3136 * i) := xI_mul 3136 i
    rw [this, nI_add]
  have okx : ok_in (nI (3136 * i + κ)) 40768 = true := xI_in (by omega) (by decide)
  have zl : (0 : Int64).toInt = 0 := by decide
  have l63 := yWz_63 O w n (r := n - i) (by omega) κ
  rcases I i κ (Nat.le_refl _) hin hκ with h | h
  · obtain ⟨ν0, hν0⟩ : ∃ ν0, ν0 = wSI (wSI (wSI (wSL ν 18 (3136 * i + κ) (0 : Int64)) 19 (3136 * i + κ) (2000000000 : Int32)) 20 (3136 * i + κ) (63 : Int32)) 21 (3136 * i + κ) (0 : Int32) := ⟨_, rfl⟩
    have up : ∀ (a : Int64) (b c d : Int32) (ν ν2 : wMem), ν2 = wSI (wSI (wSI (wSL ν 18 (3136 * i + κ) a) 19 (3136 * i + κ) b) 20 (3136 * i + κ) c) 21 (3136 * i + κ) d → yKqz ν ν2 ∧ yFq (fun y => y ≠ 3136 * i + κ) ν ν2 ∧ ν2.2 18 (3136 * i + κ) = a ∧ ν2.1 19 (3136 * i + κ) = b ∧ ν2.1 20 (3136 * i + κ) = c ∧ ν2.1 21 (3136 * i + κ) = d := fun a b c d ν ν2 e => by
      have g1 : ∀ c2 j, ν2.1 c2 j = if c2 = 21 ∧ j = 3136 * i + κ then d else if c2 = 20 ∧ j = 3136 * i + κ then c else if c2 = 19 ∧ j = 3136 * i + κ then b else ν.1 c2 j := fun c2 j => by
        rw [e, yS_get, yS_get, yS_get]
        rfl
      have g2 : ∀ c2 j, ν2.2 c2 j = if c2 = 18 ∧ j = 3136 * i + κ then a else ν.2 c2 j := fun c2 j => by
        rw [e]
        exact yL_get _ _ _ _ _ _
      refine ⟨⟨fun c2 j a b d => by rw [g1, if_neg (fun z => d z.1), if_neg (fun z => b z.1), if_neg (fun z => a z.1)], fun c2 j a => by rw [g2, if_neg (fun z => a z.1)]⟩, fun y hy => ?_, ?_, ?_, ?_, ?_⟩
      · rw [g1, g1, g1, g2]
        refine ⟨if_neg (fun z => hy z.2), ?_, ?_, ?_⟩
        · rw [if_neg (fun z => hy z.2), if_neg (fun z => hy z.2), if_neg (fun z => hy z.2)]
        · rw [if_neg (fun z => hy z.2), if_neg (fun z => hy z.2), if_neg (fun z => hy z.2)]
        · rw [if_neg (fun z => hy z.2), if_neg (fun z => hy z.2), if_neg (fun z => hy z.2)]
      · rw [g2, if_pos ⟨rfl, rfl⟩]
      · rw [g1, if_neg (by omega), if_neg (by omega), if_pos ⟨rfl, rfl⟩]
      · rw [g1, if_neg (by omega), if_pos ⟨rfl, rfl⟩]
      · rw [g1, if_pos ⟨rfl, rfl⟩]
    obtain ⟨u1, u2, u3, u4, u5, u6⟩ := up _ _ _ _ ν ν0 hν0
    have H0 : yHolds (3136 * i + κ) [] ν0 := ⟨u3, u4, u5, u6⟩
    have Iof : ∀ ν1, yFq (fun y => y < 3136 * (i + 1) ∧ y ≠ 3136 * i + κ) ν ν1 → yIv φ w n (i + 1) ν1 → yHolds (3136 * i + κ) (yWz φ w n (n - i) κ) ν1 → yNxt φ w n i κ ν1 → (∀ y, y ≠ 3136 * i + κ → ν.2 18 y ≠ -1 → ν1.2 18 y ≠ -1) → yIv φ w n i ν1 := fun ν1 f J H nx u j κ3 a b e => by
      by_cases q : j = i
      · subst q
        by_cases g : κ3 = κ
        · subst g; exact Or.inr ⟨H, nx⟩
        · have pr : 3136 * j + κ3 < 3136 * (j + 1) ∧ 3136 * j + κ3 ≠ 3136 * j + κ := by omega
          rcases I j κ3 a b e with h | h
          · exact Or.inl ((f _ pr).1.trans h)
          · exact Or.inr ⟨f.holds pr h.1, fun a2 e2 he => u _ (by omega) (h.2 a2 e2 he)⟩
      · exact J j κ3 (by omega) b e
    have I0 : ∀ ν1, yFq (fun y => y ≠ 3136 * i + κ) ν ν1 → yIv φ w n (i + 1) ν1 := fun ν1 f j κ3 a b e => by
      have pr : 3136 * j + κ3 ≠ 3136 * i + κ := by omega
      rcases I j κ3 (by omega) b e with h | h
      · exact Or.inl ((f _ pr).1.trans h)
      · exact Or.inr ⟨f.holds pr h.1, fun a2 e2 he => by
          rw [(f (3136 * (j + 1) + yTz φ (yNz φ w j κ3 e2)) (by show _ ≠ _; omega)).1]
          exact h.2 a2 e2 he⟩
    have kc0 := kc.trans u1
    have hx : ∀ ν1, yHolds (3136 * i + κ) (yWz φ w n (n - i) κ) ν1 → (∀ y, y ≠ 3136 * i + κ → ν.2 18 y ≠ -1 → ν1.2 18 y ≠ -1) → ∀ y, ν.2 18 y ≠ -1 → ν1.2 18 y ≠ -1 := fun ν1 H u y hy => by
      by_cases q : y = 3136 * i + κ
      · rw [q, H.1]; exact lN_m1 l63
      · exact u y q hy
    have neg : ((yU ν κ s m).2 18 (3136 * i + κ) < (0 : Int64)) := by
      have : (yU ν κ s m).2 18 (3136 * i + κ) = -1 := h
      rw [this]
      decide
    have c2 : (yU ν0 κ s m).1 2 i0 = nI n := (yWm_U (yWm_keep X kc0) κ s m).2.2.1
    have s0 : wSI (wSI (wSI (wSL (yU ν κ s m) 18 (3136 * i + κ) (0 : Int64)) 19 (3136 * i + κ) (2000000000 : Int32)) 20 (3136 * i + κ) (63 : Int32)) 21 (3136 * i + κ) (0 : Int32) = yU ν0 κ s m := by
      rw [hν0]
      show wSI (wSI (wSI (yU (wSL ν 18 (3136 * i + κ) (0 : Int64)) κ s m) 19 _ _) 20 _ _) 21 _ _ = _
      rw [yU_sc _ _ _ _ (by decide), yU_sc _ _ _ _ (by decide), yU_sc _ _ _ _ (by decide)]
    have HEAD : fX6_completes N (M + 1) (nI i0) (nI i) (yU ν κ s m) = wG (ok_in (nI i0) 4) (if nI i = (yU ν0 κ s m).1 2 (Int32.toNatClampNeg (nI i0)) then (wG (ok_in (nI (3136 * i + κ)) 40768) (wLet (wSL (yU ν0 κ s m) 18 (Int32.toNatClampNeg (nI (3136 * i + κ))) (1 : Int64)) fun μ108 => wG (ok_in (nI (3136 * i + κ)) 40768) (wLet (wSI μ108 19 (Int32.toNatClampNeg (nI (3136 * i + κ))) (0 : Int32)) fun μ110 => wG (ok_in (nI (3136 * i + κ)) 40768) (wLet (wSI μ110 20 (Int32.toNatClampNeg (nI (3136 * i + κ))) (μ110.1 0 23)) fun μ112 => wG (ok_in (nI (3136 * i + κ)) 40768) (wLet (wSI μ112 21 (Int32.toNatClampNeg (nI (3136 * i + κ))) (μ112.1 0 23)) fun μ114 => some (nI (3136 * i + κ), μ114)))))) else wBind (fX6_looksAt N (nI i0) (nI i) (yU ν0 κ s m)) fun v19 μ18 => if v19 = 0 then some (nI (3136 * i + κ), μ18) else wBind (fX6_cellOf N (nI i0) (nI i) μ18) fun v23 μ22 => wLet (Int64.toInt32 (v23 / (10 : Int64)) : Int32) fun x24 => wBind (fX6_cellOf N (nI i0) (nI i) μ22) fun v27 μ26 => wLet (Int64.toInt32 (v27 - v27 / (10 : Int64) * (10 : Int64)) : Int32) fun x28 => wLet (μ26.1 0 23 : Int32) fun x29 => wLet (μ26.1 0 25 : Int32) fun x30 => wLet (μ26.1 0 26 : Int32) fun x31 => gX6_completes_159 N (fX6_completes N M) (nI i0) (nI i) (nI (3136 * i + κ)) x24 x28 x29 x30 x31 (fun (μ106 : wMem) => some (nI (3136 * i + κ), μ106)) N 0 μ26) := by
      show fbX6_completes N (fX6_completes N M) _ _ _ = _
      unfold fbX6_completes
      rw [ym_kindz, yBd, yWL, x4, yG okx, xI_cl (by omega), if_pos neg, yG okx, yWL, yG okx, yWL, yG okx, yWL, yG okx, yWL, s0]
    rw [xI_cl (by omega), yG (xI_in i04 (by decide)), c2, yIf (xI_eq (by omega) (by omega))] at HEAD
    by_cases q : i = n
    · obtain ⟨ν1, hν1⟩ : ∃ ν1, ν1 = wSI (wSI (wSI (wSL ν0 18 (3136 * i + κ) (1 : Int64)) 19 (3136 * i + κ) (0 : Int32)) 20 (3136 * i + κ) (nI (κ / 49))) 21 (3136 * i + κ) (nI (κ / 49)) := ⟨_, rfl⟩
      obtain ⟨t1, t2, t3, t4, t5, t6⟩ := up _ _ _ _ ν0 ν1 hν1
      have eW : yWz φ w n (n - i) κ = [(κ / 49, 0)] := by rw [q, Nat.sub_self]; rfl
      have k64 : ∀ o, o < 64 → 63 &&& o = o ∧ 0 ||| o = o := by decide
      have H1 : yHolds (3136 * i + κ) (yWz φ w n (n - i) κ) ν1 := by
        rw [eW]
        refine ⟨t3, t4, ?_, ?_⟩
        · rw [t5]
          show _ = nI (63 &&& (κ / 49))
          rw [(k64 _ (by omega)).1]
        · rw [t6]
          show _ = nI (0 ||| (κ / 49))
          rw [(k64 _ (by omega)).2]
      have f01 : yFq (fun y => y ≠ 3136 * i + κ) ν ν1 := u2.trans t2 (fun y hy => ⟨hy, hy⟩)
      have nx0 : yNxt φ w n i κ ν1 := fun a => by omega
      have up0 : ∀ y, y ≠ 3136 * i + κ → ν.2 18 y ≠ -1 → ν1.2 18 y ≠ -1 := fun y hy h => by rw [(f01 y hy).1]; exact h
      refine ⟨ν1, s, m, ?_, u1.trans t1, Iof ν1 (fun y hy => f01 y hy.2) (I0 ν1 f01) H1 nx0 up0, H1, fun y hy => f01 y (by
        have : y < 3136 * i := hy
        omega), nx0, hx ν1 H1 up0⟩
      rw [HEAD, if_pos q, yG okx, xI_cl (by omega), yWL, yG okx, yWL, yG okx, yWL, yG okx, yWL]
      have a1 : wSL (yU ν0 κ s m) 18 (3136 * i + κ) (1 : Int64) = yU (wSL ν0 18 (3136 * i + κ) (1 : Int64)) κ s m := rfl
      have e23 : ∀ ν, (yU ν κ s m).1 0 23 = nI (κ / 49) := fun ν => yTut_23 _ _
      rw [a1, yU_sc _ _ _ _ (by decide), e23, yU_sc _ _ _ _ (by decide), e23, yU_sc _ _ _ _ (by decide), ← hν1]
    · have hi : i < n := by omega
      have hk := (X.2.2.2.1 i hi).2
      have wl := X.lt O hi
      have look := ym_looksAt O (yFM_put (yKqz_fm F kc0) (ySt.of (κ / 49) s (κ / 7 % 7) (κ % 7) m)) (yWm_U (yWm_keep X kc0) κ s m) hN hi
      by_cases fit : yFit (φ 5 (w i / 10)) (w i % 10) (yMz w i) = true
      · obtain ⟨ν1, s1, m1, j1, j2, j3, j4, j5, j6, j7⟩ := ym_comp_159 O F n12 hi hw hk V hT fit hN (fX6_completes N M) (hR hi) (fun (μ106 : wMem) => some (nI (3136 * i + κ), μ106)) (φ 0 2) N 0 ν0 s m (by have := O.persons; omega) (by omega) kc0 (I0 ν0 u2) H0
        rw [← yWz_pc φ w hi κ] at j4
        have f01 : yFq (fun y => y < 3136 * (i + 1) ∧ y ≠ 3136 * i + κ) ν ν1 := u2.trans j5 (fun y hy => ⟨hy.2, hy⟩)
        have nx0 : yNxt φ w n i κ ν1 := fun _ e he => by
          obtain ⟨_, _, p1, p2, _, _⟩ := yOz_act O he
          have e10 : 10 * (e / 10) + e % 10 = e := by omega
          have h := j6 (e % 10) (Nat.zero_le _) p1 (e / 10) p2
          rw [e10] at h
          exact h he
        have up0 : ∀ y, y ≠ 3136 * i + κ → ν.2 18 y ≠ -1 → ν1.2 18 y ≠ -1 := fun y hy h => j7 y hy (by rw [(u2 y hy).1]; exact h)
        refine ⟨ν1, s1, m1, ?_, u1.trans j2, Iof ν1 f01 j3 j4 nx0 up0, j4, fun y hy => f01 y (by
          have : y < 3136 * i := hy
          omega), nx0, hx ν1 j4 up0⟩
        have cell := (yWm_U (yWm_keep X kc0) κ s m).cell N hi
        have e1 : (lN (w i) / (10 : Int64)).toInt32 = nI (w i / 10) := by
          have : lN (w i) / (10 : Int64) = lN (w i / 10) := lN_div (b := 10) (by omega) (by decide)
          rw [this, lN_i]
        have e2 : (lN (w i) - lN (w i) / (10 : Int64) * (10 : Int64)).toInt32 = nI (w i % 10) := by
          have : lN (w i) - lN (w i) / (10 : Int64) * (10 : Int64) = lN (w i % 10) := lN_rem (b := 10) (by omega) (by decide)
          rw [this, lN_i]
        have e23 : (yU ν0 κ s m).1 0 23 = nI (κ / 49) := yTut_23 _ _
        have e25 : (yU ν0 κ s m).1 0 25 = nI (κ / 7 % 7) := yTut_25 _ _
        have e26 : (yU ν0 κ s m).1 0 26 = nI (κ % 7) := yTut_26 _ _
        have look' : fX6_looksAt N (nI i0) (nI i) (yU ν0 κ s m) = some (yB true, yU ν0 κ s m) := by rw [fit] at look; exact look
        rw [HEAD, if_neg q, look', yBd, yIf (yB_0 _), if_neg (by decide), cell, yBd, e1, yWL, cell, yBd, e2, yWL, yWL, yWL, yWL, e23, e25, e26]
        exact j1
      · rw [Bool.not_eq_true] at fit
        have eW : yWz φ w n (n - i) κ = [] := by
          rw [yWz_pc φ w hi κ]
          refine yQm_nil fun p hp => yQm_nil fun c hc => ?_
          unfold yFz2
          rw [yOz_H O hp (by omega) hk V, fit]
          exact if_neg (by simp)
        have H1 : yHolds (3136 * i + κ) (yWz φ w n (n - i) κ) ν0 := by rw [eW]; exact H0
        have nx0 : yNxt φ w n i κ ν0 := fun _ e he => by
          obtain ⟨_, _, p1, p2, _, _⟩ := yOz_act O he
          have e10 : 10 * (e / 10) + e % 10 = e := by omega
          have h := yOz_H O (i := i) p1 p2 hk V
          rw [e10, he, fit] at h
          simp at h
        have up0 : ∀ y, y ≠ 3136 * i + κ → ν.2 18 y ≠ -1 → ν0.2 18 y ≠ -1 := fun y hy h => by rw [(u2 y hy).1]; exact h
        refine ⟨ν0, s, m, ?_, u1, Iof ν0 (fun y hy => u2 y hy.2) (I0 ν0 u2) H1 nx0 up0, H1, fun y hy => u2 y (by
          have : y < 3136 * i := hy
          omega), nx0, hx ν0 H1 up0⟩
        have look' : fX6_looksAt N (nI i0) (nI i) (yU ν0 κ s m) = some (yB false, yU ν0 κ s m) := by rw [fit] at look; exact look
        rw [HEAD, if_neg q, look', yBd, yIf (yB_0 _), if_pos rfl]
  · refine ⟨ν, s, m, ?_, yKqz.rfl' _, I, h.1, fun y _ => ⟨rfl, rfl, rfl, rfl⟩, h.2, fun _ h => h⟩
    have nn : ¬ ((yU ν κ s m).2 18 (3136 * i + κ) < (0 : Int64)) := by
      have : (yU ν κ s m).2 18 (3136 * i + κ) = lN (yWz φ w n (n - i) κ).length := h.1.1
      rw [this]
      intro z
      have := Int64.lt_iff_toInt_lt.mp z
      rw [lN_toInt63 l63] at this
      omega
    show fbX6_completes N (fX6_completes N M) _ _ _ = _
    unfold fbX6_completes
    rw [ym_kindz, yBd, yWL, x4, yG okx, xI_cl (by omega), if_neg nn]
theorem ym_completes {φ : Nat → Nat → Nat} (O : yOk φ) {w : Nat → Nat} {n i0 : Nat} {μ0 : wMem} (F : yFM φ 0 μ0) (X : yWm φ w n i0 μ0) {N : Nat} (hN : 100 ≤ N) : ∀ (r M i : Nat), n - i = r → i ≤ n → r < M → yCp φ w n i0 μ0 i (fX6_completes N M) := by
  intro r
  induction r with
  | zero =>
    intro M i a b c
    obtain ⟨M, rfl⟩ : ∃ q, M = q + 1 := ⟨M - 1, by omega⟩
    exact ym_comp_step O F X hN M i b (fun h => by omega)
  | succ r ih =>
    intro M i a b c
    obtain ⟨M, rfl⟩ : ∃ q, M = q + 1 := ⟨M - 1, by omega⟩
    exact ym_comp_step O F X hN M i b (fun h => ih M (i + 1) (by omega) (by omega) (by omega))
