set_option maxRecDepth 100000
/-! part 9999996: a line is read -/
theorem zOut.mono {b : Nat → Int32} {n r f x m m1 : Nat} {μ μm μ1 μm1 : wMem} {o : wRes Unit} {om : Option wMem} {P Q : (Nat → Nat → Nat) → Prop} (h : zOut b n r f x m1 μ1 μm1 o om P) (hp : ∀ ψ, P ψ → Q ψ) (hm : m1 ≤ m) (k : zKr r f x μ μ1) (l : zKm μm μm1) : zOut b n r f x m μ μm o om Q := by
  rcases h with ⟨a1, a2, a3, a4, a5, a6, b1, b2, b3, b4, b5, b6, b7, b8, b9⟩ | ⟨a1, a2, a3, a4, a5, b1, b2, b3, b4, b5, b6⟩
  · exact .inl ⟨a1, a2, a3, a4, a5, a6, b1, b2, b3, b4, b5, hp _ b6, k.trans b7, l.trans b8, Nat.lt_of_lt_of_le b9 hm⟩
  · exact .inr ⟨a1, a2, a3, a4, a5, b1, b2, b3, b4, k.trans b5, l.trans b6⟩
theorem zOut3.mono {b : Nat → Int32} {n r f x m m1 : Nat} {μ μm μ1 μm1 : wMem} {o : wRes Unit} {om : Option wMem} {P Q : (Nat → Nat → Nat) → Prop} (h : zOut3 b n r f x m1 μ1 μm1 o om P) (hp : ∀ ψ, P ψ → Q ψ) (hm : m1 ≤ m) (k : zKr r f x μ μ1) (l : zKm μm μm1) : zOut3 b n r f x m μ μm o om Q := by
  rcases h with h | ⟨a1, a2, a3, a4, b1, b2, b3, b4, b5, b6, b7, b8, b9, b10⟩
  · exact .inl (h.mono hp hm k l)
  · exact .inr ⟨a1, a2, a3, a4, b1, b2, b3, b4, b5, b6, b7, b8, k.trans b9, l.trans b10⟩
def zSame (φ ψ : Nat → Nat → Nat) : Prop := ψ 0 0 = φ 0 0 ∧ ψ 0 1 = φ 0 1
theorem z_takes2 {b : Nat → Int32} {n r t p fr : Nat} {μ μm : wMem} (S : zSy b n r μ μm t p fr) (h12 : μm.1 0 12 = 0) {w : Nat} (hw : w < 12) {N : Nat} (hN : 2000 ≤ N) (full : Int32) :
    (wTakes2 wLen wByt N r t w full μ = some (.inl (0, t, μ)) ∧ fX6_is N (zWh w) μm = some (0, μm)) ∨
    (¬ full = 0 ∧ wTakes2 wLen wByt N r t w full μ = some (.inr (nI 3, t, μ)) ∧ fX6_is N (zWh w) μm = some (1, μm)) ∨
    (full = 0 ∧ ∃ t1 μ1 μm1 p1 fr1, wTakes2 wLen wByt N r t w full μ = some (.inl (1, t1, μ1)) ∧ fX6_is N (zWh w) μm = some (1, μm) ∧ fX6_next N μm = some μm1 ∧ zSy b n r μ1 μm1 t1 p1 fr1 ∧ μm1.1 0 12 = 0 ∧ yFr r μ μ1 ∧ zFm μm μm1 ∧ zM n t1 p1 < zM n t p) := by
  rcases z_takes S h12 hw hN with ⟨i1, i2, i3, _⟩ | ⟨t1, μ1, μm1, p1, fr1, i1, i2, i3, _, i5, i6, i7, i8, i9, i10, _⟩
  · left
    refine ⟨?_, i3⟩
    unfold wTakes2
    rw [i1]
    show (if ¬ (0 : Int32) = 0 ∧ ¬ full = 0 then some (Sum.inr (3, t, μ)) else (wTakes wLen wByt N r t w μ).bind fun z => some (Sum.inl z)) = _
    rw [if_neg (fun z => z.1 rfl), i2]
    rfl
  · right
    by_cases g : full = 0
    · right
      refine ⟨g, t1, μ1, μm1, p1, fr1, ?_, i3, i5, i6, i7, i8, i9, i10⟩
      unfold wTakes2
      rw [i1]
      show (if ¬ (1 : Int32) = 0 ∧ ¬ full = 0 then some (Sum.inr (3, t, μ)) else (wTakes wLen wByt N r t w μ).bind fun z => some (Sum.inl z)) = _
      rw [if_neg (fun z => z.2 g), i2]
      rfl
    · left
      refine ⟨g, ?_, i3⟩
      unfold wTakes2
      rw [i1]
      show (if ¬ (1 : Int32) = 0 ∧ ¬ full = 0 then some (Sum.inr (3, t, μ)) else (wTakes wLen wByt N r t w μ).bind fun z => some (Sum.inl z)) = _
      rw [if_pos ⟨by decide, g⟩]
      rfl
theorem z_line {b : Nat → Int32} {n r f x t p fr : Nat} {μ μm : wMem} (hr : 21 < r) (hf : r < f) (hx : x = f + 1) (S : zSy b n r μ μm t p fr) (h12 : μm.1 0 12 = 0) {φ : Nat → Nat → Nat} (A : zFa φ f x μ μm) (h1 : φ 0 1 ≠ 0) {N : Nat} (hN : 2000 ≤ N) :
    zOut3 b n r f x (zM n t p) μ μm (wLine wLen wByt N r f x t μ) (fX6_line N μm) (zSame φ) := by
  have O := A.2.2.1
  have O1 := O.lines
  have O2 := O.persons
  have O3 := O.posts
  have f1 : μ.1 f 1 = nI (φ 0 1) := A.1.1 1 (by decide)
  have f2 : μ.1 f 2 = nI (φ 0 2) := A.1.1 2 (by decide)
  have f3 : μ.1 f 3 = nI (φ 0 3) := A.1.1 3 (by decide)
  have m2 : μm.1 7 30 = nI (φ 0 2) := A.2.1.1.2.2.1
  have m3 : μm.1 7 31 = nI (φ 0 3) := A.2.1.1.2.2.2.1
  have c9 := S.2.2.2.2.2.2.2.2.1
  have c3 := S.2.2.2.2.2.2.2.1
  have g2 : fX6_hasRead N 2 μm = some (μm.1 7 30, μm) := zm_has (j := 2) (by decide) N μm
  have g3 : fX6_hasRead N 3 μm = some (μm.1 7 31, μm) := zm_has (j := 3) (by decide) N μm
  have e1 : (nI (φ 0 1) = (0 : Int32)) = (φ 0 1 = 0) := xI_eq (b := 0) (by omega) (by decide)
  have e2 : (nI (φ 0 2) = (6 : Int32)) = (φ 0 2 = 6) := xI_eq (b := 6) (by omega) (by decide)
  have e3 : (nI (φ 0 3) = (2 : Int32)) = (φ 0 3 = 2) := xI_eq (b := 2) (by omega) (by decide)
  obtain ⟨ν3, u1, u2, u3, _⟩ := zm_fails h12 c9 (k := 3) (by decide) N
  have u1' : fX6_fails N 3 μm = some ν3 := u1
  obtain ⟨ν1, w1, w2, w3, _⟩ := zm_fails h12 c9 (k := 1) (by decide) N
  have w1' : fX6_fails N 1 μm = some ν1 := w1
  unfold wLine
  rw [f1, yIf e1, if_neg h1, f2]
  -- the twin, by what the word is
  have tw : ∀ v3 v6 : Int32, fX6_is N 232608281 μm = some (v3, μm) → fX6_is N 326396 μm = some (v6, μm) → fX6_line N μm = (fun (J61 : wMem → Option wMem) => (fun (J56 : wMem → Option wMem) => (fun (J43 : wMem → Option wMem) => (fun (J29 : wMem → Option wMem) => if v3 = 0 then if v6 = 0 then wBindV (fX6_fails N 1 μm) fun μ56 => J29 μ56 else J29 μm else J29 μm) (fun μ7 => if v3 = 0 then J43 μ7 else wBind (fX6_hasRead N 2 μ7) fun v51 μ50 => if v51 = (6 : Int32) then J56 μ50 else J43 μ50)) (fun μ42 => if v6 = 0 then J61 μ42 else wBind (fX6_hasRead N 3 μ42) fun v46 μ45 => if v46 = (2 : Int32) then J56 μ45 else J61 μ45)) (fun μ39 => wBindV (fX6_fails N 3 μ39) fun μ41 => J61 μ41)) (fun μ8 => if (μ8.1 0 12) = 0 then wBindV (fX6_next N μ8) fun μ11 => if v3 = 0 then zPostM N μ11 else wBindV (fX6_personLine N μ11) fun μ38 => some μ38 else some μ8) := fun v3 v6 h h' => by
    unfold fX6_line
    rw [h, yBd, h', yBd]
    rfl
  rcases z_takes2 S h12 (w := 3) (by decide) hN (if nI (φ 0 2) = 6 then 1 else 0) with ⟨i1, i2⟩ | ⟨i0, i1, i2⟩ | ⟨i0, t1, μ1, μm1, p1, fr1, i1, i2, i3, i4, i5, i6, i7, i8⟩
  · have i2' : fX6_is N 232608281 μm = some (0, μm) := i2
    rw [i1, zRl, if_pos rfl, f3]
    rcases z_takes2 S h12 (w := 8) (by decide) hN (if nI (φ 0 3) = 2 then 1 else 0) with ⟨j1, j2⟩ | ⟨j0, j1, j2⟩ | ⟨j0, t1, μ1, μm1, p1, fr1, j1, j2, j3, j4, j5, j6, j7, j8⟩
    · have j2' : fX6_is N 326396 μm = some (0, μm) := j2
      rw [j1, zRl, if_pos rfl, tw 0 0 i2' j2']
      refine .inl (.inr ⟨1, t, μ, ν1, fr, rfl, c3, ?_, w2, zKr.rfl' r f x μ, w3.k⟩)
      dsimp only
      rw [if_pos rfl, if_pos rfl, w1', yBV, if_pos rfl, if_pos rfl, if_neg w2.ne]
    · have j2' : fX6_is N 326396 μm = some (1, μm) := j2
      have q : φ 0 3 = 2 := by
        by_cases g : φ 0 3 = 2
        · exact g
        · rw [yIf e3, if_neg g] at j0
          exact absurd rfl j0
      rw [j1, zRr, tw 0 1 i2' j2']
      refine .inl (.inr ⟨3, t, μ, ν3, fr, rfl, c3, ?_, u2, zKr.rfl' r f x μ, u3.k⟩)
      dsimp only
      rw [if_pos rfl, if_neg (by decide), if_pos rfl, if_neg (by decide), g3, yBd, m3, yIf e3, if_pos q, u1', yBV, if_neg u2.ne]
    · have j2' : fX6_is N 326396 μm = some (1, μm) := j2
      have q : ¬ φ 0 3 = 2 := fun g => by
        rw [yIf e3, if_pos g] at j0
        exact absurd j0 (by decide)
      have A1 := zFa_fr A hf (by omega) j6 j7.b
      rw [j1, zRl, if_neg (by decide), tw 0 1 i2' j2']
      have z := z_newPost hr hf hx j4 j5 A1 (by omega) hN
      have et : (fun (J61 : wMem → Option wMem) => (fun (J56 : wMem → Option wMem) => (fun (J43 : wMem → Option wMem) => (fun (J29 : wMem → Option wMem) => if (0 : Int32) = 0 then if (1 : Int32) = 0 then wBindV (fX6_fails N 1 μm) fun μ56 => J29 μ56 else J29 μm else J29 μm) (fun μ7 => if (0 : Int32) = 0 then J43 μ7 else wBind (fX6_hasRead N 2 μ7) fun v51 μ50 => if v51 = (6 : Int32) then J56 μ50 else J43 μ50)) (fun μ42 => if (1 : Int32) = 0 then J61 μ42 else wBind (fX6_hasRead N 3 μ42) fun v46 μ45 => if v46 = (2 : Int32) then J56 μ45 else J61 μ45)) (fun μ39 => wBindV (fX6_fails N 3 μ39) fun μ41 => J61 μ41)) (fun μ8 => if (μ8.1 0 12) = 0 then wBindV (fX6_next N μ8) fun μ11 => if (0 : Int32) = 0 then zPostM N μ11 else wBindV (fX6_personLine N μ11) fun μ38 => some μ38 else some μ8) = zPostM N μm1 := by
        dsimp only
        rw [if_pos rfl, if_neg (by decide), if_pos rfl, if_neg (by decide), g3, yBd, m3, yIf e3, if_neg q, if_pos h12, j3, yBV, if_pos rfl]
      rw [et]
      refine .inl (z.mono (fun ψ h => ?_) (by omega) j6.k j7.b.k)
      obtain ⟨v1, v2, v3, rfl⟩ := h
      exact ⟨zPost_0 _ _ _ _ (by decide), zPost_0 _ _ _ _ (by decide)⟩
  · have i2' : fX6_is N 232608281 μm = some (1, μm) := i2
    have q : φ 0 2 = 6 := by
      by_cases g : φ 0 2 = 6
      · exact g
      · rw [yIf e2, if_neg g] at i0
        exact absurd rfl i0
    have j2' : fX6_is N 326396 μm = some (0, μm) := by
      rcases z_takes2 S h12 (w := 8) (by decide) hN 0 with ⟨_, j2⟩ | ⟨_, _, j2⟩ | ⟨_, _, _, _, _, _, _, j2, _⟩
      · exact j2
      · exact absurd ((zm_is_1 i2).symm.trans (zm_is_1 j2)) (by decide)
      · exact absurd ((zm_is_1 i2).symm.trans (zm_is_1 j2)) (by decide)
    rw [i1, zRr, tw 1 0 i2' j2']
    refine .inl (.inr ⟨3, t, μ, ν3, fr, rfl, c3, ?_, u2, zKr.rfl' r f x μ, u3.k⟩)
    dsimp only
    rw [if_neg (by decide), if_neg (by decide), g2, yBd, m2, yIf e2, if_pos q, u1', yBV, if_neg u2.ne]
  · have i2' : fX6_is N 232608281 μm = some (1, μm) := i2
    have q : ¬ φ 0 2 = 6 := fun g => by
      rw [yIf e2, if_pos g] at i0
      exact absurd i0 (by decide)
    have j2' : fX6_is N 326396 μm = some (0, μm) := by
      rcases z_takes2 S h12 (w := 8) (by decide) hN 0 with ⟨_, j2⟩ | ⟨_, _, j2⟩ | ⟨_, _, _, _, _, _, _, j2, _⟩
      · exact j2
      · exact absurd ((zm_is_1 i2).symm.trans (zm_is_1 j2)) (by decide)
      · exact absurd ((zm_is_1 i2).symm.trans (zm_is_1 j2)) (by decide)
    have A1 := zFa_fr A hf (by omega) i6 i7.b
    have z := z_newPerson hr hf hx i4 i5 A1 (by omega) hN
    have et : fX6_line N μm = fX6_personLine N μm1 := by
      rw [tw 1 0 i2' j2']
      dsimp only
      rw [if_neg (by decide), if_neg (by decide), g2, yBd, m2, yIf e2, if_neg q, if_pos rfl, if_pos h12, i3, yBV, if_neg (by decide)]
      cases fX6_personLine N μm1 <;> rfl
    rw [i1, zRl, if_neg (by decide), et]
    refine z.mono (fun ψ h => ?_) (by omega) i6.k i7.b.k
    obtain ⟨ch, st, v1, v2, rfl⟩ := h
    exact ⟨(zNewP_0 _ _ _ (by decide)).trans (zKid_0 _ _ _ (by decide)), (zNewP_0 _ _ _ (by decide)).trans (zKid_0 _ _ _ (by decide))⟩
