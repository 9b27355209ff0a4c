set_option maxRecDepth 100000
/-! part 9999992: a post is read -/
theorem zm_has {j : Nat} (hj : j < 7) (N : Nat) (μ : wMem) : fX6_hasRead N (nI j) μ = some (μ.1 7 (28 + j), μ) := by
  have e : (28 : Int32) + nI j = nI (28 + j) := nI_add 28 j
  unfold fX6_hasRead
  rw [e, yG (xI_in (by omega) (by decide)), xI_cl (by omega)]
theorem zm_tells {j : Nat} (hj : j < 7) (v : Int32) (N : Nat) (μ : wMem) : fX6_tells N (nI j) v μ = some (wSI μ 7 (28 + j) v) := by
  have e : (28 : Int32) + nI j = nI (28 + j) := nI_add 28 j
  unfold fX6_tells
  rw [e, yG (xI_in (by omega) (by decide)), xI_cl (by omega), yWL]
/-- what a reader changes -/
def zKr (r f x : Nat) (μ ν : wMem) : Prop := (∀ c i, (c = r → i < 2 ∨ 4 < i) → c ≠ f → (c < x ∨ x + 5 < c) → ν.1 c i = μ.1 c i) ∧ ν.2 = μ.2
def zKm (μ ν : wMem) : Prop := (∀ c i, (c = 0 → i < 7 ∨ 13 < i) → (c = 6 → i ≠ 4) → (c = 7 → i < 28) → (c = 8 → i < 24) → (c = 9 → i < 24) → (c = 10 → i < 24) → ν.1 c i = μ.1 c i) ∧ ∀ c i, (c = 0 → i ≠ 11) → ν.2 c i = μ.2 c i
theorem zKr.rfl' (r f x : Nat) (μ : wMem) : zKr r f x μ μ := ⟨fun _ _ _ _ _ => rfl, rfl⟩
theorem zKr.trans {r f x : Nat} {μ ν ρ : wMem} (h : zKr r f x μ ν) (g : zKr r f x ν ρ) : zKr r f x μ ρ := ⟨fun c i a b d => (g.1 c i a b d).trans (h.1 c i a b d), g.2.trans h.2⟩
theorem zKm.rfl' (μ : wMem) : zKm μ μ := ⟨fun _ _ _ _ _ _ _ _ => rfl, fun _ _ _ => rfl⟩
theorem zKm.trans {μ ν ρ : wMem} (h : zKm μ ν) (g : zKm ν ρ) : zKm μ ρ := ⟨fun c i a1 a2 a3 a4 a5 a6 => (g.1 c i a1 a2 a3 a4 a5 a6).trans (h.1 c i a1 a2 a3 a4 a5 a6), fun c i a => (g.2 c i a).trans (h.2 c i a)⟩
theorem yFr.k {r f x : Nat} {μ ν : wMem} (h : yFr r μ ν) : zKr r f x μ ν := ⟨fun c i a _ _ => h.1 c i a, h.2⟩
theorem zFb.k {μ ν : wMem} (h : zFb μ ν) : zKm μ ν := ⟨fun c i a _ _ _ _ _ => h.1 c i a, h.2⟩
theorem zKr_w {r f x : Nat} (μ : wMem) {c : Nat} (hc : c = f ∨ (x ≤ c ∧ c ≤ x + 5)) (i : Nat) (v : Int32) : zKr r f x μ (wSI μ c i v) := ⟨fun c2 i2 _ b d => by rw [yS_get, if_neg (by omega)], rfl⟩
theorem zKm_w (μ : wMem) {c i : Nat} (hc : (c = 6 ∧ i = 4) ∨ (c = 7 ∧ 28 ≤ i) ∨ (c = 8 ∧ 24 ≤ i) ∨ (c = 9 ∧ 24 ≤ i) ∨ (c = 10 ∧ 24 ≤ i)) (v : Int32) : zKm μ (wSI μ c i v) := ⟨fun c2 i2 a1 a2 a3 a4 a5 a6 => by rw [yS_get, if_neg (by omega)], fun _ _ _ => rfl⟩
/-- in step, whatever is written to the families -/
theorem zSy.w {b : Nat → Int32} {n r t p fr : Nat} {μ ν μm νm : wMem} (S : zSy b n r μ μm t p fr) (h1 : ν.1 r = μ.1 r) (h2 : ν.1 8 = μ.1 8) (h3 : νm.1 0 = μm.1 0) (h4 : νm.1 5 = μm.1 5) (h5 : νm.2 0 11 = μm.2 0 11) : zSy b n r ν νm t p fr := by
  obtain ⟨T, Tm, r1⟩ := S
  refine ⟨⟨T.1, T.2.1, by rw [h1]; exact T.2.2.1, by rw [h2]; exact T.2.2.2⟩, ⟨Tm.1, by rw [h3]; exact Tm.2.1, by rw [h4]; exact Tm.2.2⟩, ?_⟩
  rw [h1, h3, h5]
  exact r1
theorem zS_row (μ : wMem) {c d : Nat} (h : c ≠ d) (i : Nat) (v : Int32) : (wSI μ d i v).1 c = μ.1 c := funext fun j => by rw [yS_get, if_neg (fun g => h g.1)]
def zPostM (N : Nat) (μ11 : wMem) : Option wMem :=
  wBind (fX6_hasRead N  3 μ11) fun v15 μ14 => wLet ((3 : Int32) * ((8 : Int32) + v15) : Int32) fun x16 => wBind (fX6_number N  283619009 0 100 μ14) fun v19 μ18 => wG (ok_in x16 30) (wLet (wSI μ18 10 (Int32.toNatClampNeg x16) v19) fun μ21 => wBind (fX6_number N  220307 0 9 μ21) fun v24 μ23 => wG (ok_in (x16 + (1 : Int32)) 30) (wLet (wSI μ23 10 (Int32.toNatClampNeg (x16 + (1 : Int32))) v24) fun μ26 => wBind (fX6_number N  6683788 0 3 μ26) fun v29 μ28 => wG (ok_in (x16 + (2 : Int32)) 30) (wLet (wSI μ28 10 (Int32.toNatClampNeg (x16 + (2 : Int32))) v29) fun μ31 => wBind (fX6_hasRead N  3 μ31) fun v34 μ33 => wBindV (fX6_tells N  3 (v34 + (1 : Int32)) μ33) fun μ36 => some μ36)))
/-- a post more -/
def zPost (φ : Nat → Nat → Nat) (v1 v2 v3 : Nat) : Nat → Nat → Nat := fun c i => if c = 0 ∧ i = 3 then φ 0 3 + 1 else if c = 3 ∧ i = φ 0 3 then v1 else if c = 4 ∧ i = φ 0 3 then v2 else if c = 5 ∧ i = φ 0 3 then v3 else φ c i
def zFa (φ : Nat → Nat → Nat) (f x : Nat) (μ μm : wMem) : Prop := yFCg φ μ f (x + 0) (x + 1) (x + 2) (x + 3) (x + 4) (x + 5) ∧ yFM φ 4 μm ∧ yOk φ ∧ φ 0 6 = 0
/-- how a step of a reader ends: both go on in step, or both fail alike -/
def zOut (b : Nat → Int32) (n r f x m : Nat) (μ μm : wMem) (o : wRes Unit) (om : Option wMem) (P : (Nat → Nat → Nat) → Prop) : Prop :=
  (∃ t1 μ1 μm1 p1 fr1 ψ, o = some (.inl ((), t1, μ1)) ∧ om = some μm1 ∧ zSy b n r μ1 μm1 t1 p1 fr1 ∧ μm1.1 0 12 = 0 ∧ zFa ψ f x μ1 μm1 ∧ P ψ ∧ zKr r f x μ μ1 ∧ zKm μm μm1 ∧ zM n t1 p1 < m) ∨
  (∃ k t1 μ1 μm1 fr1, o = some (.inr (nI k, t1, μ1)) ∧ μ1.1 r 3 = nI fr1 ∧ om = some μm1 ∧ zBad k fr1 μm1 ∧ zKr r f x μ μ1 ∧ zKm μm μm1)
theorem yFM_b {φ : Nat → Nat → Nat} {μ ν : wMem} (F : yFM φ 4 μ) (h : zFb μ ν) : yFM φ 4 ν := yFM_of F fun c h1 h2 i => h.1 c i (by omega)
theorem zPost_0 (φ : Nat → Nat → Nat) (v1 v2 v3 : Nat) {i : Nat} (h : i ≠ 3) : zPost φ v1 v2 v3 0 i = φ 0 i := by
  unfold zPost
  rw [if_neg (fun g => h g.2), if_neg (by omega), if_neg (by omega), if_neg (by omega)]
theorem zPost_03 (φ : Nat → Nat → Nat) (v1 v2 v3 : Nat) : zPost φ v1 v2 v3 0 3 = φ 0 3 + 1 := by
  unfold zPost
  rw [if_pos ⟨rfl, rfl⟩]
theorem zPost_c (φ : Nat → Nat → Nat) (v1 v2 v3 : Nat) {c : Nat} (h : c ≠ 0 ∧ c ≠ 3 ∧ c ≠ 4 ∧ c ≠ 5) (i : Nat) : zPost φ v1 v2 v3 c i = φ c i := by
  unfold zPost
  rw [if_neg (by omega), if_neg (by omega), if_neg (by omega), if_neg (by omega)]
theorem zPost_3 (φ : Nat → Nat → Nat) (v1 v2 v3 i : Nat) : zPost φ v1 v2 v3 3 i = if i = φ 0 3 then v1 else φ 3 i := by
  unfold zPost
  rw [if_neg (by omega)]
  by_cases g : i = φ 0 3
  · rw [if_pos ⟨rfl, g⟩, if_pos g]
  · rw [if_neg (fun z => g z.2), if_neg (by omega), if_neg (by omega), if_neg g]
theorem zPost_4 (φ : Nat → Nat → Nat) (v1 v2 v3 i : Nat) : zPost φ v1 v2 v3 4 i = if i = φ 0 3 then v2 else φ 4 i := by
  unfold zPost
  rw [if_neg (by omega), if_neg (by omega)]
  by_cases g : i = φ 0 3
  · rw [if_pos ⟨rfl, g⟩, if_pos g]
  · rw [if_neg (fun z => g z.2), if_neg (by omega), if_neg g]
theorem zPost_5 (φ : Nat → Nat → Nat) (v1 v2 v3 i : Nat) : zPost φ v1 v2 v3 5 i = if i = φ 0 3 then v3 else φ 5 i := by
  unfold zPost
  rw [if_neg (by omega), if_neg (by omega), if_neg (by omega)]
  by_cases g : i = φ 0 3
  · rw [if_pos ⟨rfl, g⟩, if_pos g]
  · rw [if_neg (fun z => g z.2), if_neg g]
theorem zPost_ok {φ : Nat → Nat → Nat} (O : yOk φ) (h : φ 0 3 < 2) {v1 v2 v3 : Nat} (h1 : v1 ≤ 100) (h2 : v2 ≤ 9) (h3 : v3 ≤ 3) : yOk (zPost φ v1 v2 v3) := by
  have e0 : ∀ i, i ≠ 3 → zPost φ v1 v2 v3 0 i = φ 0 i := fun i hi => by
    unfold zPost
    rw [if_neg (fun g => hi g.2), if_neg (by omega), if_neg (by omega), if_neg (by omega)]
  have e3 : zPost φ v1 v2 v3 0 3 = φ 0 3 + 1 := by
    unfold zPost
    rw [if_pos ⟨rfl, rfl⟩]
  have e1 : ∀ i, zPost φ v1 v2 v3 1 i = φ 1 i := fun i => by
    unfold zPost
    rw [if_neg (by omega), if_neg (by omega), if_neg (by omega), if_neg (by omega)]
  have e2 : ∀ i, zPost φ v1 v2 v3 2 i = φ 2 i := fun i => by
    unfold zPost
    rw [if_neg (by omega), if_neg (by omega), if_neg (by omega), if_neg (by omega)]
  refine ⟨by rw [e0 0 (by decide)]; exact O.loaf, by rw [e0 1 (by decide)]; exact O.lines, by rw [e0 2 (by decide)]; exact O.persons, by rw [e3]; omega, by rw [e0 4 (by decide)]; exact O.children, by rw [e0 5 (by decide)]; exact O.stay, by rw [e0 6 (by decide)]; exact O.acts, by rw [e0 7 (by decide)]; exact O.compares, ?_, ?_, ?_, ?_, ?_⟩
  · intro i hi
    rw [e0 2 (by decide)] at hi
    rw [e1]; exact O.like i hi
  · intro i hi
    rw [e0 2 (by decide)] at hi
    rw [e2]; exact O.nose i hi
  · intro i hi
    rw [e3] at hi
    unfold zPost
    rw [if_neg (by omega)]
    by_cases g : i = φ 0 3
    · rw [if_pos ⟨rfl, g⟩]; exact h1
    · rw [if_neg (fun z => g z.2), if_neg (by omega), if_neg (by omega)]
      exact O.strict i (by omega)
  · intro i hi
    rw [e3] at hi
    unfold zPost
    rw [if_neg (by omega), if_neg (by omega)]
    by_cases g : i = φ 0 3
    · rw [if_pos ⟨rfl, g⟩]; exact h2
    · rw [if_neg (fun z => g z.2), if_neg (by omega)]
      exact O.keen i (by omega)
  · intro i hi
    rw [e3] at hi
    unfold zPost
    rw [if_neg (by omega), if_neg (by omega), if_neg (by omega)]
    by_cases g : i = φ 0 3
    · rw [if_pos ⟨rfl, g⟩]; exact h3
    · rw [if_neg (fun z => g z.2)]
      exact O.looks i (by omega)
theorem zRl {α β : Type} (a : α) (t : Nat) (μ : wMem) (f : α → Nat → wMem → wRes β) : wRbd (some (.inl (a, t, μ))) f = f a t μ := rfl
theorem zRr {α β : Type} (e : Int32 × Nat × wMem) (f : α → Nat → wMem → wRes β) : wRbd (some (.inr e)) f = some (.inr e) := rfl
theorem zBad.w {k fr : Nat} {μ ν : wMem} (h : zBad k fr μ) (e : ν.1 0 = μ.1 0) : zBad k fr ν := ⟨h.1, h.2.1, by rw [e]; exact h.2.2.1, by rw [e]; exact h.2.2.2⟩
theorem z_newPost {b : Nat → Int32} {n r f x t p fr : Nat} {μ μm : wMem} (hr : 21 < r) (hf : r < f) (hx : x = f + 1) (S : zSy b n r μ μm t p fr) (h12 : μm.1 0 12 = 0) {φ : Nat → Nat → Nat} (A : zFa φ f x μ μm) (h3 : φ 0 3 < 2) {N : Nat} (hN : 2000 ≤ N) :
    zOut b n r f x (zM n t p) μ μm (wNewPost wLen wByt N r f x t μ) (zPostM N μm) (fun ψ => ∃ v1 v2 v3, ψ = zPost φ v1 v2 v3) := by
  obtain ⟨F, Fm, O, h6⟩ := A
  generalize hk : φ 0 3 = k at h3
  have fk : μ.1 f 3 = nI k := (F.1 3 (by decide)).trans (by rw [hk])
  have fm : μm.1 7 31 = nI k := by rw [← hk]; exact Fm.1.2.2.2.1
  have m0 : fX6_hasRead N 3 μm = some (μm.1 7 31, μm) := zm_has (j := 3) (by decide) N μm
  have ex : (3 : Int32) * ((8 : Int32) + nI k) = nI (24 + 3 * k) := by
    have a := nI_add 8 k
    have c := xI_mul 3 (8 + k)
    have e : 3 * (8 + k) = 24 + 3 * k := by omega
    rw [e] at c
    rw [← c]
    exact congrArg (fun z => (3 : Int32) * z) a
  have ex1 : nI (24 + 3 * k) + (1 : Int32) = nI (24 + 3 * k + 1) := nI_add _ 1
  have ex2 : nI (24 + 3 * k) + (2 : Int32) = nI (24 + 3 * k + 2) := nI_add _ 2
  have okc : ok_in (nI k) 2 = true := xI_in h3 (by decide)
  have ck : (nI k).toNatClampNeg = k := xI_cl (by omega)
  have ok0 : ok_in (nI (24 + 3 * k)) 30 = true := xI_in (by omega) (by decide)
  have ok1 : ok_in (nI (24 + 3 * k + 1)) 30 = true := xI_in (by omega) (by decide)
  have ok2 : ok_in (nI (24 + 3 * k + 2)) 30 = true := xI_in (by omega) (by decide)
  have c0 : (nI (24 + 3 * k)).toNatClampNeg = 24 + 3 * k := xI_cl (by omega)
  have c1 : (nI (24 + 3 * k + 1)).toNatClampNeg = 24 + 3 * k + 1 := xI_cl (by omega)
  have c2 : (nI (24 + 3 * k + 2)).toNatClampNeg = 24 + 3 * k + 2 := xI_cl (by omega)
  have w9 : ∀ (ν : wMem) (v : Int32), (wSI ν 10 (24 + 3 * k) v).1 0 = ν.1 0 := fun ν v => zS_row ν (by decide) _ v
  have w9' : ∀ (ν : wMem) (v : Int32), (wSI ν 10 (24 + 3 * k + 1) v).1 0 = ν.1 0 := fun ν v => zS_row ν (by decide) _ v
  have w9'' : ∀ (ν : wMem) (v : Int32), (wSI ν 10 (24 + 3 * k + 2) v).1 0 = ν.1 0 := fun ν v => zS_row ν (by decide) _ v
  unfold wNewPost zPostM
  rw [fk, if_pos okc, m0, yBd, yWL, fm, ex, ck]
  -- what is left of the twin once it failed
  have bad3 : ∀ (kk fr3 : Nat) (ν : wMem) (v : Int32), zBad kk fr3 ν → ∃ ρ, (wG (ok_in (nI (24 + 3 * k) + (2 : Int32)) 30) (wLet (wSI ν 10 (Int32.toNatClampNeg (nI (24 + 3 * k) + (2 : Int32))) v) fun μ31 => wBind (fX6_hasRead N 3 μ31) fun v34 μ33 => wBindV (fX6_tells N 3 (v34 + (1 : Int32)) μ33) fun μ36 => some μ36)) = some ρ ∧ zBad kk fr3 ρ ∧ zKm ν ρ := fun kk fr3 ν v B => by
    have e1 : fX6_hasRead N 3 (wSI ν 10 (24 + 3 * k + 2) v) = some ((wSI ν 10 (24 + 3 * k + 2) v).1 7 31, wSI ν 10 (24 + 3 * k + 2) v) := zm_has (j := 3) (by decide) N _
    have e2 : ∀ (u : Int32) (σ : wMem), fX6_tells N 3 u σ = some (wSI σ 7 31 u) := fun u σ => zm_tells (j := 3) (by decide) u N σ
    refine ⟨wSI (wSI ν 10 (24 + 3 * k + 2) v) 7 31 ((wSI ν 10 (24 + 3 * k + 2) v).1 7 31 + (1 : Int32)), ?_, ?_, ?_⟩
    · rw [ex2, yG ok2, c2, yWL, e1, yBd, e2, yBV]
    · exact (B.w (w9'' ν v)).w (zS_row _ (by decide) _ _)
    · exact (zKm_w ν (by omega) v).trans (zKm_w _ (by omega) _)
  have bad2 : ∀ (kk fr3 : Nat) (ν : wMem) (v : Int32), zBad kk fr3 ν → ∃ ρ, (wG (ok_in (nI (24 + 3 * k) + (1 : Int32)) 30) (wLet (wSI ν 10 (Int32.toNatClampNeg (nI (24 + 3 * k) + (1 : Int32))) v) fun μ26 => wBind (fX6_number N 6683788 0 3 μ26) fun v29 μ28 => wG (ok_in (nI (24 + 3 * k) + (2 : Int32)) 30) (wLet (wSI μ28 10 (Int32.toNatClampNeg (nI (24 + 3 * k) + (2 : Int32))) v29) fun μ31 => wBind (fX6_hasRead N 3 μ31) fun v34 μ33 => wBindV (fX6_tells N 3 (v34 + (1 : Int32)) μ33) fun μ36 => some μ36))) = some ρ ∧ zBad kk fr3 ρ ∧ zKm ν ρ := fun kk fr3 ν v B => by
    have B1 := B.w (w9' ν v)
    obtain ⟨ρ, a1, a2, a3⟩ := bad3 kk fr3 (wSI ν 10 (24 + 3 * k + 1) v) 0 B1
    refine ⟨ρ, ?_, a2, (zKm_w ν (by omega) v).trans a3⟩
    rw [ex1, yG ok1, c1, yWL, zm_number_no B1.ne, yBd]
    exact a1
  rcases z_told S h12 (w := 9) (by decide) hN (lo := 0) (hi := 100) (by decide) (by decide) with ⟨v1, t1, μ1, μm1, p1, fr1, _, l1, j1, j2, j3, j4, j5, j6, j7⟩ | ⟨kk, t1, μ1, μm1, fr1, j1, j2, j3, j4, j5, j6⟩
  · have j1' : wTold wLen wByt N r t 9 0 100 μ = some (.inl (nI v1, t1, μ1)) := j1
    have j2' : fX6_number N 283619009 0 100 μm = some (nI v1, μm1) := j2
    rw [j1', zRl, j2', yBd, yG ok0, c0, yWL]
    have S1 := j3.w (ν := wSI μ1 (x + 2) k (nI v1)) (νm := wSI μm1 10 (24 + 3 * k) (nI v1)) (zS_row _ (by omega) _ _) (zS_row _ (by omega) _ _) (w9 _ _) (zS_row _ (by decide) _ _) rfl
    have q1 : (wSI μm1 10 (24 + 3 * k) (nI v1)).1 0 12 = 0 := by rw [w9]; exact j4
    have K1 : zKr r f x μ (wSI μ1 (x + 2) k (nI v1)) := j5.k.trans (zKr_w μ1 (by omega) k (nI v1))
    have M1 : zKm μm (wSI μm1 10 (24 + 3 * k) (nI v1)) := j6.b.k.trans (zKm_w μm1 (by omega) _)
    rcases z_told S1 q1 (w := 10) (by decide) hN (lo := 0) (hi := 9) (by decide) (by decide) with ⟨v2, t2, μ2, μm2, p2, fr2, _, l2, i1, i2, i3, i4, i5, i6, i7⟩ | ⟨kk, t2, μ2, μm2, fr2, i1, i2, i3, i4, i5, i6⟩
    · have i1' : wTold wLen wByt N r t1 10 0 9 (wSI μ1 (x + 2) k (nI v1)) = some (.inl (nI v2, t2, μ2)) := i1
      have i2' : fX6_number N 220307 0 9 (wSI μm1 10 (24 + 3 * k) (nI v1)) = some (nI v2, μm2) := i2
      rw [i1', zRl, i2', yBd, ex1, yG ok1, c1, yWL]
      have S2 := i3.w (ν := wSI μ2 (x + 3) k (nI v2)) (νm := wSI μm2 10 (24 + 3 * k + 1) (nI v2)) (zS_row _ (by omega) _ _) (zS_row _ (by omega) _ _) (w9' _ _) (zS_row _ (by decide) _ _) rfl
      have q2 : (wSI μm2 10 (24 + 3 * k + 1) (nI v2)).1 0 12 = 0 := by rw [w9']; exact i4
      have K2 : zKr r f x μ (wSI μ2 (x + 3) k (nI v2)) := (K1.trans i5.k).trans (zKr_w μ2 (by omega) k (nI v2))
      have M2 : zKm μm (wSI μm2 10 (24 + 3 * k + 1) (nI v2)) := (M1.trans i6.b.k).trans (zKm_w μm2 (by omega) _)
      rcases z_told S2 q2 (w := 11) (by decide) hN (lo := 0) (hi := 3) (by decide) (by decide) with ⟨v3, t3, μ3, μm3, p3, fr3, _, l3, u1, u2, u3, u4, u5, u6, u7⟩ | ⟨kk, t3, μ3, μm3, fr3, u1, u2, u3, u4, u5, u6⟩
      · have u1' : wTold wLen wByt N r t2 11 0 3 (wSI μ2 (x + 3) k (nI v2)) = some (.inl (nI v3, t3, μ3)) := u1
        have u2' : fX6_number N 6683788 0 3 (wSI μm2 10 (24 + 3 * k + 1) (nI v2)) = some (nI v3, μm3) := u2
        have f3 : (wSI μ3 (x + 4) k (nI v3)).1 f 3 = nI k := by
          rw [yS_get, if_neg (by omega), u5.1 f 3 (by omega), yS_get, if_neg (by omega), i5.1 f 3 (by omega), yS_get, if_neg (by omega), j5.1 f 3 (by omega), fk]
        have m3 : (wSI μm3 10 (24 + 3 * k + 2) (nI v3)).1 7 31 = nI k := by
          rw [yS_get, if_neg (by omega), u6.1 7 31 (by omega), yS_get, if_neg (by omega), i6.1 7 31 (by omega), yS_get, if_neg (by omega), j6.1 7 31 (by omega), fm]
        have e1 : fX6_hasRead N 3 (wSI μm3 10 (24 + 3 * k + 2) (nI v3)) = some ((wSI μm3 10 (24 + 3 * k + 2) (nI v3)).1 7 31, wSI μm3 10 (24 + 3 * k + 2) (nI v3)) := zm_has (j := 3) (by decide) N _
        have e2 : ∀ (u : Int32) (σ : wMem), fX6_tells N 3 u σ = some (wSI σ 7 31 u) := fun u σ => zm_tells (j := 3) (by decide) u N σ
        have k1 : nI k + (1 : Int32) = nI (k + 1) := nI_add k 1
        rw [u1', zRl, u2', yBd, ex2, yG ok2, c2, yWL, e1, yBd, e2, yBV, f3, m3, k1]
        left
        have zc : ∀ c i, (c = r → i < 2 ∨ 4 < i) → (wSI (wSI μ3 (x + 4) k (nI v3)) f 3 (nI (k + 1))).1 c i = if c = f ∧ i = 3 then nI (k + 1) else if c = x + 4 ∧ i = k then nI v3 else if c = x + 3 ∧ i = k then nI v2 else if c = x + 2 ∧ i = k then nI v1 else μ.1 c i := fun c i hc => by
          rw [yS_get, yS_get, u5.1 c i hc, yS_get, i5.1 c i hc, yS_get, j5.1 c i hc]
        have zt : ∀ c i, (c = 0 → i < 7 ∨ 13 < i) → (wSI (wSI μm3 10 (24 + 3 * k + 2) (nI v3)) 7 31 (nI (k + 1))).1 c i = if c = 7 ∧ i = 31 then nI (k + 1) else if c = 10 ∧ i = 24 + 3 * k + 2 then nI v3 else if c = 10 ∧ i = 24 + 3 * k + 1 then nI v2 else if c = 10 ∧ i = 24 + 3 * k then nI v1 else μm.1 c i := fun c i hc => by
          rw [yS_get, yS_get, u6.1 c i (by omega), yS_get, i6.1 c i (by omega), yS_get, j6.1 c i (by omega)]
        have Op := zPost_ok O (by omega) l1 l2 l3
        refine ⟨t3, _, _, p3, fr3, zPost φ v1 v2 v3, rfl, rfl, u3.w ?_ ?_ ?_ ?_ rfl, ?_, ⟨?_, ?_, Op, ?_⟩, ⟨v1, v2, v3, rfl⟩, ((K2.trans u5.k).trans (zKr_w μ3 (by omega) k (nI v3))).trans (zKr_w _ (by omega) 3 _), ((M2.trans u6.b.k).trans (zKm_w μm3 (by omega) _)).trans (zKm_w _ (by omega) _), Nat.lt_trans u7 (Nat.lt_trans i7 j7)⟩
        · rw [zS_row _ (by omega), zS_row _ (by omega)]
        · rw [zS_row _ (by omega), zS_row _ (by omega)]
        · rw [zS_row _ (by decide), zS_row _ (by decide)]
        · rw [zS_row _ (by decide), zS_row _ (by decide)]
        · rw [zS_row _ (by decide), zS_row _ (by decide)]
          exact u4
        · refine ⟨fun i hi => ?_, fun i hi => ?_, fun i hi => ?_, fun i hi => ?_, fun i hi => ?_, fun i hi => ?_, fun i hi => ?_⟩
          · rw [zc f i (by omega)]
            by_cases g : i = 3
            · rw [if_pos ⟨rfl, g⟩, g, zPost_03, hk]
            · rw [if_neg (fun z => g z.2), if_neg (by omega), if_neg (by omega), if_neg (by omega), zPost_0 _ _ _ _ g]
              exact F.1 i hi
          · rw [zPost_0 _ _ _ _ (by decide)] at hi
            rw [zc (x + 0) i (by omega), if_neg (by omega), if_neg (by omega), if_neg (by omega), if_neg (by omega), zPost_c _ _ _ _ (by decide)]
            exact F.2.1 i hi
          · rw [zPost_0 _ _ _ _ (by decide)] at hi
            rw [zc (x + 1) i (by omega), if_neg (by omega), if_neg (by omega), if_neg (by omega), if_neg (by omega), zPost_c _ _ _ _ (by decide)]
            exact F.2.2.1 i hi
          · rw [zPost_03, hk] at hi
            rw [zc (x + 2) i (by omega), if_neg (by omega), if_neg (by omega), if_neg (by omega), zPost_3, hk]
            by_cases g : i = k
            · rw [if_pos ⟨rfl, g⟩, if_pos g]
            · rw [if_neg (fun z => g z.2), if_neg g]
              exact F.2.2.2.1 i (by omega)
          · rw [zPost_03, hk] at hi
            rw [zc (x + 3) i (by omega), if_neg (by omega), if_neg (by omega), zPost_4, hk]
            by_cases g : i = k
            · rw [if_pos ⟨rfl, g⟩, if_pos g]
            · rw [if_neg (fun z => g z.2), if_neg (by omega), if_neg g]
              exact F.2.2.2.2.1 i (by omega)
          · rw [zPost_03, hk] at hi
            rw [zc (x + 4) i (by omega), if_neg (by omega), zPost_5, hk]
            by_cases g : i = k
            · rw [if_pos ⟨rfl, g⟩, if_pos g]
            · rw [if_neg (fun z => g z.2), if_neg (by omega), if_neg (by omega), if_neg g]
              exact F.2.2.2.2.2.1 i (by omega)
          · rw [zPost_0 _ _ _ _ (by decide), h6] at hi
            exact absurd hi (Nat.not_lt_zero i)
        · obtain ⟨⟨a0, a1, a2, a3, a4, a5, a6, a7⟩, b1, b2, b3, b4⟩ := Fm
          have t0 : ∀ c i, c ≠ 0 → c ≠ 10 → (c = 7 → i ≠ 31) → (wSI (wSI μm3 10 (24 + 3 * k + 2) (nI v3)) 7 31 (nI (k + 1))).1 c i = μm.1 c i := fun c i h1 h2 h3 => by
            rw [zt c i (fun z => absurd z h1), if_neg (fun z => h3 z.1 z.2), if_neg (fun z => h2 z.1), if_neg (fun z => h2 z.1), if_neg (fun z => h2 z.1)]
          have t10 : ∀ i, (wSI (wSI μm3 10 (24 + 3 * k + 2) (nI v3)) 7 31 (nI (k + 1))).1 10 i = if i = 24 + 3 * k + 2 then nI v3 else if i = 24 + 3 * k + 1 then nI v2 else if i = 24 + 3 * k then nI v1 else μm.1 10 i := fun i => by
            rw [zt 10 i (by omega), if_neg (by omega), yIf (propext ⟨fun z => z.2, fun z => ⟨rfl, z⟩⟩ : (10 = 10 ∧ i = 24 + 3 * k + 2) = (i = 24 + 3 * k + 2)), yIf (propext ⟨fun z => z.2, fun z => ⟨rfl, z⟩⟩ : (10 = 10 ∧ i = 24 + 3 * k + 1) = (i = 24 + 3 * k + 1)), yIf (propext ⟨fun z => z.2, fun z => ⟨rfl, z⟩⟩ : (10 = 10 ∧ i = 24 + 3 * k) = (i = 24 + 3 * k))]
          refine ⟨⟨?_, ?_, ?_, ?_, ?_, ?_, ?_, ?_⟩, fun i hi => ?_, fun i hi => ?_, fun i hi => ?_, fun i hi => ?_⟩
          · rw [t0 _ _ (by decide) (by decide) (by omega), zPost_0 _ _ _ _ (by decide)]; exact a0
          · rw [t0 _ _ (by decide) (by decide) (by omega), zPost_0 _ _ _ _ (by decide)]; exact a1
          · rw [t0 _ _ (by decide) (by decide) (by omega), zPost_0 _ _ _ _ (by decide)]; exact a2
          · rw [zt 7 _ (by omega), if_pos ⟨rfl, rfl⟩, zPost_03, hk]
          · rw [t0 _ _ (by decide) (by decide) (by omega), zPost_0 _ _ _ _ (by decide)]; exact a4
          · rw [t0 _ _ (by decide) (by decide) (by omega), zPost_0 _ _ _ _ (by decide)]; exact a5
          · rw [t0 _ _ (by decide) (by decide) (by omega), zPost_0 _ _ _ _ (by decide)]; exact a6
          · rw [t0 _ _ (by decide) (by decide) (by omega), zPost_0 _ _ _ _ (by decide)]; exact a7
          · rw [zPost_0 _ _ _ _ (by decide)] at hi
            rw [t0 _ _ (by decide) (by decide) (by omega), zPost_c _ _ _ _ (by decide)]; exact b1 i hi
          · rw [zPost_0 _ _ _ _ (by decide)] at hi
            rw [t0 _ _ (by decide) (by decide) (by omega), zPost_c _ _ _ _ (by decide)]; exact b2 i hi
          · rw [zPost_03, hk] at hi
            rw [t10, t10, t10, zPost_3, zPost_4, zPost_5, hk]
            by_cases g : i = k
            · rw [if_pos g, if_pos g, if_pos g, g, if_neg (by omega), if_neg (by omega), if_pos (by omega), if_neg (by omega), if_pos (by omega), if_pos (by omega)]
              exact ⟨rfl, rfl, rfl⟩
            · rw [if_neg g, if_neg g, if_neg g, if_neg (by omega), if_neg (by omega), if_neg (by omega), if_neg (by omega), if_neg (by omega), if_neg (by omega), if_neg (by omega), if_neg (by omega), if_neg (by omega)]
              exact b3 i (by omega)
          · rw [zPost_0 _ _ _ _ (by decide), h6] at hi
            exact absurd hi (Nat.not_lt_zero i)
        · unfold zPost
          rw [if_neg (by omega), if_neg (by omega), if_neg (by omega), if_neg (by omega)]
          exact h6
      · have u1' : wTold wLen wByt N r t2 11 0 3 (wSI μ2 (x + 3) k (nI v2)) = some (.inr (nI kk, t3, μ3)) := u1
        have u3' : fX6_number N 6683788 0 3 (wSI μm2 10 (24 + 3 * k + 1) (nI v2)) = some (nI 0, μm3) := u3
        obtain ⟨ρ, a1, a2, a3⟩ := bad3 kk fr3 μm3 (nI 0) u4
        rw [u1', zRr, u3', yBd]
        exact .inr ⟨kk, t3, μ3, ρ, fr3, rfl, u2, a1, a2, K2.trans u5.k, (M2.trans u6.k).trans a3⟩
    · have i1' : wTold wLen wByt N r t1 10 0 9 (wSI μ1 (x + 2) k (nI v1)) = some (.inr (nI kk, t2, μ2)) := i1
      have i3' : fX6_number N 220307 0 9 (wSI μm1 10 (24 + 3 * k) (nI v1)) = some (nI 0, μm2) := i3
      obtain ⟨ρ, a1, a2, a3⟩ := bad2 kk fr2 μm2 (nI 0) i4
      rw [i1', zRr, i3', yBd]
      exact .inr ⟨kk, t2, μ2, ρ, fr2, rfl, i2, a1, a2, K1.trans i5.k, (M1.trans i6.k).trans a3⟩
  · have j1' : wTold wLen wByt N r t 9 0 100 μ = some (.inr (nI kk, t1, μ1)) := j1
    have j3' : fX6_number N 283619009 0 100 μm = some (nI 0, μm1) := j3
    have B1 := j4.w (w9 μm1 (nI 0))
    obtain ⟨ρ, a1, a2, a3⟩ := bad2 kk fr1 (wSI μm1 10 (24 + 3 * k) (nI 0)) 0 B1
    rw [j1', zRr, j3', yBd, yG ok0, c0, yWL, zm_number_no B1.ne, yBd]
    exact .inr ⟨kk, t1, μ1, ρ, fr1, rfl, j2, a1, a2, j5.k, (j6.k.trans (zKm_w μm1 (by omega) _)).trans a3⟩
