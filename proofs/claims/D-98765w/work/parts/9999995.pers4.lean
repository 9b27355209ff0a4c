set_option maxRecDepth 100000
/-! part 9999995: a person is read -/
def zNewP (φ : Nat → Nat → Nat) (v1 v2 : Nat) : Nat → Nat → Nat := fun c i => if c = 0 ∧ i = 2 then φ 0 2 + 1 else if c = 1 ∧ i = φ 0 2 then v1 else if c = 2 ∧ i = φ 0 2 then v2 else φ c i
theorem zNewP_0 (φ : Nat → Nat → Nat) (v1 v2 : Nat) {i : Nat} (h : i ≠ 2) : zNewP φ v1 v2 0 i = φ 0 i := by
  unfold zNewP
  rw [if_neg (fun g => h g.2), if_neg (by omega), if_neg (by omega)]
theorem zNewP_02 (φ : Nat → Nat → Nat) (v1 v2 : Nat) : zNewP φ v1 v2 0 2 = φ 0 2 + 1 := by
  unfold zNewP
  rw [if_pos ⟨rfl, rfl⟩]
theorem zNewP_c (φ : Nat → Nat → Nat) (v1 v2 : Nat) {c : Nat} (h : c ≠ 0 ∧ c ≠ 1 ∧ c ≠ 2) (i : Nat) : zNewP φ v1 v2 c i = φ c i := by
  unfold zNewP
  rw [if_neg (by omega), if_neg (by omega), if_neg (by omega)]
theorem zNewP_1 (φ : Nat → Nat → Nat) (v1 v2 i : Nat) : zNewP φ v1 v2 1 i = if i = φ 0 2 then v1 else φ 1 i := by
  unfold zNewP
  rw [if_neg (by omega)]
  by_cases g : i = φ 0 2
  · rw [if_pos ⟨rfl, g⟩, if_pos g]
  · rw [if_neg (fun z => g z.2), if_neg (by omega), if_neg g]
theorem zNewP_2 (φ : Nat → Nat → Nat) (v1 v2 i : Nat) : zNewP φ v1 v2 2 i = if i = φ 0 2 then v2 else φ 2 i := by
  unfold zNewP
  rw [if_neg (by omega), if_neg (by omega)]
  by_cases g : i = φ 0 2
  · rw [if_pos ⟨rfl, g⟩, if_pos g]
  · rw [if_neg (fun z => g z.2), if_neg g]
theorem zNewP_ok {φ : Nat → Nat → Nat} (O : yOk φ) (h : φ 0 2 < 6) {v1 v2 : Nat} (h1 : v1 ≤ 100) (h2 : v2 ≤ 9) : yOk (zNewP φ v1 v2) := by
  have e := fun i (h : i ≠ 2) => zNewP_0 φ v1 v2 h
  refine ⟨by rw [e 0 (by decide)]; exact O.loaf, by rw [e 1 (by decide)]; exact O.lines, by rw [zNewP_02]; omega, by rw [e 3 (by decide)]; exact O.posts, by rw [e 4 (by decide)]; exact O.children, by rw [e 5 (by decide)]; exact O.stay, by rw [e 6 (by decide)]; exact O.acts, by rw [e 7 (by decide)]; exact O.compares, ?_, ?_, ?_, ?_, ?_⟩
  · intro i hi
    rw [zNewP_02] at hi
    rw [zNewP_1]
    by_cases g : i = φ 0 2
    · rw [if_pos g]; exact h1
    · rw [if_neg g]; exact O.like i (by omega)
  · intro i hi
    rw [zNewP_02] at hi
    rw [zNewP_2]
    by_cases g : i = φ 0 2
    · rw [if_pos g]; exact h2
    · rw [if_neg g]; exact O.nose i (by omega)
  · intro i hi
    rw [e 3 (by decide)] at hi
    rw [zNewP_c _ _ _ (by decide)]; exact O.strict i hi
  · intro i hi
    rw [e 3 (by decide)] at hi
    rw [zNewP_c _ _ _ (by decide)]; exact O.keen i hi
  · intro i hi
    rw [e 3 (by decide)] at hi
    rw [zNewP_c _ _ _ (by decide)]; exact O.looks i hi
theorem zFa_of {φ : Nat → Nat → Nat} {f x : Nat} {μ μm ν νm : wMem} (A : zFa φ f x μ μm) (h : ∀ c i, c = f ∨ (x ≤ c ∧ c ≤ x + 5) → (c = x ∨ c = x + 1 → i < φ 0 2) → ν.1 c i = μ.1 c i) (hm : ∀ c i, 6 ≤ c → c ≤ 11 → (c = 8 ∨ c = 9 → i < 24 + φ 0 2) → νm.1 c i = μm.1 c i) (hx : x = f + 1) : zFa φ f x ν νm := by
  obtain ⟨F, ⟨⟨a0, a1, a2, a3, a4, a5, a6, a7⟩, b1, b2, b3, b4⟩, O, h6⟩ := A
  refine ⟨⟨fun i hi => ?_, fun i hi => ?_, fun i hi => ?_, fun i hi => ?_, fun i hi => ?_, fun i hi => ?_, fun i hi => ?_⟩, ⟨⟨?_, ?_, ?_, ?_, ?_, ?_, ?_, ?_⟩, fun i hi => ?_, fun i hi => ?_, fun i hi => ?_, fun i hi => ?_⟩, O, h6⟩
  · rw [h f i (.inl rfl) (by omega)]; exact F.1 i hi
  · rw [h _ i (by omega) (fun _ => hi)]; exact F.2.1 i hi
  · rw [h _ i (by omega) (fun _ => hi)]; exact F.2.2.1 i hi
  · rw [h _ i (by omega) (by omega)]; exact F.2.2.2.1 i hi
  · rw [h _ i (by omega) (by omega)]; exact F.2.2.2.2.1 i hi
  · rw [h _ i (by omega) (by omega)]; exact F.2.2.2.2.2.1 i hi
  · rw [h _ i (by omega) (by omega)]; exact F.2.2.2.2.2.2 i hi
  · rw [hm _ _ (by decide) (by decide) (by omega)]; exact a0
  · rw [hm _ _ (by decide) (by decide) (by omega)]; exact a1
  · rw [hm _ _ (by decide) (by decide) (by omega)]; exact a2
  · rw [hm _ _ (by decide) (by decide) (by omega)]; exact a3
  · rw [hm _ _ (by decide) (by decide) (by omega)]; exact a4
  · rw [hm _ _ (by decide) (by decide) (by omega)]; exact a5
  · rw [hm _ _ (by decide) (by decide) (by omega)]; exact a6
  · rw [hm _ _ (by decide) (by decide) (by omega)]; exact a7
  · rw [hm _ _ (by decide) (by decide) (by omega)]; exact b1 i hi
  · rw [hm _ _ (by decide) (by decide) (by omega)]; exact b2 i hi
  · rw [hm _ _ (by decide) (by decide) (by omega), hm _ _ (by decide) (by decide) (by omega), hm _ _ (by decide) (by decide) (by omega)]; exact b3 i hi
  · rw [hm _ _ (by decide) (by decide) (by omega)]; exact b4 i hi
/-- the person is there now -/
theorem zFa_newP {φ : Nat → Nat → Nat} {f x k : Nat} {μ μm : wMem} (A : zFa φ f x μ μm) (hx : x = f + 1) (hk : φ 0 2 = k) (k6 : k < 6) {v1 v2 : Nat} (h1 : v1 ≤ 100) (h2 : v2 ≤ 9) (c1 : μ.1 (x + 0) k = nI v1) (c2 : μ.1 (x + 1) k = nI v2) (d1 : μm.1 8 (24 + k) = nI v1) (d2 : μm.1 9 (24 + k) = nI v2) : zFa (zNewP φ v1 v2) f x (wSI μ f 2 (nI (k + 1))) (wSI μm 7 30 (nI (k + 1))) := by
  obtain ⟨F, ⟨⟨a0, a1, a2, a3, a4, a5, a6, a7⟩, b1, b2, b3, b4⟩, O, h6⟩ := A
  have e := fun i (h : i ≠ 2) => zNewP_0 φ v1 v2 h
  have kc : ∀ c i, ¬ (c = f ∧ i = 2) → (wSI μ f 2 (nI (k + 1))).1 c i = μ.1 c i := fun c i h => by rw [yS_get, if_neg h]
  have km : ∀ c i, ¬ (c = 7 ∧ i = 30) → (wSI μm 7 30 (nI (k + 1))).1 c i = μm.1 c i := fun c i h => by rw [yS_get, if_neg h]
  refine ⟨⟨fun i hi => ?_, fun i hi => ?_, fun i hi => ?_, fun i hi => ?_, fun i hi => ?_, fun i hi => ?_, fun i hi => ?_⟩, ⟨⟨?_, ?_, ?_, ?_, ?_, ?_, ?_, ?_⟩, fun i hi => ?_, fun i hi => ?_, fun i hi => ?_, fun i hi => ?_⟩, zNewP_ok O (by omega) h1 h2, by rw [e 6 (by decide)]; exact h6⟩
  · by_cases g : i = 2
    · rw [g, zNewP_02, yS_get, if_pos ⟨rfl, rfl⟩, hk]
    · rw [kc f i (by omega), e i g]; exact F.1 i hi
  · rw [zNewP_02, hk] at hi
    rw [kc _ i (by omega), zNewP_1, hk]
    by_cases g : i = k
    · rw [if_pos g, g]; exact c1
    · rw [if_neg g]; exact F.2.1 i (by omega)
  · rw [zNewP_02, hk] at hi
    rw [kc _ i (by omega), zNewP_2, hk]
    by_cases g : i = k
    · rw [if_pos g, g]; exact c2
    · rw [if_neg g]; exact F.2.2.1 i (by omega)
  · rw [e 3 (by decide)] at hi
    rw [kc _ i (by omega), zNewP_c _ _ _ (by decide)]; exact F.2.2.2.1 i hi
  · rw [e 3 (by decide)] at hi
    rw [kc _ i (by omega), zNewP_c _ _ _ (by decide)]; exact F.2.2.2.2.1 i hi
  · rw [e 3 (by decide)] at hi
    rw [kc _ i (by omega), zNewP_c _ _ _ (by decide)]; exact F.2.2.2.2.2.1 i hi
  · rw [e 6 (by decide), h6] at hi
    exact absurd hi (Nat.not_lt_zero i)
  · rw [km _ _ (by omega), e 0 (by decide)]; exact a0
  · rw [km _ _ (by omega), e 1 (by decide)]; exact a1
  · rw [yS_get, if_pos ⟨rfl, rfl⟩, zNewP_02, hk]
  · rw [km _ _ (by omega), e 3 (by decide)]; exact a3
  · rw [km _ _ (by omega), e 4 (by decide)]; exact a4
  · rw [km _ _ (by omega), e 5 (by decide)]; exact a5
  · rw [km _ _ (by omega), e 6 (by decide)]; exact a6
  · rw [km _ _ (by omega), e 7 (by decide)]; exact a7
  · rw [zNewP_02, hk] at hi
    rw [km _ _ (by omega), zNewP_1, hk]
    by_cases g : i = k
    · rw [if_pos g, g]; exact d1
    · rw [if_neg g]; exact b1 i (by omega)
  · rw [zNewP_02, hk] at hi
    rw [km _ _ (by omega), zNewP_2, hk]
    by_cases g : i = k
    · rw [if_pos g, g]; exact d2
    · rw [if_neg g]; exact b2 i (by omega)
  · rw [e 3 (by decide)] at hi
    rw [km _ _ (by omega), km _ _ (by omega), km _ _ (by omega), zNewP_c _ _ _ (by decide), zNewP_c _ _ _ (by decide), zNewP_c _ _ _ (by decide)]; exact b3 i hi
  · rw [e 6 (by decide), h6] at hi
    exact absurd hi (Nat.not_lt_zero i)
theorem z_newPerson {b : Nat → Int32} {n r f x t p fr : Nat} {μ μm : wMem} (hr : 21 < r) (hf : r < f) (hx : x = f + 1) (S : zSy b n r μ μm t p fr) (h12 : μm.1 0 12 = 0) {φ : Nat → Nat → Nat} (A : zFa φ f x μ μm) (h6' : φ 0 2 < 6) {N : Nat} (hN : 2000 ≤ N) :
    zOut3 b n r f x (zM n t p) μ μm (wNewPerson wLen wByt N r f x t μ) (fX6_personLine N μm) (fun ψ => ∃ ch st v1 v2, ψ = zNewP (zKid φ ch st) v1 v2) := by
  generalize hk : φ 0 2 = k at h6'
  have n6 := S.1.2.1
  have fk : μ.1 f 2 = nI k := (A.1.1 2 (by decide)).trans (by rw [hk])
  have fm : μm.1 7 30 = nI k := by rw [← hk]; exact A.2.1.1.2.2.1
  have m0 : fX6_hasRead N 2 μm = some (μm.1 7 30, μm) := zm_has (j := 2) (by decide) N μm
  have ex : (24 : Int32) + nI k = nI (24 + k) := nI_add 24 k
  have okc : ok_in (nI k) 6 = true := xI_in h6' (by decide)
  have ck : (nI k).toNatClampNeg = k := xI_cl (by omega)
  have ok0 : ok_in (nI (24 + k)) 30 = true := xI_in (by omega) (by decide)
  have c0 : (nI (24 + k)).toNatClampNeg = 24 + k := xI_cl (by omega)
  have k1 : nI k + (1 : Int32) = nI (k + 1) := nI_add k 1
  have e2 : ∀ (u : Int32) (σ : wMem), fX6_tells N 2 u σ = some (wSI σ 7 30 u) := fun u σ => zm_tells (j := 2) (by decide) u N σ
  have loopbad : ∀ (ν : wMem), ¬ ν.1 0 12 = 0 → ∀ K : wMem → Option wMem, gX6_personLine_44 N (nI k) K N ν = K ν := fun ν h K => by
    obtain ⟨q, hq⟩ : ∃ q, N = q + 1 := ⟨N - 1, by omega⟩
    have : ∀ M, gX6_personLine_44 N (nI k) K (M + 1) ν = K ν := fun M => by
      show gbX6_personLine_44 N (nI k) K _ ν = _
      unfold gbX6_personLine_44
      rw [zm_good_no h, yBd, if_pos rfl]
    have e := this q
    rw [← hq] at e
    exact e
  unfold wNewPerson fX6_personLine
  rw [fk, if_pos okc, m0, yBd, fm, ex, ck]
  rcases z_told S h12 (w := 4) (by decide) hN (lo := 0) (hi := 100) (by decide) (by decide) with ⟨v1, t1, μ1, μm1, p1, fr1, _, l1, j1, j2, j3, j4, j5, j6, j7⟩ | ⟨kk, t1, μ1, μm1, fr1, j1, j2, j3, j4, j5, j6⟩
  · have j1' : wTold wLen wByt N r t 4 0 100 μ = some (.inl (nI v1, t1, μ1)) := j1
    have j2' : fX6_number N 243059 0 100 μm = some (nI v1, μm1) := j2
    rw [j1', zRl, j2', yBd, yG ok0, c0, yWL]
    have S1 := j3.w (ν := wSI μ1 (x + 0) k (nI v1)) (νm := wSI μm1 8 (24 + k) (nI v1)) (zS_row _ (by omega) _ _) (zS_row _ (by omega) _ _) (zS_row _ (by decide) _ _) (zS_row _ (by decide) _ _) rfl
    have q1 : (wSI μm1 8 (24 + k) (nI v1)).1 0 12 = 0 := by rw [zS_row _ (by decide)]; exact j4
    have K1 : zKr r f x μ (wSI μ1 (x + 0) k (nI v1)) := j5.k.trans (zKr_w μ1 (by omega) k (nI v1))
    have M1 : zKm μm (wSI μm1 8 (24 + k) (nI v1)) := j6.b.k.trans (zKm_w μm1 (by omega) _)
    have A1 : zFa φ f x (wSI μ1 (x + 0) k (nI v1)) (wSI μm1 8 (24 + k) (nI v1)) := zFa_of (zFa_fr A hf (by omega) j5 j6.b) (fun c i h1 h2 => by rw [yS_get, if_neg (by omega)]) (fun c i h1 h2 h3 => by rw [yS_get, if_neg (by omega)]) hx
    rcases z_told S1 q1 (w := 5) (by decide) hN (lo := 0) (hi := 9) (by decide) (by decide) with ⟨v2, t2, μ2, μm2, p2, fr2, _, l2, i1, i2, i3, i4, i5, i6, i7⟩ | ⟨kk, t2, μ2, μm2, fr2, i1, i2, i3, i4, i5, i6⟩
    · have i1' : wTold wLen wByt N r t1 5 0 9 (wSI μ1 (x + 0) k (nI v1)) = some (.inl (nI v2, t2, μ2)) := i1
      have i2' : fX6_number N 287015 0 9 (wSI μm1 8 (24 + k) (nI v1)) = some (nI v2, μm2) := i2
      rw [i1', zRl, i2', yBd, yG ok0, yWL]
      have S2 := i3.w (ν := wSI μ2 (x + 1) k (nI v2)) (νm := wSI μm2 9 (24 + k) (nI v2)) (zS_row _ (by omega) _ _) (zS_row _ (by omega) _ _) (zS_row _ (by decide) _ _) (zS_row _ (by decide) _ _) rfl
      have q2 : (wSI μm2 9 (24 + k) (nI v2)).1 0 12 = 0 := by rw [zS_row _ (by decide)]; exact i4
      have K2 : zKr r f x μ (wSI μ2 (x + 1) k (nI v2)) := (K1.trans i5.k).trans (zKr_w μ2 (by omega) k (nI v2))
      have M2 : zKm μm (wSI μm2 9 (24 + k) (nI v2)) := (M1.trans i6.b.k).trans (zKm_w μm2 (by omega) _)
      have A2 : zFa φ f x (wSI μ2 (x + 1) k (nI v2)) (wSI μm2 9 (24 + k) (nI v2)) := zFa_of (zFa_fr A1 hf (by omega) i5 i6.b) (fun c i h1 h2 => by rw [yS_get, if_neg (by omega)]) (fun c i h1 h2 h3 => by rw [yS_get, if_neg (by omega)]) hx
      have zm : zM n t2 p2 ≤ 1201 := by
        unfold zM
        by_cases g : t2 = 0
        · rw [if_pos g]; omega
        · rw [if_neg g]; omega
      rcases z_pl hr hf hx h6' hN (zM n t2 p2) N N t2 p2 fr2 φ _ _ (Nat.le_refl _) (by omega) (by omega) S2 q2 A2 with ⟨μ3, μm3, p3, fr3, ch, st, u1, u2, u3, u4, u5, u6, u7, u8⟩ | ⟨t3, μ3, μm3, fr3, u1, u2, u3, u4, u5, u6⟩ | ⟨t3, μ3, μm3, fr3, u1, u2, u3, u4, u5, u6, u7, u8, u9, u10⟩
      · have u5k : zKid φ ch st 0 2 = k := (zKid_0 φ ch st (by decide)).trans hk
        have f3 : μ3.1 f 2 = nI k := (u5.1.1 2 (by decide)).trans (by rw [u5k])
        have d1 : μ3.1 (x + 0) k = nI v1 := by rw [u6.1 (x + 0) k (by omega) (by omega), yS_get, if_neg (by omega), i5.1 (x + 0) k (by omega), yS_get, if_pos ⟨rfl, rfl⟩]
        have d2 : μ3.1 (x + 1) k = nI v2 := by rw [u6.1 (x + 1) k (by omega) (by omega), yS_get, if_pos ⟨rfl, rfl⟩]
        have d3 : μm3.1 8 (24 + k) = nI v1 := by rw [u7.1 8 (24 + k) (by omega) (by omega), yS_get, if_neg (by omega), i6.1 8 (24 + k) (by omega), yS_get, if_pos ⟨rfl, rfl⟩]
        have d4 : μm3.1 9 (24 + k) = nI v2 := by rw [u7.1 9 (24 + k) (by omega) (by omega), yS_get, if_pos ⟨rfl, rfl⟩]
        refine .inl (.inl ⟨3, wSI μ3 f 2 (nI (k + 1)), wSI μm3 7 30 (nI (k + 1)), p3, fr3, zNewP (zKid φ ch st) v1 v2, ?_, ?_, u3.w (zS_row _ (by omega) _ _) (zS_row _ (by omega) _ _) (zS_row _ (by decide) _ _) (zS_row _ (by decide) _ _) rfl, by rw [zS_row _ (by decide)]; exact u4, zFa_newP u5 hx u5k h6' l1 l2 d1 d2 d3 d4, ⟨ch, st, v1, v2, rfl⟩, (K2.trans u6.k).trans (zKr_w μ3 (.inl rfl) 2 _), (M2.trans u7.k).trans (zKm_w μm3 (by omega) _), Nat.lt_of_le_of_lt u8 (Nat.lt_trans i7 j7)⟩)
        · rw [u1, zRl, f3, k1]
        · refine (u2 _).trans ?_
          rw [e2, yBV, k1]
      · refine .inl (.inr ⟨1, t3, μ3, μm3, fr3, ?_, u2, u3 _, u4, K2.trans u5.k, M2.trans u6.k⟩)
        rw [u1, zRr]
      · refine .inr ⟨t3, μ3, wSI μm3 7 30 (nI (k + 1)), fr3, ?_, u2, u3, u4, ?_, by rw [zS_row _ (by decide)]; exact u6, by rw [zS_row _ (by decide)]; exact u7, by rw [zS_row _ (by decide)]; exact u8, K2.trans u9.k, (M2.trans u10.k).trans (zKm_w μm3 (by omega) _)⟩
        · rw [u1, zRr]
        · refine (u5 _).trans ?_
          rw [e2, yBV, k1]
    · have i1' : wTold wLen wByt N r t1 5 0 9 (wSI μ1 (x + 0) k (nI v1)) = some (.inr (nI kk, t2, μ2)) := i1
      have i3' : fX6_number N 287015 0 9 (wSI μm1 8 (24 + k) (nI v1)) = some (nI 0, μm2) := i3
      have B2 : zBad kk fr2 (wSI μm2 9 (24 + k) (nI 0)) := i4.w (zS_row _ (by decide) _ _)
      rw [i1', zRr, i3', yBd, yG ok0, yWL, loopbad _ B2.ne, e2, yBV]
      exact .inl (.inr ⟨kk, t2, μ2, _, fr2, rfl, i2, rfl, B2.w (zS_row _ (by decide) _ _), K1.trans i5.k, ((M1.trans i6.k).trans (zKm_w μm2 (by omega) _)).trans (zKm_w _ (by omega) _)⟩)
  · have j1' : wTold wLen wByt N r t 4 0 100 μ = some (.inr (nI kk, t1, μ1)) := j1
    have j3' : fX6_number N 243059 0 100 μm = some (nI 0, μm1) := j3
    have B1 : zBad kk fr1 (wSI μm1 8 (24 + k) (nI 0)) := j4.w (zS_row _ (by decide) _ _)
    have B2 : zBad kk fr1 (wSI (wSI μm1 8 (24 + k) (nI 0)) 9 (24 + k) 0) := B1.w (zS_row _ (by decide) _ _)
    rw [j1', zRr, j3', yBd, yG ok0, c0, yWL, zm_number_no B1.ne, yBd, yG ok0, yWL, loopbad _ B2.ne, e2, yBV]
    exact .inl (.inr ⟨kk, t1, μ1, _, fr1, rfl, j2, rfl, B2.w (zS_row _ (by decide) _ _), j5.k, ((j6.k.trans (zKm_w μm1 (by omega) _)).trans (zKm_w _ (by omega) _)).trans (zKm_w _ (by omega) _)⟩)
