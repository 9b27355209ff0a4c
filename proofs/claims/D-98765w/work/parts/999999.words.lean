set_option maxRecDepth 100000
/-! part 999999: words: letter by letter, or by a number -/
theorem zLet {x : Int32} (h : ¬ (x < 97 ∨ (122 : Int32) < x)) : ∃ d, 1 ≤ d ∧ d ≤ 26 ∧ x = nI (d + 96) ∧ (x.toInt - 96).toNat = d := by
  rw [Int32.lt_iff_toInt_lt, Int32.lt_iff_toInt_lt] at h
  have e1 : (97 : Int32).toInt = 97 := by decide
  have e2 : (122 : Int32).toInt = 122 := by decide
  rw [e1, e2] at h
  refine ⟨(x.toInt - 96).toNat, by omega, by omega, ?_, rfl⟩
  apply Int32.toInt_inj.mp
  rw [nI_toInt (by omega)]
  omega
def zE (b : Nat → Int32) (fr : Nat) : Nat → Nat
  | 0 => 0
  | k + 1 => 27 * zE b fr k + ((b (fr + k)).toInt - 96).toNat
def zLs (b : Nat → Int32) (fr m : Nat) : Prop := ∀ j, j < m → ¬ (b (fr + j) < 97 ∨ (122 : Int32) < b (fr + j))
theorem zE_lt {b : Nat → Int32} {fr : Nat} : ∀ m, zLs b fr m → zE b fr m < 27 ^ m := by
  intro m
  induction m with
  | zero => intro _; exact Nat.one_pos
  | succ m ih =>
    intro h
    have a := ih (fun j hj => h j (by omega))
    obtain ⟨d, h1, h2, _, h4⟩ := zLet (h m (by omega))
    show 27 * zE b fr m + ((b (fr + m)).toInt - 96).toNat < 27 ^ (m + 1)
    rw [h4, Nat.pow_succ]
    omega
theorem zHw_E {b : Nat → Int32} {fr : Nat} : ∀ m, m ≤ 12 → zLs b fr m → zHw b fr m = lN (zE b fr m) := by
  intro m
  induction m with
  | zero => intro _ _; rfl
  | succ m ih =>
    intro hm h
    have a := ih (by omega) (fun j hj => h j (by omega))
    obtain ⟨d, h1, h2, h3, h4⟩ := zLet (h m (by omega))
    show (if m ≤ 11 then 27 * zHw b fr m + (b (fr + m)).toInt64 - 96 else -1) = lN (27 * zE b fr m + ((b (fr + m)).toInt - 96).toNat)
    rw [if_pos (by omega), a, h4, h3, xI_l (by omega)]
    have e1 : lN (27 * zE b fr m + d) = 27 * lN (zE b fr m) + lN d := by
      show Int64.ofNat _ = _
      rw [Int64.ofNat_add, Int64.ofNat_mul]
      rfl
    have e2 : lN (d + 96) = lN d + 96 := by
      show Int64.ofNat _ = _
      rw [Int64.ofNat_add]
      rfl
    rw [e1, e2, ← Int64.add_assoc, Int64.add_sub_cancel]
theorem zHw_long {b : Nat → Int32} {fr m : Nat} (hm : 12 < m) : zHw b fr m = -1 := by
  obtain ⟨k, rfl⟩ : ∃ k, m = k + 1 := ⟨m - 1, by omega⟩
  show (if k ≤ 11 then _ else _) = _
  rw [if_neg (by omega)]
theorem zE_inj {b c : Nat → Int32} {fr fc : Nat} : ∀ m k, zLs b fr m → zLs c fc k → zE b fr m = zE c fc k → m = k ∧ ∀ j, j < m → b (fr + j) = c (fc + j) := by
  intro m
  induction m with
  | zero =>
    intro k h1 h2 e
    match k with
    | 0 => exact ⟨rfl, fun j hj => absurd hj (Nat.not_lt_zero j)⟩
    | k + 1 =>
      obtain ⟨d, a1, a2, a3, a4⟩ := zLet (h2 k (by omega))
      have e2 : 0 = 27 * zE c fc k + ((c (fc + k)).toInt - 96).toNat := e
      omega
  | succ m ih =>
    intro k h1 h2 e
    obtain ⟨d, a1, a2, a3, a4⟩ := zLet (h1 m (by omega))
    match k with
    | 0 =>
      have e2 : 27 * zE b fr m + ((b (fr + m)).toInt - 96).toNat = 0 := e
      omega
    | k + 1 =>
      obtain ⟨f, f1, f2, f3, f4⟩ := zLet (h2 k (by omega))
      have e2 : 27 * zE b fr m + ((b (fr + m)).toInt - 96).toNat = 27 * zE c fc k + ((c (fc + k)).toInt - 96).toNat := e
      rw [a4, f4] at e2
      obtain ⟨g1, g2⟩ := ih k (fun j hj => h1 j (by omega)) (fun j hj => h2 j (by omega)) (by omega)
      subst g1
      refine ⟨rfl, fun j hj => ?_⟩
      by_cases q : j = m
      · subst q
        rw [a3, f3]
        congr 1
        omega
      · exact g2 j (by omega)
/-- the words' letters and numbers -/
def zWc (w : Nat) : Nat → Int32 := fun j => (wByt.getD w []).getD j 0
def zWh : Nat → Int64
  | 0 => 86887672
  | 1 => 247164
  | 2 => 1384719953
  | 3 => 232608281
  | 4 => 243059
  | 5 => 287015
  | 6 => 1758676
  | 7 => 10492462
  | 8 => 326396
  | 9 => 283619009
  | 10 => 220307
  | _ => 6683788
theorem zW_h : ∀ w, w < 12 → zWh w = lN (zE (zWc w) 0 (wLen.getD w 0)) ∧ wLen.getD w 0 ≤ 12 ∧ (∀ j, j < wLen.getD w 0 → wCh (zWc w j) = zWc w j ∧ 97 ≤ (zWc w j).toInt ∧ (zWc w j).toInt ≤ 122) := by decide +kernel
theorem zW_ls {w : Nat} (hw : w < 12) : zLs (zWc w) 0 (wLen.getD w 0) := fun j hj => by
  rw [Nat.zero_add, Int32.lt_iff_toInt_lt, Int32.lt_iff_toInt_lt]
  have e1 : (97 : Int32).toInt = 97 := by decide
  have e2 : (122 : Int32).toInt = 122 := by decide
  obtain ⟨_, a, c⟩ := (zW_h w hw).2.2 j hj
  omega
theorem z_isk {b : Nat → Int32} {n r fr w L : Nat} {μ : wMem} (T : yTc b n r μ) (h3 : μ.1 r 3 = nI fr) (hL : wLen.getD w 0 = L) (hp : fr + L ≤ n) (hc : ∀ j, j < L → wCh (zWc w j) = zWc w j) : ∀ (d k N : Nat), k + d = L → d < N → ∃ v : Bool, wIsk wLen wByt r w μ N (nI k) = some (yB v) ∧ (v = true ↔ ∀ j, k ≤ j → j < L → b (fr + j) = zWc w j) := by
  have n6 := T.2.1
  intro d
  induction d with
  | zero =>
    intro k N hk hN
    obtain ⟨N, rfl⟩ : ∃ q, N = q + 1 := ⟨N - 1, by omega⟩
    refine ⟨true, ?_, ⟨fun _ j h1 h2 => by omega, fun _ => rfl⟩⟩
    unfold wIsk
    rw [hL]
    have e : (nI k < Int32.ofNat L) = (k < L) := xI_lt (a := k) (b := L) (by omega) (by omega)
    rw [yIf e, if_neg (by omega)]
    rfl
  | succ d ih =>
    intro k N hk hN
    obtain ⟨N, rfl⟩ : ∃ q, N = q + 1 := ⟨N - 1, by omega⟩
    obtain ⟨v, j1, j2⟩ := ih (k + 1) N (by omega) (by omega)
    have e : (nI k < Int32.ofNat L) = (k < L) := xI_lt (a := k) (b := L) (by omega) (by omega)
    have e0 : (nI k < (0 : Int32)) = (k < 0) := xI_lt (b := 0) (by omega) (by decide)
    have ea : nI fr + nI k = nI (fr + k) := nI_add fr k
    have add1 : nI k + (1 : Int32) = nI (k + 1) := nI_add k 1
    have e8 : μ.1 8 (fr + k) = b (fr + k) := T.2.2.2 _ (by omega)
    have ec : wCh ((wByt.getD w []).getD k 0) = zWc w k := hc k (by omega)
    unfold wIsk
    rw [hL, yIf e, if_pos (by omega), h3, ea, if_pos (xI_in (by omega) (by decide)), if_pos (xI_in (by omega) (by omega)), yIf e0, if_neg (by omega), xI_cl (by omega), xI_cl (by omega), e8, ec, add1]
    by_cases g : b (fr + k) = zWc w k
    · rw [if_pos g]
      refine ⟨v, j1, ⟨fun hv j h1 h2 => ?_, fun h => j2.mpr fun j h1 h2 => h j (by omega) h2⟩⟩
      by_cases q : j = k
      · rw [q]; exact g
      · exact j2.mp hv j (by omega) h2
    · rw [if_neg g]
      exact ⟨false, rfl, ⟨fun h => absurd h (by decide), fun h => absurd (h k (Nat.le_refl _) (by omega)) g⟩⟩
theorem z_is {b : Nat → Int32} {n r t p fr : Nat} {μ μm : wMem} (S : zSy b n r μ μm t p fr) (h12 : μm.1 0 12 = 0) {w : Nat} (hw : w < 12) {N : Nat} (hN : 1000 ≤ N) : ∃ v : Bool, wIs wLen wByt N r t w μ = some (yB v) ∧ fX6_is N (zWh w) μm = some (yB v, μm) ∧ (v = true → t = 1) := by
  obtain ⟨T, Tm, hp, hfr, ht, c2, c7, c3, c9, c8, _, cw⟩ := S
  have n6 := T.2.1
  have e8 : (nI t = (1 : Int32)) = (t = 1) := xI_eq (b := 1) (by omega) (by decide)
  unfold wIs fX6_is
  rw [if_pos h12, c8, yIf e8]
  by_cases g : t = 1
  · obtain ⟨hw1, hl⟩ := cw g
    obtain ⟨a1, a2, a3⟩ := zW_h w hw
    have LS : zLs b fr (p - fr) := fun j hj => hl _ (by omega) (by omega)
    rw [if_pos g, if_pos g, c2, c3, xI_sub hfr, hw1]
    have el : (nI (p - fr) = Int32.ofNat (wLen.getD w 0)) = (p - fr = wLen.getD w 0) := xI_eq (a := p - fr) (b := wLen.getD w 0) (by omega) (by omega)
    rw [yIf el]
    have key : zHw b fr (p - fr) = zWh w ↔ p - fr = wLen.getD w 0 ∧ ∀ j, j < p - fr → b (fr + j) = zWc w j := by
      have lw := zE_lt _ (zW_ls hw)
      have p12 : (27 : Nat) ^ (wLen.getD w 0) ≤ 27 ^ 12 := Nat.pow_le_pow_right (by decide) a2
      have k12 : (27 : Nat) ^ 12 < 2 ^ 63 := by decide
      constructor
      · intro e
        rcases Nat.lt_or_ge 12 (p - fr) with q | q
        · rw [zHw_long q, a1] at e
          exfalso
          have := congrArg Int64.toInt e
          rw [lN_toInt63 (by omega)] at this
          have e1 : (-1 : Int64).toInt = -1 := by decide
          rw [e1] at this
          omega
        · rw [zHw_E _ q LS, a1] at e
          have lb := zE_lt _ LS
          have p13 : (27 : Nat) ^ (p - fr) ≤ 27 ^ 12 := Nat.pow_le_pow_right (by decide) q
          have := congrArg Int64.toInt e
          rw [lN_toInt63 (by omega), lN_toInt63 (by omega)] at this
          obtain ⟨i1, i2⟩ := zE_inj _ _ LS (zW_ls hw) (by omega)
          exact ⟨i1, fun j hj => by have := i2 j hj; rwa [Nat.zero_add] at this⟩
      · rintro ⟨e1, e2⟩
        rw [zHw_E _ (by omega) LS, a1, e1]
        have : ∀ m, m ≤ p - fr → zE b fr m = zE (zWc w) 0 m := by
          intro m
          induction m with
          | zero => intro _; rfl
          | succ m ih =>
            intro hm
            show 27 * zE b fr m + ((b (fr + m)).toInt - 96).toNat = 27 * zE (zWc w) 0 m + ((zWc w (0 + m)).toInt - 96).toNat
            rw [ih (by omega), e2 m (by omega), Nat.zero_add]
        rw [← this _ (by omega)]
    by_cases q : p - fr = wLen.getD w 0
    · rw [if_pos q]
      obtain ⟨v, j1, j2⟩ := z_isk (L := wLen.getD w 0) T c3 rfl (by omega) (fun j hj => (a3 j hj).1) (wLen.getD w 0) 0 N (by omega) (by omega)
      refine ⟨v, j1, ?_, fun _ => g⟩
      by_cases z : zHw b fr (p - fr) = zWh w
      · rw [if_pos z]
        have : v = true := j2.mpr fun j _ h => (key.mp z).2 j (by omega)
        rw [this]
        rfl
      · rw [if_neg z]
        have : v = false := by
          cases hv : v
          · rfl
          · exact absurd (key.mpr ⟨q, fun j hj => j2.mp hv j (Nat.zero_le _) (by omega)⟩) z
        rw [this]
        rfl
    · rw [if_neg q, if_neg (fun z => q (key.mp z).1)]
      exact ⟨false, rfl, rfl, fun h => absurd h (by decide)⟩
  · rw [if_neg g, if_neg g]
    exact ⟨false, rfl, rfl, fun h => absurd h (by decide)⟩
