set_option maxRecDepth 100000
/-! part 84: the component's can, does, riskOf, state, be, asAtFirst, isEnd -/
theorem yBd {α β : Type} (v : α) (μ : wMem) (f : α → wMem → Option β) : wBind (some (v, μ)) f = f v μ := rfl
def yAct (φ : Nat → Nat → Nat) (a : Nat) : Prop := a = 200 ∨ (a < 200 ∧ a / 100 < φ 0 3 ∧ a % 100 / 10 ≤ φ 0 2 ∧ a % 10 < φ 0 2)
theorem yAct.le {φ : Nat → Nat → Nat} {a : Nat} (h : yAct φ a) : a ≤ 200 := by rcases h with h | h <;> omega
def yCan (φ : Nat → Nat → Nat) (σ : ySt) (a : Nat) : Bool := decide (a = 200) || decide (yWhy φ σ (a % 10) (a % 100 / 10) (a / 100) = 0)
def yMk (m s : Nat) : Nat := if m < 8 then 2 * m ||| s else (8 ||| (2 * m &&& 7)) ||| s
def yDo (φ : Nat → Nat → Nat) (σ : ySt) (a : Nat) : ySt :=
  if a = 200 then ySt.of σ.ov (1 - σ.sd) σ.z0 σ.z1 σ.mk
  else ySt.of (σ.ov ^^^ (2 ^ (a % 10) ||| (if a % 100 / 10 = 0 then 0 else 2 ^ (a % 100 / 10 - 1)))) (1 - σ.sd)
    (if a / 100 = 0 ∨ φ 0 7 ≠ 0 then a % 10 + 1 else σ.z0) (if a / 100 = 1 ∨ φ 0 7 ≠ 0 then a % 10 + 1 else σ.z1) (yMk σ.mk σ.sd)
theorem yWhy_lt (φ : Nat → Nat → Nat) (σ : ySt) (p c k : Nat) : yWhy φ σ p c k < 6 := by
  unfold yWhy
  repeat' split
  all_goals decide
theorem yc_can {φ : Nat → Nat → Nat} {μ : wMem} {σ : ySt} (O : yOk φ) (F : yFC φ μ) (S : ySok φ σ) {N : Nat} (hN : 4 ≤ N) {a : Nat} (ha : yAct φ a) :
    fX0_can N (nI a) (yPut μ σ) = some (yB (yCan φ σ a), yPut μ σ) := by
  have hl := ha.le
  unfold fX0_can wLet fX0_personIn fX0_childIn fX0_postIn
  dsimp only
  rw [yIf (xI_e200 (by omega))]
  by_cases h : a = 200
  · rw [if_pos h]; simp [yCan, h, yB]
  · rw [if_neg h]
    obtain ⟨h1, h2, h3, h4⟩ := ha.resolve_left h
    rw [xI_r10 (by omega), xI_rd (by omega), xI_d100 (by omega)]
    rw [yBd, yBd, yBd, yc_whyNot O F S hN h4 h3 h2, yBd]
    have := yWhy_lt φ σ (a % 10) (a % 100 / 10) (a / 100)
    rw [yIf (xI_e0 (by omega))]
    by_cases g : yWhy φ σ (a % 10) (a % 100 / 10) (a / 100) = 0
    · rw [if_pos g]; simp [yCan, h, yB, g]
    · rw [if_neg g]; simp [yCan, h, yB, g]
theorem yc_mk : ∀ m, m < 16 → ∀ s, s < 2 → (if nI m < (8 : Int32) then (nI m <<< ((1 : Int32) &&& 31)) ||| nI s else ((8 : Int32) ||| ((nI m <<< ((1 : Int32) &&& 31)) &&& (7 : Int32))) ||| nI s) = nI (yMk m s) := by decide +kernel
theorem yMk_lt : ∀ m, m < 16 → ∀ s, s < 2 → yMk m s < 16 := by decide +kernel
theorem yMk_pos : ∀ m, m < 16 → ∀ s, s < 2 → 0 < m → 0 < yMk m s := by decide +kernel
theorem yPut_eq (μ : wMem) {σ τ : ySt} (h0 : σ.ov = τ.ov) (h1 : σ.sd = τ.sd) (h2 : σ.z0 = τ.z0) (h3 : σ.z1 = τ.z1) (h4 : σ.mk = τ.mk) : yPut μ σ = yPut μ τ := by
  unfold yPut
  rw [h0, h1, h2, h3, h4]
theorem yc_sub1 {s : Nat} (h : s < 2) : (1 : Int32) - nI s = nI (1 - s) := xI_sub (a := 1) (by omega)
theorem yc_doTail {φ : Nat → Nat → Nat} {μ : wMem} {σ : ySt} (O : yOk φ) (F : yFC φ μ) (S : ySok φ σ) {p k w : Nat} (hp : p < φ 0 2) (hk : k < φ 0 3) :
    (wG (ok_in (nI k) 2) (wLet (wSI (wSI (yPut μ σ) 0 5 (nI w)) 9 (Int32.toNatClampNeg (nI k)) (nI p)) fun μ19 => wLet (fun (μ20 : wMem) => wLet (fun (v22 : Int32) (μ21 : wMem) => wLet (wSI μ21 0 7 v22) fun μ23 => wLet (wSI μ23 0 6 ((1 : Int32) - (μ23.1 0 6))) fun μ2 => some μ2) fun Jdoes118 => if (μ20.1 0 7) < (8 : Int32) then Jdoes118 (((μ20.1 0 7) <<< ((1 : Int32) &&& 31)) ||| (μ20.1 0 6)) μ20 else Jdoes118 (((8 : Int32) ||| (((μ20.1 0 7) <<< ((1 : Int32) &&& 31)) &&& (7 : Int32))) ||| (μ20.1 0 6)) μ20) fun Jdoes77 => if (μ19.1 1 7) = 0 then Jdoes77 μ19 else wG (ok_in (0 : Int32) 2) (wLet (wSI μ19 9 (Int32.toNatClampNeg (0 : Int32)) (nI p)) fun μ27 => wG (ok_in (1 : Int32) 2) (wLet (wSI μ27 9 (Int32.toNatClampNeg (1 : Int32)) (nI p)) fun μ29 => Jdoes77 μ29)))) =
    some (yPut μ (ySt.of w (1 - σ.sd) (if k = 0 ∨ φ 0 7 ≠ 0 then p + 1 else σ.z0) (if k = 1 ∨ φ 0 7 ≠ 0 then p + 1 else σ.z1) (yMk σ.mk σ.sd))) := by
  have h2 := O.posts
  have h7 := O.compares
  have hk2 : k < 2 := by omega
  have tail : ∀ τ : ySt, τ.mk = σ.mk → τ.sd = σ.sd → (if ((yPut μ τ).1 0 7) < (8 : Int32) then (fun (v22 : Int32) (μ21 : wMem) => some (wSI (wSI μ21 0 7 v22) 0 6 ((1 : Int32) - ((wSI μ21 0 7 v22).1 0 6)))) ((((yPut μ τ).1 0 7) <<< ((1 : Int32) &&& 31)) ||| ((yPut μ τ).1 0 6)) (yPut μ τ) else (fun (v22 : Int32) (μ21 : wMem) => some (wSI (wSI μ21 0 7 v22) 0 6 ((1 : Int32) - ((wSI μ21 0 7 v22).1 0 6)))) (((8 : Int32) ||| ((((yPut μ τ).1 0 7) <<< ((1 : Int32) &&& 31)) &&& (7 : Int32))) ||| ((yPut μ τ).1 0 6)) (yPut μ τ)) = some (yPut μ (ySt.of τ.ov (1 - σ.sd) τ.z0 τ.z1 (yMk σ.mk σ.sd))) := by
    intro τ e1 e2
    have key := yc_mk σ.mk S.mk1 σ.sd S.sd
    rw [yPut_6, yPut_7, e1, e2]
    have hsd := S.sd
    by_cases g : nI σ.mk < (8 : Int32)
    · rw [if_pos g] at key
      rw [if_pos g, key]
      dsimp only
      rw [yPut_smk, yPut_6]
      show some (wSI _ 0 6 (1 - nI τ.sd)) = _
      rw [e2, yc_sub1 hsd, yPut_ssd]
      rfl
    · rw [if_neg g] at key
      rw [if_neg g, key]
      dsimp only
      rw [yPut_smk, yPut_6]
      show some (wSI _ 0 6 (1 - nI τ.sd)) = _
      rw [e2, yc_sub1 hsd, yPut_ssd]
      rfl
  rw [yG (xI_in (by omega) (by omega)), xI_cl (by omega), yPut_sov]
  have e0 : wSI (yPut μ (ySt.of w σ.sd σ.z0 σ.z1 σ.mk)) 9 k (nI p) = yPut μ ((ySt.of w σ.sd σ.z0 σ.z1 σ.mk).sz k (p + 1)) := yPut_sz μ _ hk2 (v := p + 1) (by omega)
  rw [e0]
  unfold wLet
  dsimp only
  rw [yPut_c μ _ (by decide) (by decide), F.fld 7 (by decide), yIf (xI_e0 (by omega))]
  by_cases g : φ 0 7 = 0
  · rw [if_pos g]
    refine (tail ((ySt.of w σ.sd σ.z0 σ.z1 σ.mk).sz k (p + 1)) rfl rfl).trans ?_
    congr 1
    apply yPut_eq <;> simp [ySt.sz, ySt.of_ov, ySt.of_sd, ySt.of_z0, ySt.of_z1, ySt.of_mk, g]
  · rw [if_neg g]
    show wG _ (wG _ _) = _
    rw [yG (show ok_in (0 : Int32) 2 = true by decide), yG (show ok_in (1 : Int32) 2 = true by decide)]
    have e1 : ∀ τ : ySt, wSI (yPut μ τ) 9 (Int32.toNatClampNeg (0 : Int32)) (nI p) = yPut μ (τ.sz 0 (p + 1)) := fun τ => yPut_sz μ τ (k := 0) (v := p + 1) (by omega) (by omega)
    have e2 : ∀ τ : ySt, wSI (yPut μ τ) 9 (Int32.toNatClampNeg (1 : Int32)) (nI p) = yPut μ (τ.sz 1 (p + 1)) := fun τ => yPut_sz μ τ (k := 1) (v := p + 1) (by omega) (by omega)
    rw [e1, e2]
    refine (tail ((((ySt.of w σ.sd σ.z0 σ.z1 σ.mk).sz k (p + 1)).sz 0 (p + 1)).sz 1 (p + 1)) rfl rfl).trans ?_
    congr 1
    apply yPut_eq <;> simp [ySt.sz, ySt.of_ov, ySt.of_sd, ySt.of_z0, ySt.of_z1, ySt.of_mk, g]
theorem yc_does {φ : Nat → Nat → Nat} {μ : wMem} {σ : ySt} (O : yOk φ) (F : yFC φ μ) (S : ySok φ σ) (N : Nat) {a : Nat} (ha : yAct φ a) :
    fX0_does N (nI a) (yPut μ σ) = some (yPut μ (yDo φ σ a)) := by
  have hl := ha.le
  have h6 := O.persons
  have hsd := S.sd
  unfold fX0_does fX0_personIn fX0_childIn fX0_postIn
  by_cases h : a = 200
  · unfold wLet
    dsimp only
    rw [yIf (xI_e200 (by omega)), if_pos h, yPut_6, yc_sub1 hsd, yPut_ssd]
    unfold yDo
    rw [if_pos h]
  · obtain ⟨h1, h2, h3, h4⟩ := ha.resolve_left h
    have T := fun w => yc_doTail (w := w) O F S h4 h2
    have p1 : (1 : Int32) <<< (nI (a % 10) &&& 31) = nI (2 ^ (a % 10)) := xI_pow _ (by omega)
    rw [xI_r10 (by omega), xI_rd (by omega), xI_d100 (by omega)]
    show (if nI a = 200 then _ else _) = _
    rw [yIf (xI_e200 (by omega)), if_neg h]
    show (if nI (a % 100 / 10) - 1 = (-1 : Int32) then _ else _) = _
    rw [yIf (xI_m1 (by omega))]
    unfold yDo
    rw [if_neg h]
    by_cases g : a % 100 / 10 = 0
    · rw [if_pos g, if_pos g, yPut_5, p1]
      refine Eq.trans ?_ (T _)
      rw [← xI_xor, ← xI_or]
      rfl
    · have p2 : (1 : Int32) <<< (nI (a % 100 / 10 - 1) &&& 31) = nI (2 ^ (a % 100 / 10 - 1)) := xI_pow _ (by omega)
      rw [if_neg g, if_neg g, yPut_5, p1]
      refine Eq.trans ?_ (T _)
      rw [← xI_xor, ← xI_or, ← p2, ← xI_pred (by omega)]
      rfl
