set_option maxRecDepth 100000
/-- what the reader asks of what is old, with what a throw asks -/
def wZR (ad : Nat → Nat) (n : Nat) (len : List Nat) (byt : List (List Int32)) (adK adV : Nat → Nat) (fo : Option Nat) (A : Nat → Prop) (U : State) (H : Heap) : Prop := wZr ad n len byt adK adV fo A U H ∧ wZq A U H
theorem wZR_ok {ad : Nat → Nat} {n : Nat} {len : List Nat} {byt : List (List Int32)} {adK adV : Nat → Nat} {fo : Option Nat} : wZok (wZR ad n len byt adK adV fo) := fun A B s U H hv h hk hn => ⟨wZr_ok A B s U H hv h.1 hk hn, wZq_ok A B s U H hv h.2 hk hn⟩
/-- what a reader's method does: it answers, or throws a Fault of a kind; the token, the memory -/
abbrev wRes (α : Type) : Type := Option (Sum (α × Nat × wMem) (Int32 × Nat × wMem))
def wRbd {α β : Type} (o : wRes α) (f : α → Nat → wMem → wRes β) : wRes β := match o with
  | none => none
  | some (.inr e) => some (.inr e)
  | some (.inl (a, t, μ)) => f a t μ
theorem wRbd_l {α β : Type} {o : wRes α} {f : α → Nat → wMem → wRes β} {z : β × Nat × wMem} (h : wRbd o f = some (.inl z)) : ∃ a t μ, o = some (.inl (a, t, μ)) ∧ f a t μ = some (.inl z) := by
  match o, h with
  | some (.inl (a, t, μ)), h => exact ⟨a, t, μ, rfl, h⟩
theorem wRbd_r {α β : Type} {o : wRes α} {f : α → Nat → wMem → wRes β} {z : Int32 × Nat × wMem} (h : wRbd o f = some (.inr z)) : o = some (.inr z) ∨ ∃ a t μ, o = some (.inl (a, t, μ)) ∧ f a t μ = some (.inr z) := by
  match o, h with
  | some (.inl (a, t, μ)), h => exact Or.inr ⟨a, t, μ, rfl, h⟩
  | some (.inr e), h => exact Or.inl (by cases h; rfl)
def wNeeds (len : List Nat) (byt : List (List Int32)) (N r t w : Nat) (μ : wMem) : wRes Unit := (wTakes len byt N r t w μ).bind fun z => if z.1 = 0 then some (.inr (1, z.2.1, z.2.2)) else some (.inl ((), z.2.1, z.2.2))
def wIn3 (v lo hi : Int32) : Int32 := if v.toInt64 < lo.toInt64 then 0 else if hi.toInt64 < v.toInt64 then 0 else 1
def wTold (len : List Nat) (byt : List (List Int32)) (N r t w : Nat) (lo hi : Int32) (μ : wMem) : wRes Int32 := wRbd (wNeeds len byt N r t w μ) fun _ t1 μ1 => if t1 = 2 then (if wIn3 (μ1.1 r 4) lo hi = 0 then some (.inr (2, t1, μ1)) else (wNext N r μ1).bind fun z => some (.inl (μ1.1 r 4, z.1, z.2))) else some (.inr (1, t1, μ1))
def wTakes2 (len : List Nat) (byt : List (List Int32)) (N r t w : Nat) (full : Int32) (μ : wMem) : wRes Int32 := (wIs len byt N r t w μ).bind fun b => if ¬ b = 0 ∧ ¬ full = 0 then some (.inr (3, t, μ)) else (wTakes len byt N r t w μ).bind fun z => some (.inl z)
theorem wNext_lt {N r i : Nat} {μ μ1 : wMem} (h : wNext N r μ = some (i, μ1)) : i < 5 := by
  unfold wNext at h
  obtain ⟨μ0, -, h⟩ := o_bindV h
  obtain ⟨μ2, -, h⟩ := o_let h
  split at h
  · obtain ⟨rfl, -⟩ := Prod.mk.inj (Option.some.inj h); decide
  · split at h
    · split at h
      · split at h
        · split at h
          · obtain ⟨rfl, -⟩ := Prod.mk.inj (Option.some.inj h); split <;> decide
          · cases h
        · obtain ⟨μ3, -, h⟩ := o_bindV h
          obtain ⟨rfl, -⟩ := Prod.mk.inj (Option.some.inj h); decide
      · obtain ⟨μ3, -, h⟩ := o_bindV h
        obtain ⟨rfl, -⟩ := Prod.mk.inj (Option.some.inj h); decide
    · cases h
theorem wTakes_lt {len : List Nat} {byt : List (List Int32)} {N r t w t1 : Nat} {μ μ1 : wMem} {v : Int32} (ht : t < 5) (h : wTakes len byt N r t w μ = some (v, t1, μ1)) : t1 < 5 := by
  unfold wTakes at h
  obtain ⟨b, -, h⟩ := Option.bind_eq_some_iff.mp h
  split at h
  · obtain ⟨-, e⟩ := Prod.mk.inj (Option.some.inj h)
    obtain ⟨rfl, -⟩ := Prod.mk.inj e
    exact ht
  · obtain ⟨z, hn, h⟩ := Option.bind_eq_some_iff.mp h
    obtain ⟨-, e⟩ := Prod.mk.inj (Option.some.inj h)
    obtain ⟨rfl, -⟩ := Prod.mk.inj e
    exact wNext_lt (μ1 := z.2) hn
theorem wNeeds_l {len : List Nat} {byt : List (List Int32)} {N r t w t1 : Nat} {μ μ1 : wMem} {u : Unit} (h : wNeeds len byt N r t w μ = some (.inl (u, t1, μ1))) : ∃ v, ¬ v = 0 ∧ wTakes len byt N r t w μ = some (v, t1, μ1) := by
  unfold wNeeds at h
  obtain ⟨⟨v, a, b⟩, hz, h⟩ := Option.bind_eq_some_iff.mp h
  split at h
  · cases h
  · rename_i hv
    cases h
    exact ⟨v, hv, hz⟩
theorem wNeeds_r {len : List Nat} {byt : List (List Int32)} {N r t w t1 : Nat} {μ μ1 : wMem} {k : Int32} (h : wNeeds len byt N r t w μ = some (.inr (k, t1, μ1))) : k = 1 ∧ wTakes len byt N r t w μ = some (0, t1, μ1) := by
  unfold wNeeds at h
  obtain ⟨⟨v, a, b⟩, hz, h⟩ := Option.bind_eq_some_iff.mp h
  split at h
  · rename_i hv
    have hv : v = 0 := hv
    subst hv
    cases h
    exact ⟨rfl, hz⟩
  · cases h
abbrev cX7_needs : ByteArray := prog_6_method_7_code
def yX7_needs : MethodName := ⟨RX7, "needs", "(Ljava/lang/String;)V"⟩
def dkwX7_needs_0 : List UInt8 := [42, 43, 182, 0, 100, 154, 0, 9, 42, 4, 182, 0, 103, 191, 177]
abbrev dktX7_needs_0 : List UInt8 := dkwX7_needs_0 ++ []
theorem dksX7_needs_0 : cX7_needs.data.toList.drop 0 = dktX7_needs_0 := by decide +kernel
theorem dX7_needs_0 : decode cX7_needs 0 = .ok (.aload_n 0, 1) := dk_42 (dk_at dksX7_needs_0 0 rfl rfl)
theorem dX7_needs_1 : decode cX7_needs 1 = .ok (.aload_n 1, 1) := dk_43 (dk_at dksX7_needs_0 1 rfl rfl)
theorem dX7_needs_2 : decode cX7_needs 2 = .ok (.invokevirtual 100, 3) := dk_182 0 100 (dk_at dksX7_needs_0 2 rfl rfl)
theorem dX7_needs_5 : decode cX7_needs 5 = .ok (.ifCond .ne 9, 3) := dk_154 0 9 (dk_at dksX7_needs_0 5 rfl rfl)
theorem dX7_needs_8 : decode cX7_needs 8 = .ok (.aload_n 0, 1) := dk_42 (dk_at dksX7_needs_0 8 rfl rfl)
theorem dX7_needs_9 : decode cX7_needs 9 = .ok (.iconst 1, 1) := dk_4 (dk_at dksX7_needs_0 9 rfl rfl)
theorem dX7_needs_10 : decode cX7_needs 10 = .ok (.invokevirtual 103, 3) := dk_182 0 103 (dk_at dksX7_needs_0 10 rfl rfl)
theorem dX7_needs_13 : decode cX7_needs 13 = .ok (.athrow, 1) := dk_191 (dk_at dksX7_needs_0 13 rfl rfl)
theorem dX7_needs_14 : decode cX7_needs 14 = .ok (.return_, 1) := dk_177 (dk_at dksX7_needs_0 14 rfl rfl)
theorem okX7_needs : wOkV yX7_needs cX7_needs 2 none 1 := ⟨q518, qs4, q146, q519, by decide, by decide, by decide +kernel⟩
theorem tX7_needs (l : Launch) {D : va_G} {E : List wCell} {q : Nat → Nat} {ca : wCA} {n : Nat} {len : List Nat} {byt : List (List Int32)} {adK adV : Nat → Nat} {fo : Option Nat} {w r f t : Nat} {ad : Nat → Nat} (h1 : spX.length ≤ r) (h2 : r < (spX ++ E).length) (hw : w < n) (hA : wAd ad) (ht : t < 5) (N : Nat) (μ μ1 : wMem) (u : Unit) (t1 : Nat) (hf : wNeeds len byt N r t w μ = some (.inl (u, t1, μ1))) : wMPv (wZR ad n len byt adK adV fo) l yX7_needs cX7_needs 2 none ({ frames := 6, cells := 0, slots := 0, locals := 129 } : Room) D vwCl (wW E r f (ad t)) (wW E r f (ad t1)) q ca [.ref (q r), .ref (adK w)] μ μ1 := by
  obtain ⟨v, hv, hk⟩ := wNeeds_l hf
  refine wMPv_intro (by decide) (Nat.le_of_ble_eq_true rfl) ?_
  intro p e s m args below meth c A C hZ
  refine wr_sub [(0, .ref (q r)), (1, .ref (adK w))] [0, 1] rfl ?_
  refine wr_aload_n 0 C dX7_needs_0 0 rfl rfl ?_
  refine wr_aload_n 1 C dX7_needs_1 1 rfl rfl ?_
  refine wr_VPi (kc1 := 0) (ks1 := 0) (As := [.ref (adK w)]) (b := r) 2 [] C dX7_needs_2 (tX7_takes l h1 h2 hw hA ht N μ μ1 _ t1 hk) okX7_takes q520 (wW_get h1 h2) rfl wZr_ok hZ.1 (by rw [wW_len, wW_len]) ⟨rfl, rfl, Nat.le_of_ble_eq_true rfl, Nat.le_of_ble_eq_true rfl, Nat.zero_le _, Nat.zero_le _⟩ (Nat.le_of_ble_eq_true rfl) rfl ?_
  intro C1
  refine wr_if_ne 5 14 C1 dX7_needs_5 (by decide) (fun _ => ?_) (fun h => absurd h hv)
  exact wr_retPv 14 C1 dX7_needs_14 ⟨Nat.le_refl _, Nat.le_refl _⟩ rfl
theorem tX7_needsT (l : Launch) {D : va_G} {E : List wCell} {q : Nat → Nat} {ca : wCA} {n : Nat} {len : List Nat} {byt : List (List Int32)} {adK adV : Nat → Nat} {fo : Option Nat} {w r f t : Nat} {ad : Nat → Nat} (h1 : spX.length ≤ r) (h2 : r < (spX ++ E).length) (hw : w < n) (hA : wAd ad) (ht : t < 5) (hno : ∀ a, wNoRef (wW E r f a) (wW E r f a).length = true) (N : Nat) (μ μ1 : wMem) (k : Int32) (t1 : Nat) (hf : wNeeds len byt N r t w μ = some (.inr (k, t1, μ1))) : wMT (wZR ad n len byt adK adV fo) l yX7_needs cX7_needs 2 none ({ frames := 6, cells := 1, slots := 8, locals := 129 } : Room) D vwCl (wW E r f (ad t)) ((wW E r f (ad t1)) ++ [wFlt]) q ca [.ref (q r), .ref (adK w)] μ (wFm μ1 (wW E r f (ad t1)).length k ((wZ μ1 (wW E r f (ad t1)).length).1 r 3)) (wW E r f (ad t1)).length := by
  obtain ⟨rfl, hk⟩ := wNeeds_r hf
  refine wMT_intro (by decide) (Nat.le_of_ble_eq_true rfl) ?_
  intro p e s m args below meth c A C hZ hx
  refine wr_sub [(0, .ref (q r)), (1, .ref (adK w))] [0, 1] rfl ?_
  refine wr_aload_n 0 C dX7_needs_0 0 rfl rfl ?_
  refine wr_aload_n 1 C dX7_needs_1 1 rfl rfl ?_
  refine wr_VPi (kc1 := 0) (ks1 := 0) (As := [.ref (adK w)]) (b := r) 2 [] C dX7_needs_2 (tX7_takes l h1 h2 hw hA ht N μ μ1 _ t1 hk) okX7_takes q520 (wW_get h1 h2) rfl wZr_ok hZ.1 (by rw [wW_len, wW_len]) ⟨rfl, rfl, Nat.le_of_ble_eq_true rfl, Nat.le_of_ble_eq_true rfl, Nat.zero_le _, Nat.zero_le _⟩ (Nat.le_of_ble_eq_true rfl) rfl ?_
  intro C1
  refine wr_if_ne 5 14 C1 dX7_needs_5 (by decide) (fun h => absurd rfl h) (fun _ => ?_)
  refine wr_aload_n 8 C1 dX7_needs_8 0 rfl rfl ?_
  refine wr_iconst 9 C1 dX7_needs_9 (v := 1) rfl ?_
  refine wr_VKq (kc1 := 1) (ks1 := 8) (As := [.int 1]) (b := r) 10 [] C1 dX7_needs_10 (tX7_wrong l (wW_get h1 h2) (hno _) μ1) okX7_wrong q576 (wW_get h1 h2) rfl wZq_ok hZ.2 ⟨rfl, rfl, Nat.le_of_ble_eq_true rfl, Nat.le_of_ble_eq_true rfl, Nat.le_of_ble_eq_true rfl, Nat.le_of_ble_eq_true rfl⟩ (Nat.le_of_ble_eq_true rfl) rfl ?_
  intro q1 hq1 C9
  exact wr_athrowO (fs := [(3, 0), (3, 0), (3, 0), (3, 0), (3, 0), (0, 0), (0, 0), (0, 0)]) 13 C9 dX7_needs_13 List.getElem?_concat_length rfl rfl (fun j hj => hq1 j (by rw [wW_len] at hj ⊢; exact hj)) hx ⟨Nat.le_refl _, Nat.le_refl _⟩ rfl
abbrev cX7_told : ByteArray := prog_6_method_8_code
def yX7_told : MethodName := ⟨RX7, "told", "(Ljava/lang/String;II)I"⟩
def dkwX7_told_2 : List UInt8 := [54, 4, 42, 182, 0, 38, 21, 4, 172]
abbrev dktX7_told_2 : List UInt8 := dkwX7_told_2 ++ []
def dkwX7_told_1 : List UInt8 := [180, 0, 62, 133, 28, 133, 29, 133, 184, 0, 48, 154, 0, 9, 42, 5, 182, 0, 103, 191, 42, 180, 0, 62]
abbrev dktX7_told_1 : List UInt8 := dkwX7_told_1 ++ dktX7_told_2
def dkwX7_told_0 : List UInt8 := [42, 43, 182, 0, 107, 42, 180, 0, 35, 178, 0, 72, 165, 0, 9, 42, 4, 182, 0, 103, 191, 42]
abbrev dktX7_told_0 : List UInt8 := dkwX7_told_0 ++ dktX7_told_1
theorem dksX7_told_0 : cX7_told.data.toList.drop 0 = dktX7_told_0 := by decide +kernel
theorem dksX7_told_1 : cX7_told.data.toList.drop 22 = dktX7_told_1 := dk_seg dksX7_told_0 22 rfl rfl
theorem dksX7_told_2 : cX7_told.data.toList.drop 46 = dktX7_told_2 := dk_seg dksX7_told_1 24 rfl rfl
theorem dX7_told_0 : decode cX7_told 0 = .ok (.aload_n 0, 1) := dk_42 (dk_at dksX7_told_0 0 rfl rfl)
theorem dX7_told_1 : decode cX7_told 1 = .ok (.aload_n 1, 1) := dk_43 (dk_at dksX7_told_0 1 rfl rfl)
theorem dX7_told_2 : decode cX7_told 2 = .ok (.invokevirtual 107, 3) := dk_182 0 107 (dk_at dksX7_told_0 2 rfl rfl)
theorem dX7_told_5 : decode cX7_told 5 = .ok (.aload_n 0, 1) := dk_42 (dk_at dksX7_told_0 5 rfl rfl)
theorem dX7_told_6 : decode cX7_told 6 = .ok (.getfield 35, 3) := dk_180 0 35 (dk_at dksX7_told_0 6 rfl rfl)
theorem dX7_told_9 : decode cX7_told 9 = .ok (.getstatic 72, 3) := dk_178 0 72 (dk_at dksX7_told_0 9 rfl rfl)
theorem dX7_told_12 : decode cX7_told 12 = .ok (.if_acmp .eq 9, 3) := dk_165 0 9 (dk_at dksX7_told_0 12 rfl rfl)
theorem dX7_told_15 : decode cX7_told 15 = .ok (.aload_n 0, 1) := dk_42 (dk_at dksX7_told_0 15 rfl rfl)
theorem dX7_told_16 : decode cX7_told 16 = .ok (.iconst 1, 1) := dk_4 (dk_at dksX7_told_0 16 rfl rfl)
theorem dX7_told_17 : decode cX7_told 17 = .ok (.invokevirtual 103, 3) := dk_182 0 103 (dk_at dksX7_told_0 17 rfl rfl)
theorem dX7_told_20 : decode cX7_told 20 = .ok (.athrow, 1) := dk_191 (dk_at dksX7_told_0 20 rfl rfl)
theorem dX7_told_21 : decode cX7_told 21 = .ok (.aload_n 0, 1) := dk_42 (dk_at dksX7_told_0 21 rfl rfl)
theorem dX7_told_22 : decode cX7_told 22 = .ok (.getfield 62, 3) := dk_180 0 62 (dk_at dksX7_told_1 0 rfl rfl)
theorem dX7_told_25 : decode cX7_told 25 = .ok (.i2l, 1) := dk_133 (dk_at dksX7_told_1 3 rfl rfl)
theorem dX7_told_26 : decode cX7_told 26 = .ok (.iload_n 2, 1) := dk_28 (dk_at dksX7_told_1 4 rfl rfl)
theorem dX7_told_27 : decode cX7_told 27 = .ok (.i2l, 1) := dk_133 (dk_at dksX7_told_1 5 rfl rfl)
theorem dX7_told_28 : decode cX7_told 28 = .ok (.iload_n 3, 1) := dk_29 (dk_at dksX7_told_1 6 rfl rfl)
theorem dX7_told_29 : decode cX7_told 29 = .ok (.i2l, 1) := dk_133 (dk_at dksX7_told_1 7 rfl rfl)
theorem dX7_told_30 : decode cX7_told 30 = .ok (.invokestatic 48, 3) := dk_184 0 48 (dk_at dksX7_told_1 8 rfl rfl)
theorem dX7_told_33 : decode cX7_told 33 = .ok (.ifCond .ne 9, 3) := dk_154 0 9 (dk_at dksX7_told_1 11 rfl rfl)
theorem dX7_told_36 : decode cX7_told 36 = .ok (.aload_n 0, 1) := dk_42 (dk_at dksX7_told_1 14 rfl rfl)
theorem dX7_told_37 : decode cX7_told 37 = .ok (.iconst 2, 1) := dk_5 (dk_at dksX7_told_1 15 rfl rfl)
theorem dX7_told_38 : decode cX7_told 38 = .ok (.invokevirtual 103, 3) := dk_182 0 103 (dk_at dksX7_told_1 16 rfl rfl)
theorem dX7_told_41 : decode cX7_told 41 = .ok (.athrow, 1) := dk_191 (dk_at dksX7_told_1 19 rfl rfl)
theorem dX7_told_42 : decode cX7_told 42 = .ok (.aload_n 0, 1) := dk_42 (dk_at dksX7_told_1 20 rfl rfl)
theorem dX7_told_43 : decode cX7_told 43 = .ok (.getfield 62, 3) := dk_180 0 62 (dk_at dksX7_told_1 21 rfl rfl)
theorem dX7_told_46 : decode cX7_told 46 = .ok (.istore 4, 2) := dk_54 4 (dk_at dksX7_told_2 0 rfl rfl)
theorem dX7_told_48 : decode cX7_told 48 = .ok (.aload_n 0, 1) := dk_42 (dk_at dksX7_told_2 2 rfl rfl)
theorem dX7_told_49 : decode cX7_told 49 = .ok (.invokevirtual 38, 3) := dk_182 0 38 (dk_at dksX7_told_2 3 rfl rfl)
theorem dX7_told_52 : decode cX7_told 52 = .ok (.iload 4, 2) := dk_21 4 (dk_at dksX7_told_2 6 rfl rfl)
theorem dX7_told_54 : decode cX7_told 54 = .ok (.ireturn, 1) := dk_172 (dk_at dksX7_told_2 8 rfl rfl)
theorem okX7_told : wOkV yX7_told cX7_told 5 (some .int) 3 := ⟨q667, qs10, q146, q668, by decide, by decide, by decide +kernel⟩
theorem tX7_told (l : Launch) {D : va_G} {E : List wCell} {q : Nat → Nat} {ca : wCA} {n : Nat} {len : List Nat} {byt : List (List Int32)} {adK adV : Nat → Nat} {fo : Option Nat} {w r f t : Nat} {ad : Nat → Nat} (h1 : spX.length ≤ r) (h2 : r < (spX ++ E).length) (hw : w < n) (hA : wAd ad) (ht : t < 5) {lo hi : Int32} (N : Nat) (μ μ1 : wMem) (v : Int32) (t1 : Nat) (hf : wTold len byt N r t w lo hi μ = some (.inl (v, t1, μ1))) : wMPi (wZR ad n len byt adK adV fo) l yX7_told cX7_told 5 (some .int) ({ frames := 7, cells := 0, slots := 0, locals := 150 } : Room) D vwCl (wW E r f (ad t)) (wW E r f (ad t1)) q ca [.ref (q r), .ref (adK w), .int lo, .int hi] μ μ1 v := by
  unfold wTold at hf
  obtain ⟨u, ta, μa, hn, hf⟩ := wRbd_l hf
  have hta : ta < 5 := by obtain ⟨v0, -, hk⟩ := wNeeds_l hn; exact wTakes_lt ht hk
  refine wMPi_intro (by decide) (Nat.le_of_ble_eq_true rfl) ?_
  intro p e s m args below meth c A C hZ
  refine wr_sub [(0, .ref (q r)), (1, .ref (adK w)), (2, .int lo), (3, .int hi)] [0, 1, 2, 3] rfl ?_
  by_cases h2t : ta = 2
  · rw [if_pos h2t] at hf
    by_cases hi0 : wIn3 (μa.1 r 4) lo hi = 0
    · rw [if_pos hi0] at hf
      cases hf
    · rw [if_neg hi0] at hf
      obtain ⟨⟨tb, μb⟩, hnx, hf⟩ := Option.bind_eq_some_iff.mp hf
      cases hf
      refine wr_aload_n 0 C dX7_told_0 0 rfl rfl ?_
      refine wr_aload_n 1 C dX7_told_1 1 rfl rfl ?_
      refine wr_VPv (kc1 := 0) (ks1 := 0) (As := [.ref (adK w)]) (b := r) 2 [] C dX7_told_2 (tX7_needs l h1 h2 hw hA ht N μ μa u ta hn) okX7_needs q516 (wW_get h1 h2) rfl wZR_ok hZ (by rw [wW_len, wW_len]) ⟨rfl, rfl, Nat.le_of_ble_eq_true rfl, Nat.le_of_ble_eq_true rfl, Nat.zero_le _, Nat.zero_le _⟩ (Nat.le_of_ble_eq_true rfl) rfl ?_
      intro C1
      refine wr_aload_n 5 C1 dX7_told_5 0 rfl rfl ?_
      refine wr_getA (a := ad ta) 6 5 C1 dX7_told_6 (wW_get h1 h2) rfl in_X7 (by decide) rfl q490 ?_
      refine wr_getsA 9 C1 dX7_told_9 (hZ.1.1 2 (by decide)) q479 ?_
      refine wr_acmp_eq 12 21 C1 dX7_told_12 (by decide) (fun _ => ?_) (fun h => absurd (congrArg ad h2t) h)
      refine wr_aload_n 21 C1 dX7_told_21 0 rfl rfl ?_
      refine wr_getI 22 4 C1 dX7_told_22 (wW_get h1 h2) rfl in_X7 (by decide) rfl q489 ?_
      refine wr_i2l 25 C1 dX7_told_25 ?_
      refine wr_iload_n 26 C1 dX7_told_26 2 rfl rfl ?_
      refine wr_i2l 27 C1 dX7_told_27 ?_
      refine wr_iload_n 28 C1 dX7_told_28 3 rfl rfl ?_
      refine wr_i2l 29 C1 dX7_told_29 ?_
      refine wr_SNi (kc1 := 0) (ks1 := 0) (As := [.long (μa.1 r 4).toInt64, .long lo.toInt64, .long hi.toInt64]) 30 [] C1 dX7_told_30 (tX0_isIn l 0 _ _ _ μa _ (fX0_isIn_eq 0 _ _ _ μa)) okX0_isIn q472 ⟨rfl, rfl, Nat.le_of_ble_eq_true rfl, Nat.le_of_ble_eq_true rfl, Nat.zero_le _, Nat.zero_le _⟩ (Nat.le_of_ble_eq_true rfl) rfl ?_
      refine wr_if_ne 33 42 C1 dX7_told_33 (by decide) (fun _ => ?_) (fun h => absurd h hi0)
      refine wr_aload_n 42 C1 dX7_told_42 0 rfl rfl ?_
      refine wr_getI 43 4 C1 dX7_told_43 (wW_get h1 h2) rfl in_X7 (by decide) rfl q489 ?_
      refine wr_istore 46 [(4, .int (μa.1 r 4)), (0, .ref (q r)), (1, .ref (adK w)), (2, .int lo), (3, .int hi)] C1 dX7_told_46 rfl (by decide) rfl ?_
      refine wr_aload_n 48 C1 dX7_told_48 1 rfl rfl ?_
      refine wr_VPv (kc1 := 0) (ks1 := 0) (As := []) (b := r) 49 [] C1 dX7_told_49 (wW_set (E := E) (f := f) (a := ad ta) (b := ad tb) h1 ▸ tX7_next l (wW_get h1 h2) N tb μa μb hnx) okX7_next q464 (wW_get h1 h2) rfl wZk_ok hZ.1.1 (by rw [wW_len, wW_len]) ⟨rfl, rfl, Nat.le_of_ble_eq_true rfl, Nat.le_of_ble_eq_true rfl, Nat.zero_le _, Nat.zero_le _⟩ (Nat.le_of_ble_eq_true rfl) rfl ?_
      intro C2
      refine wr_iload 52 C2 dX7_told_52 0 rfl ?_
      exact wr_retPi 54 C2 dX7_told_54 ⟨Nat.le_refl _, Nat.le_refl _⟩ rfl
  · rw [if_neg h2t] at hf
    cases hf
theorem tX7_toldT (l : Launch) {D : va_G} {E : List wCell} {q : Nat → Nat} {ca : wCA} {n : Nat} {len : List Nat} {byt : List (List Int32)} {adK adV : Nat → Nat} {fo : Option Nat} {w r f t : Nat} {ad : Nat → Nat} (h1 : spX.length ≤ r) (h2 : r < (spX ++ E).length) (hw : w < n) (hA : wAd ad) (ht : t < 5) (hno : ∀ a, wNoRef (wW E r f a) (wW E r f a).length = true) {lo hi : Int32} (N : Nat) (μ μ1 : wMem) (k : Int32) (t1 : Nat) (hf : wTold len byt N r t w lo hi μ = some (.inr (k, t1, μ1))) : wMT (wZR ad n len byt adK adV fo) l yX7_told cX7_told 5 (some .int) ({ frames := 7, cells := 1, slots := 8, locals := 150 } : Room) D vwCl (wW E r f (ad t)) ((wW E r f (ad t1)) ++ [wFlt]) q ca [.ref (q r), .ref (adK w), .int lo, .int hi] μ (wFm μ1 (wW E r f (ad t1)).length k ((wZ μ1 (wW E r f (ad t1)).length).1 r 3)) (wW E r f (ad t1)).length := by
  unfold wTold at hf
  refine wMT_intro (by decide) (Nat.le_of_ble_eq_true rfl) ?_
  intro p e s m args below meth c A C hZ hx
  refine wr_sub [(0, .ref (q r)), (1, .ref (adK w)), (2, .int lo), (3, .int hi)] [0, 1, 2, 3] rfl ?_
  rcases wRbd_r hf with hn | ⟨u, ta, μa, hn, hf⟩
  · refine wr_aload_n 0 C dX7_told_0 0 rfl rfl ?_
    refine wr_aload_n 1 C dX7_told_1 1 rfl rfl ?_
    exact wr_VTo (kc1 := 1) (ks1 := 8) (As := [.ref (adK w)]) (b := r) 2 [] C dX7_told_2 (tX7_needsT l h1 h2 hw hA ht hno N μ μ1 k t1 hn) okX7_needs q516 (wW_get h1 h2) rfl wZR_ok hZ (Nat.le_refl _) (fun _ _ => rfl) hx ⟨rfl, rfl, Nat.le_of_ble_eq_true rfl, Nat.le_of_ble_eq_true rfl, Nat.le_of_ble_eq_true rfl, Nat.le_of_ble_eq_true rfl⟩ ⟨Nat.le_refl _, Nat.le_refl _⟩ (Nat.le_of_ble_eq_true rfl) rfl
  · have hta : ta < 5 := by obtain ⟨v0, -, hk⟩ := wNeeds_l hn; exact wTakes_lt ht hk
    by_cases h2t : ta = 2
    · rw [if_pos h2t] at hf
      by_cases hi0 : wIn3 (μa.1 r 4) lo hi = 0
      · rw [if_pos hi0] at hf
        cases hf
        refine wr_aload_n 0 C dX7_told_0 0 rfl rfl ?_
        refine wr_aload_n 1 C dX7_told_1 1 rfl rfl ?_
        refine wr_VPv (kc1 := 0) (ks1 := 0) (As := [.ref (adK w)]) (b := r) 2 [] C dX7_told_2 (tX7_needs l h1 h2 hw hA ht N μ μ1 u t1 hn) okX7_needs q516 (wW_get h1 h2) rfl wZR_ok hZ (by rw [wW_len, wW_len]) ⟨rfl, rfl, Nat.le_of_ble_eq_true rfl, Nat.le_of_ble_eq_true rfl, Nat.zero_le _, Nat.zero_le _⟩ (Nat.le_of_ble_eq_true rfl) rfl ?_
        intro C1
        refine wr_aload_n 5 C1 dX7_told_5 0 rfl rfl ?_
        refine wr_getA (a := ad t1) 6 5 C1 dX7_told_6 (wW_get h1 h2) rfl in_X7 (by decide) rfl q490 ?_
        refine wr_getsA 9 C1 dX7_told_9 (hZ.1.1 2 (by decide)) q479 ?_
        refine wr_acmp_eq 12 21 C1 dX7_told_12 (by decide) (fun _ => ?_) (fun h => absurd (congrArg ad h2t) h)
        refine wr_aload_n 21 C1 dX7_told_21 0 rfl rfl ?_
        refine wr_getI 22 4 C1 dX7_told_22 (wW_get h1 h2) rfl in_X7 (by decide) rfl q489 ?_
        refine wr_i2l 25 C1 dX7_told_25 ?_
        refine wr_iload_n 26 C1 dX7_told_26 2 rfl rfl ?_
        refine wr_i2l 27 C1 dX7_told_27 ?_
        refine wr_iload_n 28 C1 dX7_told_28 3 rfl rfl ?_
        refine wr_i2l 29 C1 dX7_told_29 ?_
        refine wr_SNi (kc1 := 0) (ks1 := 0) (As := [.long (μ1.1 r 4).toInt64, .long lo.toInt64, .long hi.toInt64]) 30 [] C1 dX7_told_30 (tX0_isIn l 0 _ _ _ μ1 _ (fX0_isIn_eq 0 _ _ _ μ1)) okX0_isIn q472 ⟨rfl, rfl, Nat.le_of_ble_eq_true rfl, Nat.le_of_ble_eq_true rfl, Nat.zero_le _, Nat.zero_le _⟩ (Nat.le_of_ble_eq_true rfl) rfl ?_
        refine wr_if_ne 33 42 C1 dX7_told_33 (by decide) (fun h => absurd hi0 h) (fun _ => ?_)
        refine wr_aload_n 36 C1 dX7_told_36 0 rfl rfl ?_
        refine wr_iconst 37 C1 dX7_told_37 (v := 2) rfl ?_
        refine wr_VKq (kc1 := 1) (ks1 := 8) (As := [.int 2]) (b := r) 38 [] C1 dX7_told_38 (tX7_wrong l (wW_get h1 h2) (hno _) μ1) okX7_wrong q576 (wW_get h1 h2) rfl wZq_ok hZ.2 ⟨rfl, rfl, Nat.le_of_ble_eq_true rfl, Nat.le_of_ble_eq_true rfl, Nat.le_of_ble_eq_true rfl, Nat.le_of_ble_eq_true rfl⟩ (Nat.le_of_ble_eq_true rfl) rfl ?_
        intro q1 hq1 C9
        exact wr_athrowO (fs := [(3, 0), (3, 0), (3, 0), (3, 0), (3, 0), (0, 0), (0, 0), (0, 0)]) 41 C9 dX7_told_41 List.getElem?_concat_length rfl rfl (fun j hj => hq1 j (by rw [wW_len] at hj ⊢; exact hj)) hx ⟨Nat.le_refl _, Nat.le_refl _⟩ rfl
      · rw [if_neg hi0] at hf
        obtain ⟨z, -, hf⟩ := Option.bind_eq_some_iff.mp hf
        cases hf
    · rw [if_neg h2t] at hf
      cases hf
      refine wr_aload_n 0 C dX7_told_0 0 rfl rfl ?_
      refine wr_aload_n 1 C dX7_told_1 1 rfl rfl ?_
      refine wr_VPv (kc1 := 0) (ks1 := 0) (As := [.ref (adK w)]) (b := r) 2 [] C dX7_told_2 (tX7_needs l h1 h2 hw hA ht N μ μ1 u t1 hn) okX7_needs q516 (wW_get h1 h2) rfl wZR_ok hZ (by rw [wW_len, wW_len]) ⟨rfl, rfl, Nat.le_of_ble_eq_true rfl, Nat.le_of_ble_eq_true rfl, Nat.zero_le _, Nat.zero_le _⟩ (Nat.le_of_ble_eq_true rfl) rfl ?_
      intro C1
      refine wr_aload_n 5 C1 dX7_told_5 0 rfl rfl ?_
      refine wr_getA (a := ad t1) 6 5 C1 dX7_told_6 (wW_get h1 h2) rfl in_X7 (by decide) rfl q490 ?_
      refine wr_getsA 9 C1 dX7_told_9 (hZ.1.1 2 (by decide)) q479 ?_
      refine wr_acmp_eq 12 21 C1 dX7_told_12 (by decide) (fun h => absurd (hA _ _ hta (by decide) h) h2t) (fun _ => ?_)
      refine wr_aload_n 15 C1 dX7_told_15 0 rfl rfl ?_
      refine wr_iconst 16 C1 dX7_told_16 (v := 1) rfl ?_
      refine wr_VKq (kc1 := 1) (ks1 := 8) (As := [.int 1]) (b := r) 17 [] C1 dX7_told_17 (tX7_wrong l (wW_get h1 h2) (hno _) μ1) okX7_wrong q576 (wW_get h1 h2) rfl wZq_ok hZ.2 ⟨rfl, rfl, Nat.le_of_ble_eq_true rfl, Nat.le_of_ble_eq_true rfl, Nat.le_of_ble_eq_true rfl, Nat.le_of_ble_eq_true rfl⟩ (Nat.le_of_ble_eq_true rfl) rfl ?_
      intro q1 hq1 C9
      exact wr_athrowO (fs := [(3, 0), (3, 0), (3, 0), (3, 0), (3, 0), (0, 0), (0, 0), (0, 0)]) 20 C9 dX7_told_20 List.getElem?_concat_length rfl rfl (fun j hj => hq1 j (by rw [wW_len] at hj ⊢; exact hj)) hx ⟨Nat.le_refl _, Nat.le_refl _⟩ rfl
abbrev cX7_takes_2 : ByteArray := prog_6_method_11_code
def yX7_takes_2 : MethodName := ⟨RX7, "takes", "(Ljava/lang/String;Z)Z"⟩
def dkwX7_takes_2_0 : List UInt8 := [42, 43, 182, 0, 96, 153, 0, 13, 28, 153, 0, 9, 42, 6, 182, 0, 103, 191, 42, 43, 182, 0, 100, 172]
abbrev dktX7_takes_2_0 : List UInt8 := dkwX7_takes_2_0 ++ []
theorem dksX7_takes_2_0 : cX7_takes_2.data.toList.drop 0 = dktX7_takes_2_0 := by decide +kernel
theorem dX7_takes_2_0 : decode cX7_takes_2 0 = .ok (.aload_n 0, 1) := dk_42 (dk_at dksX7_takes_2_0 0 rfl rfl)
theorem dX7_takes_2_1 : decode cX7_takes_2 1 = .ok (.aload_n 1, 1) := dk_43 (dk_at dksX7_takes_2_0 1 rfl rfl)
theorem dX7_takes_2_2 : decode cX7_takes_2 2 = .ok (.invokevirtual 96, 3) := dk_182 0 96 (dk_at dksX7_takes_2_0 2 rfl rfl)
theorem dX7_takes_2_5 : decode cX7_takes_2 5 = .ok (.ifCond .eq 13, 3) := dk_153 0 13 (dk_at dksX7_takes_2_0 5 rfl rfl)
theorem dX7_takes_2_8 : decode cX7_takes_2 8 = .ok (.iload_n 2, 1) := dk_28 (dk_at dksX7_takes_2_0 8 rfl rfl)
theorem dX7_takes_2_9 : decode cX7_takes_2 9 = .ok (.ifCond .eq 9, 3) := dk_153 0 9 (dk_at dksX7_takes_2_0 9 rfl rfl)
theorem dX7_takes_2_12 : decode cX7_takes_2 12 = .ok (.aload_n 0, 1) := dk_42 (dk_at dksX7_takes_2_0 12 rfl rfl)
theorem dX7_takes_2_13 : decode cX7_takes_2 13 = .ok (.iconst 3, 1) := dk_6 (dk_at dksX7_takes_2_0 13 rfl rfl)
theorem dX7_takes_2_14 : decode cX7_takes_2 14 = .ok (.invokevirtual 103, 3) := dk_182 0 103 (dk_at dksX7_takes_2_0 14 rfl rfl)
theorem dX7_takes_2_17 : decode cX7_takes_2 17 = .ok (.athrow, 1) := dk_191 (dk_at dksX7_takes_2_0 17 rfl rfl)
theorem dX7_takes_2_18 : decode cX7_takes_2 18 = .ok (.aload_n 0, 1) := dk_42 (dk_at dksX7_takes_2_0 18 rfl rfl)
theorem dX7_takes_2_19 : decode cX7_takes_2 19 = .ok (.aload_n 1, 1) := dk_43 (dk_at dksX7_takes_2_0 19 rfl rfl)
theorem dX7_takes_2_20 : decode cX7_takes_2 20 = .ok (.invokevirtual 100, 3) := dk_182 0 100 (dk_at dksX7_takes_2_0 20 rfl rfl)
theorem dX7_takes_2_23 : decode cX7_takes_2 23 = .ok (.ireturn, 1) := dk_172 (dk_at dksX7_takes_2_0 23 rfl rfl)
theorem okX7_takes_2 : wOkV yX7_takes_2 cX7_takes_2 3 (some .boolean) 2 := ⟨q673, qs11, q146, q674, by decide, by decide, by decide +kernel⟩
theorem wTakes_b {len : List Nat} {byt : List (List Int32)} {N r t w t1 : Nat} {μ μ1 : wMem} {v : Int32} (h : wTakes len byt N r t w μ = some (v, t1, μ1)) : ok_b v = true := by
  unfold wTakes at h
  obtain ⟨b, hi, h⟩ := Option.bind_eq_some_iff.mp h
  split at h
  · cases h; rfl
  · obtain ⟨z, hn, h⟩ := Option.bind_eq_some_iff.mp h
    cases h
    exact wIs_b hi
theorem tX7_takes_2 (l : Launch) {D : va_G} {E : List wCell} {q : Nat → Nat} {ca : wCA} {n : Nat} {len : List Nat} {byt : List (List Int32)} {adK adV : Nat → Nat} {fo : Option Nat} {w r f t : Nat} {ad : Nat → Nat} (h1 : spX.length ≤ r) (h2 : r < (spX ++ E).length) (hw : w < n) (hA : wAd ad) (ht : t < 5) {full : Int32} (N : Nat) (μ μ1 : wMem) (v : Int32) (t1 : Nat) (hf : wTakes2 len byt N r t w full μ = some (.inl (v, t1, μ1))) : wMPi (wZR ad n len byt adK adV fo) l yX7_takes_2 cX7_takes_2 3 (some .boolean) ({ frames := 6, cells := 0, slots := 0, locals := 129 } : Room) D vwCl (wW E r f (ad t)) (wW E r f (ad t1)) q ca [.ref (q r), .ref (adK w), .int full] μ μ1 v := by
  unfold wTakes2 at hf
  obtain ⟨b, hi, hf⟩ := Option.bind_eq_some_iff.mp hf
  refine wMPi_intro (by decide) (Nat.le_of_ble_eq_true rfl) ?_
  intro p e s m args below meth c A C hZ
  refine wr_sub [(0, .ref (q r)), (1, .ref (adK w)), (2, .int full)] [0, 1, 2] rfl ?_
  by_cases hbf : ¬ b = 0 ∧ ¬ full = 0
  · rw [if_pos hbf] at hf
    cases hf
  · rw [if_neg hbf] at hf
    obtain ⟨z, hz, hf⟩ := Option.bind_eq_some_iff.mp hf
    cases hf
    refine wr_aload_n 0 C dX7_takes_2_0 0 rfl rfl ?_
    refine wr_aload_n 1 C dX7_takes_2_1 1 rfl rfl ?_
    refine wr_VPi (kc1 := 0) (ks1 := 0) (As := [.ref (adK w)]) (b := r) 2 [] C dX7_takes_2_2 (tX7_is l (wW_get h1 h2) hw hA ht N μ b hi) okX7_is q524 (wW_get h1 h2) rfl wZr_ok hZ.1 rfl ⟨rfl, rfl, Nat.le_of_ble_eq_true rfl, Nat.le_of_ble_eq_true rfl, Nat.zero_le _, Nat.zero_le _⟩ (Nat.le_of_ble_eq_true rfl) rfl ?_
    intro _
    refine wr_if_eq 5 18 C dX7_takes_2_5 (by decide) (fun _ => ?_) (fun hb0 => ?_)
    · refine wr_aload_n 18 C dX7_takes_2_18 0 rfl rfl ?_
      refine wr_aload_n 19 C dX7_takes_2_19 1 rfl rfl ?_
      refine wr_VPi (kc1 := 0) (ks1 := 0) (As := [.ref (adK w)]) (b := r) 20 [] C dX7_takes_2_20 (tX7_takes l h1 h2 hw hA ht N μ μ1 v t1 hz) okX7_takes q520 (wW_get h1 h2) rfl wZr_ok hZ.1 (by rw [wW_len, wW_len]) ⟨rfl, rfl, Nat.le_of_ble_eq_true rfl, Nat.le_of_ble_eq_true rfl, Nat.zero_le _, Nat.zero_le _⟩ (Nat.le_of_ble_eq_true rfl) rfl ?_
      intro C1
      exact wr_retPz 23 C1 dX7_takes_2_23 (wTakes_b hz) rfl ⟨Nat.le_refl _, Nat.le_refl _⟩ rfl
    · refine wr_iload_n 8 C dX7_takes_2_8 2 rfl rfl ?_
      refine wr_if_eq 9 18 C dX7_takes_2_9 (by decide) (fun _ => ?_) (fun hf0 => absurd ⟨hb0, hf0⟩ hbf)
      refine wr_aload_n 18 C dX7_takes_2_18 0 rfl rfl ?_
      refine wr_aload_n 19 C dX7_takes_2_19 1 rfl rfl ?_
      refine wr_VPi (kc1 := 0) (ks1 := 0) (As := [.ref (adK w)]) (b := r) 20 [] C dX7_takes_2_20 (tX7_takes l h1 h2 hw hA ht N μ μ1 v t1 hz) okX7_takes q520 (wW_get h1 h2) rfl wZr_ok hZ.1 (by rw [wW_len, wW_len]) ⟨rfl, rfl, Nat.le_of_ble_eq_true rfl, Nat.le_of_ble_eq_true rfl, Nat.zero_le _, Nat.zero_le _⟩ (Nat.le_of_ble_eq_true rfl) rfl ?_
      intro C1
      exact wr_retPz 23 C1 dX7_takes_2_23 (wTakes_b hz) rfl ⟨Nat.le_refl _, Nat.le_refl _⟩ rfl
theorem tX7_takes_2T (l : Launch) {D : va_G} {E : List wCell} {q : Nat → Nat} {ca : wCA} {n : Nat} {len : List Nat} {byt : List (List Int32)} {adK adV : Nat → Nat} {fo : Option Nat} {w r f t : Nat} {ad : Nat → Nat} (h1 : spX.length ≤ r) (h2 : r < (spX ++ E).length) (hw : w < n) (hA : wAd ad) (ht : t < 5) (hno : ∀ a, wNoRef (wW E r f a) (wW E r f a).length = true) {full : Int32} (N : Nat) (μ μ1 : wMem) (k : Int32) (t1 : Nat) (hf : wTakes2 len byt N r t w full μ = some (.inr (k, t1, μ1))) : wMT (wZR ad n len byt adK adV fo) l yX7_takes_2 cX7_takes_2 3 (some .boolean) ({ frames := 6, cells := 1, slots := 8, locals := 129 } : Room) D vwCl (wW E r f (ad t)) ((wW E r f (ad t1)) ++ [wFlt]) q ca [.ref (q r), .ref (adK w), .int full] μ (wFm μ1 (wW E r f (ad t1)).length k ((wZ μ1 (wW E r f (ad t1)).length).1 r 3)) (wW E r f (ad t1)).length := by
  unfold wTakes2 at hf
  obtain ⟨b, hi, hf⟩ := Option.bind_eq_some_iff.mp hf
  refine wMT_intro (by decide) (Nat.le_of_ble_eq_true rfl) ?_
  intro p e s m args below meth c A C hZ hx
  refine wr_sub [(0, .ref (q r)), (1, .ref (adK w)), (2, .int full)] [0, 1, 2] rfl ?_
  by_cases hbf : ¬ b = 0 ∧ ¬ full = 0
  · rw [if_pos hbf] at hf
    cases hf
    refine wr_aload_n 0 C dX7_takes_2_0 0 rfl rfl ?_
    refine wr_aload_n 1 C dX7_takes_2_1 1 rfl rfl ?_
    refine wr_VPi (kc1 := 0) (ks1 := 0) (As := [.ref (adK w)]) (b := r) 2 [] C dX7_takes_2_2 (tX7_is l (wW_get h1 h2) hw hA ht N μ b hi) okX7_is q524 (wW_get h1 h2) rfl wZr_ok hZ.1 rfl ⟨rfl, rfl, Nat.le_of_ble_eq_true rfl, Nat.le_of_ble_eq_true rfl, Nat.zero_le _, Nat.zero_le _⟩ (Nat.le_of_ble_eq_true rfl) rfl ?_
    intro _
    refine wr_if_eq 5 18 C dX7_takes_2_5 (by decide) (fun h => absurd h hbf.1) (fun _ => ?_)
    refine wr_iload_n 8 C dX7_takes_2_8 2 rfl rfl ?_
    refine wr_if_eq 9 18 C dX7_takes_2_9 (by decide) (fun h => absurd h hbf.2) (fun _ => ?_)
    refine wr_aload_n 12 C dX7_takes_2_12 0 rfl rfl ?_
    refine wr_iconst 13 C dX7_takes_2_13 (v := 3) rfl ?_
    refine wr_VKq (kc1 := 1) (ks1 := 8) (As := [.int 3]) (b := r) 14 [] C dX7_takes_2_14 (tX7_wrong l (wW_get h1 h2) (hno _) μ) okX7_wrong q576 (wW_get h1 h2) rfl wZq_ok hZ.2 ⟨rfl, rfl, Nat.le_of_ble_eq_true rfl, Nat.le_of_ble_eq_true rfl, Nat.le_of_ble_eq_true rfl, Nat.le_of_ble_eq_true rfl⟩ (Nat.le_of_ble_eq_true rfl) rfl ?_
    intro q1 hq1 C9
    exact wr_athrowO (fs := [(3, 0), (3, 0), (3, 0), (3, 0), (3, 0), (0, 0), (0, 0), (0, 0)]) 17 C9 dX7_takes_2_17 List.getElem?_concat_length rfl rfl (fun j hj => hq1 j (by rw [wW_len] at hj ⊢; exact hj)) hx ⟨Nat.le_refl _, Nat.le_refl _⟩ rfl
  · rw [if_neg hbf] at hf
    obtain ⟨z, hz, hf⟩ := Option.bind_eq_some_iff.mp hf
    cases hf
