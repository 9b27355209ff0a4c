set_option maxRecDepth 100000
/-- the reader's words, by their places in the pool -/
def wWd : Nat → Nat × String
  | 0 => (158, "family")
  | 1 => (159, "loaf")
  | 2 => (163, "compare")
  | 3 => (169, "person")
  | 4 => (118, "like")
  | 5 => (126, "nose")
  | 6 => (133, "child")
  | 7 => (138, "stays")
  | 8 => (177, "post")
  | 9 => (146, "strict")
  | 10 => (150, "keen")
  | _ => (154, "looks")
def wZw (adK : Nat → Nat) (_ : Nat → Prop) (U : State) (_ : Heap) : Prop := ∀ i, i < 12 → vk_R "OnePassport$Reader" (wWd i).1 (wWd i).2 (adK i) U
theorem wZw_ok {adK : Nat → Nat} : wZok (wZw adK) := fun A B s U H hv h hk hn i hi => hv.elim (fun hW => vk_R.warm hW (h i hi)) (fun e => vk_R.same e (h i hi))
def wZL (ad : Nat → Nat) (n : Nat) (len : List Nat) (byt : List (List Int32)) (adK adV : Nat → Nat) (fo : Option Nat) (A : Nat → Prop) (U : State) (H : Heap) : Prop := wZR ad n len byt adK adV fo A U H ∧ wZw adK A U H
theorem wZL_ok {ad : Nat → Nat} {n : Nat} {len : List Nat} {byt : List (List Int32)} {adK adV : Nat → Nat} {fo : Option Nat} : wZok (wZL ad n len byt adK adV fo) := fun A B s U H hv h hk hn => ⟨wZR_ok A B s U H hv h.1 hk hn, wZw_ok A B s U H hv h.2 hk hn⟩
theorem wr_ldcS {p : Program} {l : Launch} {e : Env} {R : Room} {s : State} {m : MethodId} {args : Array Value} {below : List Frame} {meth : Method} {c : Code} {cc : ByteArray} {own : String} {nL : Nat} {ret : Option FieldType} {D : va_G} {cl : List vw_C} {sp : List wCell} {q : Nat → Nat} {ca : wCA} {A : Nat → Prop} {Q : State → Prop} {kc ks : Nat} {μ : wMem} {lv : List (Nat × Value)} {st : List Value} {ix a : Nat} {tx : String} (pc : Nat) (C : wC p R s m args meth c cc own nL ret D cl sp q ca A) (hd : decode cc pc = .ok (.ldc ix, 2)) (hZ : vk_R own ix tx a s) (k : wJ p l e R s m args below meth c nL D cl sp q ca A Q kc ks μ (pc + 2) lv (.ref a :: st)) : wJ p l e R s m args below meth c nL D cl sp q ca A Q kc ks μ pc lv st :=
  fun H locs ls h1 h2 h3 => va_ldcS C.1 C.2.1 C.2.2.2.1 hZ hd (k H locs ls h1 h2 h3)
/-- the family that is read: cell f, its arrays the cells x, .. -/
def wRF (E : List wCell) (r f x : Nat) : Prop := ∀ a, (wW E r f a)[f]? = some (.inl (1, wFf6 x)) ∧ (wW E r f a)[x + 0]? = some (.inr (0, 6)) ∧ (wW E r f a)[x + 1]? = some (.inr (0, 6)) ∧ (wW E r f a)[x + 2]? = some (.inr (0, 2)) ∧ (wW E r f a)[x + 3]? = some (.inr (0, 2)) ∧ (wW E r f a)[x + 4]? = some (.inr (0, 2))
theorem wTold_lt {len : List Nat} {byt : List (List Int32)} {N r t w t1 : Nat} {lo hi v : Int32} {μ μ1 : wMem} (h : wTold len byt N r t w lo hi μ = some (.inl (v, t1, μ1))) : t1 < 5 := by
  unfold wTold at h
  obtain ⟨u, ta, μa, -, h⟩ := wRbd_l h
  split at h
  · split at h
    · cases h
    · obtain ⟨⟨tb, μb⟩, hz, h⟩ := Option.bind_eq_some_iff.mp h
      cases h
      exact wNext_lt (μ1 := μb) hz
  · cases h
def wNewPost (len : List Nat) (byt : List (List Int32)) (N r f x t : Nat) (μ : wMem) : wRes Unit :=
  if ok_in (μ.1 f 3) 2 = true then
    wRbd (wTold len byt N r t 9 0 100 μ) fun v1 t1 μ1 =>
    wRbd (wTold len byt N r t1 10 0 9 (wSI μ1 (x + 2) (μ.1 f 3).toNatClampNeg v1)) fun v2 t2 μ2 =>
    wRbd (wTold len byt N r t2 11 0 3 (wSI μ2 (x + 3) (μ.1 f 3).toNatClampNeg v2)) fun v3 t3 μ3 =>
    some (.inl ((), t3, wSI (wSI μ3 (x + 4) (μ.1 f 3).toNatClampNeg v3) f 3 ((wSI μ3 (x + 4) (μ.1 f 3).toNatClampNeg v3).1 f 3 + 1)))
  else none
abbrev cX7_newPost : ByteArray := prog_6_method_10_code
def yX7_newPost : MethodName := ⟨RX7, "newPost", "()V"⟩
def dkwX7_newPost_3 : List UInt8 := [4, 96, 181, 0, 140, 177]
abbrev dktX7_newPost_3 : List UInt8 := dkwX7_newPost_3 ++ []
def dkwX7_newPost_2 : List UInt8 := [180, 0, 25, 180, 0, 151, 27, 42, 18, 154, 3, 6, 182, 0, 119, 79, 42, 180, 0, 25, 89, 180, 0, 140]
abbrev dktX7_newPost_2 : List UInt8 := dkwX7_newPost_2 ++ dktX7_newPost_3
def dkwX7_newPost_1 : List UInt8 := [182, 0, 119, 79, 42, 180, 0, 25, 180, 0, 147, 27, 42, 18, 150, 3, 16, 9, 182, 0, 119, 79, 42]
abbrev dktX7_newPost_1 : List UInt8 := dkwX7_newPost_1 ++ dktX7_newPost_2
def dkwX7_newPost_0 : List UInt8 := [42, 180, 0, 25, 180, 0, 140, 60, 42, 180, 0, 25, 180, 0, 143, 27, 42, 18, 146, 3, 16, 100]
abbrev dktX7_newPost_0 : List UInt8 := dkwX7_newPost_0 ++ dktX7_newPost_1
theorem dksX7_newPost_0 : cX7_newPost.data.toList.drop 0 = dktX7_newPost_0 := by decide +kernel
theorem dksX7_newPost_1 : cX7_newPost.data.toList.drop 22 = dktX7_newPost_1 := dk_seg dksX7_newPost_0 22 rfl rfl
theorem dksX7_newPost_2 : cX7_newPost.data.toList.drop 45 = dktX7_newPost_2 := dk_seg dksX7_newPost_1 23 rfl rfl
theorem dksX7_newPost_3 : cX7_newPost.data.toList.drop 69 = dktX7_newPost_3 := dk_seg dksX7_newPost_2 24 rfl rfl
theorem dX7_newPost_0 : decode cX7_newPost 0 = .ok (.aload_n 0, 1) := dk_42 (dk_at dksX7_newPost_0 0 rfl rfl)
theorem dX7_newPost_1 : decode cX7_newPost 1 = .ok (.getfield 25, 3) := dk_180 0 25 (dk_at dksX7_newPost_0 1 rfl rfl)
theorem dX7_newPost_4 : decode cX7_newPost 4 = .ok (.getfield 140, 3) := dk_180 0 140 (dk_at dksX7_newPost_0 4 rfl rfl)
theorem dX7_newPost_7 : decode cX7_newPost 7 = .ok (.istore_n 1, 1) := dk_60 (dk_at dksX7_newPost_0 7 rfl rfl)
theorem dX7_newPost_8 : decode cX7_newPost 8 = .ok (.aload_n 0, 1) := dk_42 (dk_at dksX7_newPost_0 8 rfl rfl)
theorem dX7_newPost_9 : decode cX7_newPost 9 = .ok (.getfield 25, 3) := dk_180 0 25 (dk_at dksX7_newPost_0 9 rfl rfl)
theorem dX7_newPost_12 : decode cX7_newPost 12 = .ok (.getfield 143, 3) := dk_180 0 143 (dk_at dksX7_newPost_0 12 rfl rfl)
theorem dX7_newPost_15 : decode cX7_newPost 15 = .ok (.iload_n 1, 1) := dk_27 (dk_at dksX7_newPost_0 15 rfl rfl)
theorem dX7_newPost_16 : decode cX7_newPost 16 = .ok (.aload_n 0, 1) := dk_42 (dk_at dksX7_newPost_0 16 rfl rfl)
theorem dX7_newPost_17 : decode cX7_newPost 17 = .ok (.ldc 146, 2) := dk_18 146 (dk_at dksX7_newPost_0 17 rfl rfl)
theorem dX7_newPost_19 : decode cX7_newPost 19 = .ok (.iconst 0, 1) := dk_3 (dk_at dksX7_newPost_0 19 rfl rfl)
theorem dX7_newPost_20 : decode cX7_newPost 20 = .ok (.bipush 100, 2) := dk_16 100 (dk_at dksX7_newPost_0 20 rfl rfl)
theorem dX7_newPost_22 : decode cX7_newPost 22 = .ok (.invokevirtual 119, 3) := dk_182 0 119 (dk_at dksX7_newPost_1 0 rfl rfl)
theorem dX7_newPost_25 : decode cX7_newPost 25 = .ok (.iastore, 1) := dk_79 (dk_at dksX7_newPost_1 3 rfl rfl)
theorem dX7_newPost_26 : decode cX7_newPost 26 = .ok (.aload_n 0, 1) := dk_42 (dk_at dksX7_newPost_1 4 rfl rfl)
theorem dX7_newPost_27 : decode cX7_newPost 27 = .ok (.getfield 25, 3) := dk_180 0 25 (dk_at dksX7_newPost_1 5 rfl rfl)
theorem dX7_newPost_30 : decode cX7_newPost 30 = .ok (.getfield 147, 3) := dk_180 0 147 (dk_at dksX7_newPost_1 8 rfl rfl)
theorem dX7_newPost_33 : decode cX7_newPost 33 = .ok (.iload_n 1, 1) := dk_27 (dk_at dksX7_newPost_1 11 rfl rfl)
theorem dX7_newPost_34 : decode cX7_newPost 34 = .ok (.aload_n 0, 1) := dk_42 (dk_at dksX7_newPost_1 12 rfl rfl)
theorem dX7_newPost_35 : decode cX7_newPost 35 = .ok (.ldc 150, 2) := dk_18 150 (dk_at dksX7_newPost_1 13 rfl rfl)
theorem dX7_newPost_37 : decode cX7_newPost 37 = .ok (.iconst 0, 1) := dk_3 (dk_at dksX7_newPost_1 15 rfl rfl)
theorem dX7_newPost_38 : decode cX7_newPost 38 = .ok (.bipush 9, 2) := dk_16 9 (dk_at dksX7_newPost_1 16 rfl rfl)
theorem dX7_newPost_40 : decode cX7_newPost 40 = .ok (.invokevirtual 119, 3) := dk_182 0 119 (dk_at dksX7_newPost_1 18 rfl rfl)
theorem dX7_newPost_43 : decode cX7_newPost 43 = .ok (.iastore, 1) := dk_79 (dk_at dksX7_newPost_1 21 rfl rfl)
theorem dX7_newPost_44 : decode cX7_newPost 44 = .ok (.aload_n 0, 1) := dk_42 (dk_at dksX7_newPost_1 22 rfl rfl)
theorem dX7_newPost_45 : decode cX7_newPost 45 = .ok (.getfield 25, 3) := dk_180 0 25 (dk_at dksX7_newPost_2 0 rfl rfl)
theorem dX7_newPost_48 : decode cX7_newPost 48 = .ok (.getfield 151, 3) := dk_180 0 151 (dk_at dksX7_newPost_2 3 rfl rfl)
theorem dX7_newPost_51 : decode cX7_newPost 51 = .ok (.iload_n 1, 1) := dk_27 (dk_at dksX7_newPost_2 6 rfl rfl)
theorem dX7_newPost_52 : decode cX7_newPost 52 = .ok (.aload_n 0, 1) := dk_42 (dk_at dksX7_newPost_2 7 rfl rfl)
theorem dX7_newPost_53 : decode cX7_newPost 53 = .ok (.ldc 154, 2) := dk_18 154 (dk_at dksX7_newPost_2 8 rfl rfl)
theorem dX7_newPost_55 : decode cX7_newPost 55 = .ok (.iconst 0, 1) := dk_3 (dk_at dksX7_newPost_2 10 rfl rfl)
theorem dX7_newPost_56 : decode cX7_newPost 56 = .ok (.iconst 3, 1) := dk_6 (dk_at dksX7_newPost_2 11 rfl rfl)
theorem dX7_newPost_57 : decode cX7_newPost 57 = .ok (.invokevirtual 119, 3) := dk_182 0 119 (dk_at dksX7_newPost_2 12 rfl rfl)
theorem dX7_newPost_60 : decode cX7_newPost 60 = .ok (.iastore, 1) := dk_79 (dk_at dksX7_newPost_2 15 rfl rfl)
theorem dX7_newPost_61 : decode cX7_newPost 61 = .ok (.aload_n 0, 1) := dk_42 (dk_at dksX7_newPost_2 16 rfl rfl)
theorem dX7_newPost_62 : decode cX7_newPost 62 = .ok (.getfield 25, 3) := dk_180 0 25 (dk_at dksX7_newPost_2 17 rfl rfl)
theorem dX7_newPost_65 : decode cX7_newPost 65 = .ok (.dup, 1) := dk_89 (dk_at dksX7_newPost_2 20 rfl rfl)
theorem dX7_newPost_66 : decode cX7_newPost 66 = .ok (.getfield 140, 3) := dk_180 0 140 (dk_at dksX7_newPost_2 21 rfl rfl)
theorem dX7_newPost_69 : decode cX7_newPost 69 = .ok (.iconst 1, 1) := dk_4 (dk_at dksX7_newPost_3 0 rfl rfl)
theorem dX7_newPost_70 : decode cX7_newPost 70 = .ok (.iadd, 1) := dk_96 (dk_at dksX7_newPost_3 1 rfl rfl)
theorem dX7_newPost_71 : decode cX7_newPost 71 = .ok (.putfield 140, 3) := dk_181 0 140 (dk_at dksX7_newPost_3 2 rfl rfl)
theorem dX7_newPost_74 : decode cX7_newPost 74 = .ok (.return_, 1) := dk_177 (dk_at dksX7_newPost_3 5 rfl rfl)
theorem okX7_newPost : wOkV yX7_newPost cX7_newPost 2 none 0 := ⟨q689, qs13, q146, q690, by decide, by decide, by decide +kernel⟩
set_option maxHeartbeats 2000000 in
theorem tX7_newPost (l : Launch) {D : va_G} {E : List wCell} {q : Nat → Nat} {ca : wCA} {n : Nat} {len : List Nat} {byt : List (List Int32)} {adK adV : Nat → Nat} {fo : Option Nat} {r f t x : Nat} {ad : Nat → Nat} (h1 : spX.length ≤ r) (h2 : r < (spX ++ E).length) (h12 : 12 ≤ n) (hA : wAd ad) (ht : t < 5) (hF : wRF E r f x) (N : Nat) (μ μ9 : wMem) (u : Unit) (t9 : Nat) (hf : wNewPost len byt N r f x t μ = some (.inl (u, t9, μ9))) : wMPv (wZL ad n len byt adK adV fo) l yX7_newPost cX7_newPost 2 none ({ frames := 8, cells := 0, slots := 0, locals := 174 } : Room) D vwCl (wW E r f (ad t)) (wW E r f (ad t9)) q ca [.ref (q r)] μ μ9 := by
  unfold wNewPost at hf
  by_cases hin : ok_in (μ.1 f 3) 2 = true
  · rw [if_pos hin] at hf
    obtain ⟨v1, t1, μ1, hn1, hf⟩ := wRbd_l hf
    obtain ⟨v2, t2, μ2, hn2, hf⟩ := wRbd_l hf
    obtain ⟨v3, t3, μ3, hn3, hf⟩ := wRbd_l hf
    cases hf
    refine wMPv_intro (by decide) (Nat.le_of_ble_eq_true rfl) ?_
    intro p e s m args below meth c A C hZ
    refine wr_sub [(0, .ref (q r))] [0] rfl ?_
    refine wr_aload_n 0 C dX7_newPost_0 0 rfl rfl ?_
    refine wr_getR 1 1 C dX7_newPost_1 (wW_get h1 h2) rfl in_X7 (by decide) rfl q486 ?_
    refine wr_getNI 4 3 C dX7_newPost_4 (hF _).1 rfl in_X1 (by decide) rfl q193 ?_
    refine wr_istore_n 7 [(1, .int (μ.1 f 3)), (0, .ref (q r))] C dX7_newPost_7 rfl rfl (by decide) rfl ?_
    refine wr_aload_n 8 C dX7_newPost_8 1 rfl rfl ?_
    refine wr_getR 9 1 C dX7_newPost_9 (wW_get h1 h2) rfl in_X7 (by decide) rfl q486 ?_
    refine wr_getNR 12 10 C dX7_newPost_12 (hF _).1 rfl in_X1 (by decide) rfl q213 ?_
    refine wr_iload_n 15 C dX7_newPost_15 0 rfl rfl ?_
    refine wr_aload_n 16 C dX7_newPost_16 1 rfl rfl ?_
    refine wr_ldcS 17 C dX7_newPost_17 (hZ.2 9 (by decide)) ?_
    refine wr_iconst 19 C dX7_newPost_19 (v := 0) rfl ?_
    refine wr_bipush 20 C dX7_newPost_20 (v := 100) rfl ?_
    refine wr_VPi (kc1 := 0) (ks1 := 0) (As := [.ref (adK 9), .int 0, .int 100]) (b := r) 22 [.int (μ.1 f 3), .ref (q (x + 2))] C dX7_newPost_22 (tX7_told l h1 h2 (Nat.lt_of_lt_of_le (by decide) h12) hA ht N μ μ1 v1 t1 hn1) okX7_told q665 (wW_get h1 h2) rfl wZR_ok hZ.1 (by rw [wW_len, wW_len]) ⟨rfl, rfl, Nat.le_of_ble_eq_true rfl, Nat.le_of_ble_eq_true rfl, Nat.zero_le _, Nat.zero_le _⟩ (Nat.le_of_ble_eq_true rfl) rfl ?_
    intro Ca
    refine wr_iast 25 Ca dX7_newPost_25 (hF _).2.2.2.1 hin rfl ?_
    refine wr_aload_n 26 Ca dX7_newPost_26 1 rfl rfl ?_
    refine wr_getR 27 1 Ca dX7_newPost_27 (wW_get h1 h2) rfl in_X7 (by decide) rfl q486 ?_
    refine wr_getNR 30 11 Ca dX7_newPost_30 (hF _).1 rfl in_X1 (by decide) rfl q216 ?_
    refine wr_iload_n 33 Ca dX7_newPost_33 0 rfl rfl ?_
    refine wr_aload_n 34 Ca dX7_newPost_34 1 rfl rfl ?_
    refine wr_ldcS 35 Ca dX7_newPost_35 (hZ.2 10 (by decide)) ?_
    refine wr_iconst 37 Ca dX7_newPost_37 (v := 0) rfl ?_
    refine wr_bipush 38 Ca dX7_newPost_38 (v := 9) rfl ?_
    refine wr_VPi (kc1 := 0) (ks1 := 0) (As := [.ref (adK 10), .int 0, .int 9]) (b := r) 40 [.int (μ.1 f 3), .ref (q (x + 3))] Ca dX7_newPost_40 (tX7_told l h1 h2 (Nat.lt_of_lt_of_le (by decide) h12) hA (wTold_lt hn1) N (wSI μ1 (x + 2) (μ.1 f 3).toNatClampNeg v1) μ2 v2 t2 hn2) okX7_told q665 (wW_get h1 h2) rfl wZR_ok hZ.1 (by rw [wW_len, wW_len]) ⟨rfl, rfl, Nat.le_of_ble_eq_true rfl, Nat.le_of_ble_eq_true rfl, Nat.zero_le _, Nat.zero_le _⟩ (Nat.le_of_ble_eq_true rfl) rfl ?_
    intro Caa
    refine wr_iast 43 Caa dX7_newPost_43 (hF _).2.2.2.2.1 hin rfl ?_
    refine wr_aload_n 44 Caa dX7_newPost_44 1 rfl rfl ?_
    refine wr_getR 45 1 Caa dX7_newPost_45 (wW_get h1 h2) rfl in_X7 (by decide) rfl q486 ?_
    refine wr_getNR 48 12 Caa dX7_newPost_48 (hF _).1 rfl in_X1 (by decide) rfl q219 ?_
    refine wr_iload_n 51 Caa dX7_newPost_51 0 rfl rfl ?_
    refine wr_aload_n 52 Caa dX7_newPost_52 1 rfl rfl ?_
    refine wr_ldcS 53 Caa dX7_newPost_53 (hZ.2 11 (by decide)) ?_
    refine wr_iconst 55 Caa dX7_newPost_55 (v := 0) rfl ?_
    refine wr_iconst 56 Caa dX7_newPost_56 (v := 3) rfl ?_
    refine wr_VPi (kc1 := 0) (ks1 := 0) (As := [.ref (adK 11), .int 0, .int 3]) (b := r) 57 [.int (μ.1 f 3), .ref (q (x + 4))] Caa dX7_newPost_57 (tX7_told l h1 h2 (Nat.lt_of_lt_of_le (by decide) h12) hA (wTold_lt hn2) N (wSI μ2 (x + 3) (μ.1 f 3).toNatClampNeg v2) μ3 v3 t9 hn3) okX7_told q665 (wW_get h1 h2) rfl wZR_ok hZ.1 (by rw [wW_len, wW_len]) ⟨rfl, rfl, Nat.le_of_ble_eq_true rfl, Nat.le_of_ble_eq_true rfl, Nat.zero_le _, Nat.zero_le _⟩ (Nat.le_of_ble_eq_true rfl) rfl ?_
    intro Caaa
    refine wr_iast 60 Caaa dX7_newPost_60 (hF _).2.2.2.2.2 hin rfl ?_
    refine wr_aload_n 61 Caaa dX7_newPost_61 1 rfl rfl ?_
    refine wr_getR 62 1 Caaa dX7_newPost_62 (wW_get h1 h2) rfl in_X7 (by decide) rfl q486 ?_
    refine wr_dup 65 Caaa dX7_newPost_65 rfl ?_
    refine wr_getNI 66 3 Caaa dX7_newPost_66 (hF _).1 rfl in_X1 (by decide) rfl q193 ?_
    refine wr_iconst 69 Caaa dX7_newPost_69 (v := 1) rfl ?_
    refine wr_iadd 70 Caaa dX7_newPost_70 ?_
    refine wr_putNI 71 3 Caaa dX7_newPost_71 (hF _).1 rfl in_X1 tyX1 tyX1_ok nmX1 (by decide) rfl q193 rfl rfl rfl ?_
    exact wr_retPv 74 Caaa dX7_newPost_74 ⟨Nat.le_refl _, Nat.le_refl _⟩ rfl
  · rw [if_neg hin] at hf
    cases hf
set_option maxHeartbeats 2000000 in
theorem tX7_newPostT (l : Launch) {D : va_G} {E : List wCell} {q : Nat → Nat} {ca : wCA} {n : Nat} {len : List Nat} {byt : List (List Int32)} {adK adV : Nat → Nat} {fo : Option Nat} {r f t x : Nat} {ad : Nat → Nat} (h1 : spX.length ≤ r) (h2 : r < (spX ++ E).length) (h12 : 12 ≤ n) (hA : wAd ad) (ht : t < 5) (hF : wRF E r f x) (hno : ∀ a, wNoRef (wW E r f a) (wW E r f a).length = true) (N : Nat) (μ μ9 : wMem) (k : Int32) (t9 : Nat) (hf : wNewPost len byt N r f x t μ = some (.inr (k, t9, μ9))) : wMT (wZL ad n len byt adK adV fo) l yX7_newPost cX7_newPost 2 none ({ frames := 8, cells := 1, slots := 8, locals := 174 } : Room) D vwCl (wW E r f (ad t)) ((wW E r f (ad t9)) ++ [wFlt]) q ca [.ref (q r)] μ (wFm μ9 (wW E r f (ad t9)).length k ((wZ μ9 (wW E r f (ad t9)).length).1 r 3)) (wW E r f (ad t9)).length := by
  unfold wNewPost at hf
  by_cases hin : ok_in (μ.1 f 3) 2 = true
  · rw [if_pos hin] at hf
    refine wMT_intro (by decide) (Nat.le_of_ble_eq_true rfl) ?_
    intro p e s m args below meth c A C hZ hx
    refine wr_sub [(0, .ref (q r))] [0] rfl ?_
    refine wr_aload_n 0 C dX7_newPost_0 0 rfl rfl ?_
    refine wr_getR 1 1 C dX7_newPost_1 (wW_get h1 h2) rfl in_X7 (by decide) rfl q486 ?_
    refine wr_getNI 4 3 C dX7_newPost_4 (hF _).1 rfl in_X1 (by decide) rfl q193 ?_
    refine wr_istore_n 7 [(1, .int (μ.1 f 3)), (0, .ref (q r))] C dX7_newPost_7 rfl rfl (by decide) rfl ?_
    rcases wRbd_r hf with hn1 | ⟨v1, t1, μ1, hn1, hf⟩
    · refine wr_aload_n 8 C dX7_newPost_8 1 rfl rfl ?_
      refine wr_getR 9 1 C dX7_newPost_9 (wW_get h1 h2) rfl in_X7 (by decide) rfl q486 ?_
      refine wr_getNR 12 10 C dX7_newPost_12 (hF _).1 rfl in_X1 (by decide) rfl q213 ?_
      refine wr_iload_n 15 C dX7_newPost_15 0 rfl rfl ?_
      refine wr_aload_n 16 C dX7_newPost_16 1 rfl rfl ?_
      refine wr_ldcS 17 C dX7_newPost_17 (hZ.2 9 (by decide)) ?_
      refine wr_iconst 19 C dX7_newPost_19 (v := 0) rfl ?_
      refine wr_bipush 20 C dX7_newPost_20 (v := 100) rfl ?_
      exact wr_VTo (kc1 := 1) (ks1 := 8) (As := [.ref (adK 9), .int 0, .int 100]) (b := r) 22 [.int (μ.1 f 3), .ref (q (x + 2))] C dX7_newPost_22 (tX7_toldT l h1 h2 (Nat.lt_of_lt_of_le (by decide) h12) hA ht hno N μ μ9 k t9 hn1) okX7_told q665 (wW_get h1 h2) rfl wZR_ok hZ.1 (Nat.le_of_eq (by simp only [wW_len])) (fun _ _ => rfl) hx ⟨rfl, rfl, Nat.le_of_ble_eq_true rfl, Nat.le_of_ble_eq_true rfl, Nat.le_of_ble_eq_true rfl, Nat.le_of_ble_eq_true rfl⟩ ⟨Nat.le_refl _, Nat.le_refl _⟩ (Nat.le_of_ble_eq_true rfl) rfl
    · rcases wRbd_r hf with hn2 | ⟨v2, t2, μ2, hn2, hf⟩
      · refine wr_aload_n 8 C dX7_newPost_8 1 rfl rfl ?_
        refine wr_getR 9 1 C dX7_newPost_9 (wW_get h1 h2) rfl in_X7 (by decide) rfl q486 ?_
        refine wr_getNR 12 10 C dX7_newPost_12 (hF _).1 rfl in_X1 (by decide) rfl q213 ?_
        refine wr_iload_n 15 C dX7_newPost_15 0 rfl rfl ?_
        refine wr_aload_n 16 C dX7_newPost_16 1 rfl rfl ?_
        refine wr_ldcS 17 C dX7_newPost_17 (hZ.2 9 (by decide)) ?_
        refine wr_iconst 19 C dX7_newPost_19 (v := 0) rfl ?_
        refine wr_bipush 20 C dX7_newPost_20 (v := 100) rfl ?_
        refine wr_VPi (kc1 := 0) (ks1 := 0) (As := [.ref (adK 9), .int 0, .int 100]) (b := r) 22 [.int (μ.1 f 3), .ref (q (x + 2))] C dX7_newPost_22 (tX7_told l h1 h2 (Nat.lt_of_lt_of_le (by decide) h12) hA ht N μ μ1 v1 t1 hn1) okX7_told q665 (wW_get h1 h2) rfl wZR_ok hZ.1 (by rw [wW_len, wW_len]) ⟨rfl, rfl, Nat.le_of_ble_eq_true rfl, Nat.le_of_ble_eq_true rfl, Nat.zero_le _, Nat.zero_le _⟩ (Nat.le_of_ble_eq_true rfl) rfl ?_
        intro Ca
        refine wr_iast 25 Ca dX7_newPost_25 (hF _).2.2.2.1 hin rfl ?_
        refine wr_aload_n 26 Ca dX7_newPost_26 1 rfl rfl ?_
        refine wr_getR 27 1 Ca dX7_newPost_27 (wW_get h1 h2) rfl in_X7 (by decide) rfl q486 ?_
        refine wr_getNR 30 11 Ca dX7_newPost_30 (hF _).1 rfl in_X1 (by decide) rfl q216 ?_
        refine wr_iload_n 33 Ca dX7_newPost_33 0 rfl rfl ?_
        refine wr_aload_n 34 Ca dX7_newPost_34 1 rfl rfl ?_
        refine wr_ldcS 35 Ca dX7_newPost_35 (hZ.2 10 (by decide)) ?_
        refine wr_iconst 37 Ca dX7_newPost_37 (v := 0) rfl ?_
        refine wr_bipush 38 Ca dX7_newPost_38 (v := 9) rfl ?_
        exact wr_VTo (kc1 := 1) (ks1 := 8) (As := [.ref (adK 10), .int 0, .int 9]) (b := r) 40 [.int (μ.1 f 3), .ref (q (x + 3))] Ca dX7_newPost_40 (tX7_toldT l h1 h2 (Nat.lt_of_lt_of_le (by decide) h12) hA (wTold_lt hn1) hno N (wSI μ1 (x + 2) (μ.1 f 3).toNatClampNeg v1) μ9 k t9 hn2) okX7_told q665 (wW_get h1 h2) rfl wZR_ok hZ.1 (Nat.le_of_eq (by simp only [wW_len])) (fun _ _ => rfl) hx ⟨rfl, rfl, Nat.le_of_ble_eq_true rfl, Nat.le_of_ble_eq_true rfl, Nat.le_of_ble_eq_true rfl, Nat.le_of_ble_eq_true rfl⟩ ⟨Nat.le_refl _, Nat.le_refl _⟩ (Nat.le_of_ble_eq_true rfl) rfl
      · rcases wRbd_r hf with hn3 | ⟨v3, t3, μ3, hn3, hf⟩
        · refine wr_aload_n 8 C dX7_newPost_8 1 rfl rfl ?_
          refine wr_getR 9 1 C dX7_newPost_9 (wW_get h1 h2) rfl in_X7 (by decide) rfl q486 ?_
          refine wr_getNR 12 10 C dX7_newPost_12 (hF _).1 rfl in_X1 (by decide) rfl q213 ?_
          refine wr_iload_n 15 C dX7_newPost_15 0 rfl rfl ?_
          refine wr_aload_n 16 C dX7_newPost_16 1 rfl rfl ?_
          refine wr_ldcS 17 C dX7_newPost_17 (hZ.2 9 (by decide)) ?_
          refine wr_iconst 19 C dX7_newPost_19 (v := 0) rfl ?_
          refine wr_bipush 20 C dX7_newPost_20 (v := 100) rfl ?_
          refine wr_VPi (kc1 := 0) (ks1 := 0) (As := [.ref (adK 9), .int 0, .int 100]) (b := r) 22 [.int (μ.1 f 3), .ref (q (x + 2))] C dX7_newPost_22 (tX7_told l h1 h2 (Nat.lt_of_lt_of_le (by decide) h12) hA ht N μ μ1 v1 t1 hn1) okX7_told q665 (wW_get h1 h2) rfl wZR_ok hZ.1 (by rw [wW_len, wW_len]) ⟨rfl, rfl, Nat.le_of_ble_eq_true rfl, Nat.le_of_ble_eq_true rfl, Nat.zero_le _, Nat.zero_le _⟩ (Nat.le_of_ble_eq_true rfl) rfl ?_
          intro Ca
          refine wr_iast 25 Ca dX7_newPost_25 (hF _).2.2.2.1 hin rfl ?_
          refine wr_aload_n 26 Ca dX7_newPost_26 1 rfl rfl ?_
          refine wr_getR 27 1 Ca dX7_newPost_27 (wW_get h1 h2) rfl in_X7 (by decide) rfl q486 ?_
          refine wr_getNR 30 11 Ca dX7_newPost_30 (hF _).1 rfl in_X1 (by decide) rfl q216 ?_
          refine wr_iload_n 33 Ca dX7_newPost_33 0 rfl rfl ?_
          refine wr_aload_n 34 Ca dX7_newPost_34 1 rfl rfl ?_
          refine wr_ldcS 35 Ca dX7_newPost_35 (hZ.2 10 (by decide)) ?_
          refine wr_iconst 37 Ca dX7_newPost_37 (v := 0) rfl ?_
          refine wr_bipush 38 Ca dX7_newPost_38 (v := 9) rfl ?_
          refine wr_VPi (kc1 := 0) (ks1 := 0) (As := [.ref (adK 10), .int 0, .int 9]) (b := r) 40 [.int (μ.1 f 3), .ref (q (x + 3))] Ca dX7_newPost_40 (tX7_told l h1 h2 (Nat.lt_of_lt_of_le (by decide) h12) hA (wTold_lt hn1) N (wSI μ1 (x + 2) (μ.1 f 3).toNatClampNeg v1) μ2 v2 t2 hn2) okX7_told q665 (wW_get h1 h2) rfl wZR_ok hZ.1 (by rw [wW_len, wW_len]) ⟨rfl, rfl, Nat.le_of_ble_eq_true rfl, Nat.le_of_ble_eq_true rfl, Nat.zero_le _, Nat.zero_le _⟩ (Nat.le_of_ble_eq_true rfl) rfl ?_
          intro Caa
          refine wr_iast 43 Caa dX7_newPost_43 (hF _).2.2.2.2.1 hin rfl ?_
          refine wr_aload_n 44 Caa dX7_newPost_44 1 rfl rfl ?_
          refine wr_getR 45 1 Caa dX7_newPost_45 (wW_get h1 h2) rfl in_X7 (by decide) rfl q486 ?_
          refine wr_getNR 48 12 Caa dX7_newPost_48 (hF _).1 rfl in_X1 (by decide) rfl q219 ?_
          refine wr_iload_n 51 Caa dX7_newPost_51 0 rfl rfl ?_
          refine wr_aload_n 52 Caa dX7_newPost_52 1 rfl rfl ?_
          refine wr_ldcS 53 Caa dX7_newPost_53 (hZ.2 11 (by decide)) ?_
          refine wr_iconst 55 Caa dX7_newPost_55 (v := 0) rfl ?_
          refine wr_iconst 56 Caa dX7_newPost_56 (v := 3) rfl ?_
          exact wr_VTo (kc1 := 1) (ks1 := 8) (As := [.ref (adK 11), .int 0, .int 3]) (b := r) 57 [.int (μ.1 f 3), .ref (q (x + 4))] Caa dX7_newPost_57 (tX7_toldT l h1 h2 (Nat.lt_of_lt_of_le (by decide) h12) hA (wTold_lt hn2) hno N (wSI μ2 (x + 3) (μ.1 f 3).toNatClampNeg v2) μ9 k t9 hn3) okX7_told q665 (wW_get h1 h2) rfl wZR_ok hZ.1 (Nat.le_of_eq (by simp only [wW_len])) (fun _ _ => rfl) hx ⟨rfl, rfl, Nat.le_of_ble_eq_true rfl, Nat.le_of_ble_eq_true rfl, Nat.le_of_ble_eq_true rfl, Nat.le_of_ble_eq_true rfl⟩ ⟨Nat.le_refl _, Nat.le_refl _⟩ (Nat.le_of_ble_eq_true rfl) rfl
        · cases hf
  · rw [if_neg hin] at hf
    cases hf
