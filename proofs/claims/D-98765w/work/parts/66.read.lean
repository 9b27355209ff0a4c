set_option maxRecDepth 100000
def wRead (len : List Nat) (byt : List (List Int32)) (N r f x : Nat) : Nat → Nat → wMem → wRes Unit
  | 0, _, _ => none
  | M + 1, t, μ => if t = 0 then some (.inl ((), t, μ)) else wRbd (wLine len byt N r f x t μ) fun _ t1 μ1 => if t1 = 3 then (wNext N r μ1).bind fun z => wRead len byt N r f x M z.1 (wSI z.2 f 1 (z.2.1 f 1 + 1)) else some (.inr (1, t1, μ1))
theorem wPl_3 {len : List Nat} {byt : List (List Int32)} {N r f t1 : Nat} {k : Int32} {u : Unit} {μ1 : wMem} : ∀ (M t : Nat) (μ : wMem), wPl len byt N r f k M t μ = some (.inl (u, t1, μ1)) → t1 < 5 := by
  intro M
  induction M with
  | zero => intro t μ h; simp [wPl] at h
  | succ M ih =>
    have hs : ∀ t μ, wPwd len byt N r f k (wPl len byt N r f k M) t μ = some (.inl (u, t1, μ1)) → t1 < 5 := fun t μ h => by
      unfold wPwd at h
      split at h
      · obtain ⟨z, -, h⟩ := Option.bind_eq_some_iff.mp h
        split at h
        · cases h
        · exact ih _ _ h
      · cases h
    intro t μ h
    unfold wPl at h
    split at h
    · rename_i h3
      cases h
      omega
    · split at h
      · obtain ⟨z, -, h⟩ := Option.bind_eq_some_iff.mp h
        split at h
        · exact hs _ _ h
        · exact ih _ _ h
      · exact hs _ _ h
theorem wLine_lt {len : List Nat} {byt : List (List Int32)} {N r f x t t1 : Nat} {u : Unit} {μ μ1 : wMem} (h : wLine len byt N r f x t μ = some (.inl (u, t1, μ1))) : t1 < 5 := by
  unfold wLine at h
  split at h
  · obtain ⟨_, t2, μ2, -, h⟩ := wRbd_l h
    obtain ⟨v, t3, μ3, h3, h⟩ := wRbd_l h
    obtain ⟨⟨v4, t4, μ4⟩, hz, h⟩ := Option.bind_eq_some_iff.mp h
    cases h
    exact wTakes_lt (wTold_lt h3) hz
  · obtain ⟨v, t2, μ2, -, h⟩ := wRbd_l h
    split at h
    · obtain ⟨v, t3, μ3, -, h⟩ := wRbd_l h
      split at h
      · cases h
      · unfold wNewPost at h
        split at h
        · obtain ⟨_, _, _, -, h⟩ := wRbd_l h
          obtain ⟨_, _, _, -, h⟩ := wRbd_l h
          obtain ⟨v6, t6, μ6, h6, h⟩ := wRbd_l h
          cases h
          exact wTold_lt h6
        · cases h
    · unfold wNewPerson at h
      split at h
      · obtain ⟨_, _, _, -, h⟩ := wRbd_l h
        obtain ⟨_, _, _, -, h⟩ := wRbd_l h
        obtain ⟨v6, t6, μ6, h6, h⟩ := wRbd_l h
        cases h
        exact wPl_3 _ _ _ h6
      · cases h
abbrev cX7_read : ByteArray := prog_6_method_13_code
def yX7_read : MethodName := ⟨RX7, "read", "()LOnePassport$Family;"⟩
def dkwX7_read_2 : List UInt8 := [167, 255, 209, 42, 180, 0, 25, 176]
abbrev dktX7_read_2 : List UInt8 := dkwX7_read_2 ++ []
def dkwX7_read_1 : List UInt8 := [42, 4, 182, 0, 103, 191, 42, 182, 0, 38, 42, 180, 0, 25, 89, 180, 0, 155, 4, 96, 181, 0, 155]
abbrev dktX7_read_1 : List UInt8 := dkwX7_read_1 ++ dktX7_read_2
def dkwX7_read_0 : List UInt8 := [42, 180, 0, 35, 178, 0, 29, 165, 0, 43, 42, 182, 0, 182, 42, 180, 0, 35, 178, 0, 75, 165, 0, 9]
abbrev dktX7_read_0 : List UInt8 := dkwX7_read_0 ++ dktX7_read_1
theorem dksX7_read_0 : cX7_read.data.toList.drop 0 = dktX7_read_0 := by decide +kernel
theorem dksX7_read_1 : cX7_read.data.toList.drop 24 = dktX7_read_1 := dk_seg dksX7_read_0 24 rfl rfl
theorem dksX7_read_2 : cX7_read.data.toList.drop 47 = dktX7_read_2 := dk_seg dksX7_read_1 23 rfl rfl
theorem dX7_read_0 : decode cX7_read 0 = .ok (.aload_n 0, 1) := dk_42 (dk_at dksX7_read_0 0 rfl rfl)
theorem dX7_read_1 : decode cX7_read 1 = .ok (.getfield 35, 3) := dk_180 0 35 (dk_at dksX7_read_0 1 rfl rfl)
theorem dX7_read_4 : decode cX7_read 4 = .ok (.getstatic 29, 3) := dk_178 0 29 (dk_at dksX7_read_0 4 rfl rfl)
theorem dX7_read_7 : decode cX7_read 7 = .ok (.if_acmp .eq 43, 3) := dk_165 0 43 (dk_at dksX7_read_0 7 rfl rfl)
theorem dX7_read_10 : decode cX7_read 10 = .ok (.aload_n 0, 1) := dk_42 (dk_at dksX7_read_0 10 rfl rfl)
theorem dX7_read_11 : decode cX7_read 11 = .ok (.invokevirtual 182, 3) := dk_182 0 182 (dk_at dksX7_read_0 11 rfl rfl)
theorem dX7_read_14 : decode cX7_read 14 = .ok (.aload_n 0, 1) := dk_42 (dk_at dksX7_read_0 14 rfl rfl)
theorem dX7_read_15 : decode cX7_read 15 = .ok (.getfield 35, 3) := dk_180 0 35 (dk_at dksX7_read_0 15 rfl rfl)
theorem dX7_read_18 : decode cX7_read 18 = .ok (.getstatic 75, 3) := dk_178 0 75 (dk_at dksX7_read_0 18 rfl rfl)
theorem dX7_read_21 : decode cX7_read 21 = .ok (.if_acmp .eq 9, 3) := dk_165 0 9 (dk_at dksX7_read_0 21 rfl rfl)
theorem dX7_read_24 : decode cX7_read 24 = .ok (.aload_n 0, 1) := dk_42 (dk_at dksX7_read_1 0 rfl rfl)
theorem dX7_read_25 : decode cX7_read 25 = .ok (.iconst 1, 1) := dk_4 (dk_at dksX7_read_1 1 rfl rfl)
theorem dX7_read_26 : decode cX7_read 26 = .ok (.invokevirtual 103, 3) := dk_182 0 103 (dk_at dksX7_read_1 2 rfl rfl)
theorem dX7_read_29 : decode cX7_read 29 = .ok (.athrow, 1) := dk_191 (dk_at dksX7_read_1 5 rfl rfl)
theorem dX7_read_30 : decode cX7_read 30 = .ok (.aload_n 0, 1) := dk_42 (dk_at dksX7_read_1 6 rfl rfl)
theorem dX7_read_31 : decode cX7_read 31 = .ok (.invokevirtual 38, 3) := dk_182 0 38 (dk_at dksX7_read_1 7 rfl rfl)
theorem dX7_read_34 : decode cX7_read 34 = .ok (.aload_n 0, 1) := dk_42 (dk_at dksX7_read_1 10 rfl rfl)
theorem dX7_read_35 : decode cX7_read 35 = .ok (.getfield 25, 3) := dk_180 0 25 (dk_at dksX7_read_1 11 rfl rfl)
theorem dX7_read_38 : decode cX7_read 38 = .ok (.dup, 1) := dk_89 (dk_at dksX7_read_1 14 rfl rfl)
theorem dX7_read_39 : decode cX7_read 39 = .ok (.getfield 155, 3) := dk_180 0 155 (dk_at dksX7_read_1 15 rfl rfl)
theorem dX7_read_42 : decode cX7_read 42 = .ok (.iconst 1, 1) := dk_4 (dk_at dksX7_read_1 18 rfl rfl)
theorem dX7_read_43 : decode cX7_read 43 = .ok (.iadd, 1) := dk_96 (dk_at dksX7_read_1 19 rfl rfl)
theorem dX7_read_44 : decode cX7_read 44 = .ok (.putfield 155, 3) := dk_181 0 155 (dk_at dksX7_read_1 20 rfl rfl)
theorem dX7_read_47 : decode cX7_read 47 = .ok (.goto (-47), 3) := dk_167 255 209 (dk_at dksX7_read_2 0 rfl rfl)
theorem dX7_read_50 : decode cX7_read 50 = .ok (.aload_n 0, 1) := dk_42 (dk_at dksX7_read_2 3 rfl rfl)
theorem dX7_read_51 : decode cX7_read 51 = .ok (.getfield 25, 3) := dk_180 0 25 (dk_at dksX7_read_2 4 rfl rfl)
theorem dX7_read_54 : decode cX7_read 54 = .ok (.areturn, 1) := dk_176 (dk_at dksX7_read_2 7 rfl rfl)
theorem okX7_read : wOkV yX7_read cX7_read 1 (some (.object "OnePassport$Family")) 0 := ⟨q508, q509, q146, q510, by decide, by decide, by decide +kernel⟩
set_option maxHeartbeats 2000000 in
theorem tX7_rd {p : Program} {l : Launch} {e : Env} {s : State} {m : MethodId} {args : Array Value} {below : List Frame} {meth : Method} {c : Code} {D : va_G} {E : List wCell} {q : Nat → Nat} {ca : wCA} {A : Nat → Prop} {Q : State → Prop} {n : Nat} {len : List Nat} {byt : List (List Int32)} {adK adV : Nat → Nat} {fo : Option Nat} {r f x : Nat} {ad : Nat → Nat} (h1 : spX.length ≤ r) (h2 : r < (spX ++ E).length) (h12 : 12 ≤ n) (hA : wAd ad) (hF : wRF E r f x) (hZ : (wZL ad n len byt adK adV fo) A s s.heap) {N : Nat} : ∀ (M t : Nat) (μ : wMem) (u : Unit) (t9 : Nat) (μ9 : wMem), t < 5 → wRead len byt N r f x M t μ = some (.inl (u, t9, μ9)) → wC p ({ frames := 10, cells := 0, slots := 0, locals := 215 } : Room) s m args meth c cX7_read yX7_read.cls 1 (some (.object "OnePassport$Family")) D vwCl (wW E r f (ad t)) q ca A → (wC p ({ frames := 10, cells := 0, slots := 0, locals := 215 } : Room) s m args meth c cX7_read yX7_read.cls 1 (some (.object "OnePassport$Family")) D vwCl (wW E r f (ad t9)) q ca A → wJ p l e ({ frames := 10, cells := 0, slots := 0, locals := 215 } : Room) s m args below meth c 1 D vwCl (wW E r f (ad t9)) q ca A Q 0 0 μ9 50 [(0, .ref (q r))] []) → wJ p l e ({ frames := 10, cells := 0, slots := 0, locals := 215 } : Room) s m args below meth c 1 D vwCl (wW E r f (ad t)) q ca A Q 0 0 μ 0 [(0, .ref (q r))] [] := by
  intro M
  induction M with
  | zero =>
    intro t μ u t9 μ9 ht hf
    simp [wRead] at hf
  | succ M ih =>
    intro t μ u t9 μ9 ht hf C ke
    unfold wRead at hf
    refine wr_aload_n 0 C dX7_read_0 0 rfl rfl ?_
    refine wr_getA (a := ad t) 1 5 C dX7_read_1 (wW_get h1 h2) rfl in_X7 (by decide) rfl q490 ?_
    refine wr_getsA 4 C dX7_read_4 (hZ.1.1.1 0 (by decide)) q462 ?_
    refine wr_acmp_eq 7 50 C dX7_read_7 (by decide) (fun he => ?_) (fun he => ?_)
    · rw [if_pos (hA t 0 ht (by decide) he)] at hf
      cases hf
      exact ke C
    · rw [if_neg (fun (h3 : t = 0) => he (by rw [h3]))] at hf
      obtain ⟨u1, t1, μ1, hn, hf⟩ := wRbd_l hf
      by_cases h3 : t1 = 3
      · rw [if_pos h3] at hf
        obtain ⟨⟨t2, μ2⟩, hz, hf⟩ := Option.bind_eq_some_iff.mp hf
        refine wr_aload_n 10 C dX7_read_10 0 rfl rfl ?_
        refine wr_VPv (kc1 := 0) (ks1 := 0) (As := []) (b := r) 11 [] C dX7_read_11 (tX7_line l h1 h2 h12 hA ht hF N μ μ1 u1 t1 hn) okX7_line q511 (wW_get h1 h2) rfl wZL_ok hZ (by rw [wW_len, wW_len]) ⟨rfl, rfl, Nat.le_of_ble_eq_true rfl, Nat.le_of_ble_eq_true rfl, Nat.zero_le _, Nat.zero_le _⟩ (Nat.le_of_ble_eq_true rfl) rfl ?_
        intro C1
        refine wr_aload_n 14 C1 dX7_read_14 0 rfl rfl ?_
        refine wr_getA (a := ad t1) 15 5 C1 dX7_read_15 (wW_get h1 h2) rfl in_X7 (by decide) rfl q490 ?_
        refine wr_getsA 18 C1 dX7_read_18 (hZ.1.1.1 3 (by decide)) q481 ?_
        refine wr_acmp_eq 21 30 C1 dX7_read_21 (by decide) (fun _ => ?_) (fun h => absurd (congrArg ad h3) h)
        refine wr_aload_n 30 C1 dX7_read_30 0 rfl rfl ?_
        refine wr_VPv (kc1 := 0) (ks1 := 0) (As := []) (b := r) 31 [] C1 dX7_read_31 (wW_set (E := E) (f := f) (a := ad t1) (b := ad t2) h1 ▸ tX7_next l (wW_get h1 h2) N t2 μ1 μ2 hz) okX7_next q464 (wW_get h1 h2) rfl wZk_ok hZ.1.1.1 (by rw [wW_len, wW_len]) ⟨rfl, rfl, Nat.le_of_ble_eq_true rfl, Nat.le_of_ble_eq_true rfl, Nat.zero_le _, Nat.zero_le _⟩ (Nat.le_of_ble_eq_true rfl) rfl ?_
        intro C2
        refine wr_aload_n 34 C2 dX7_read_34 0 rfl rfl ?_
        refine wr_getR 35 1 C2 dX7_read_35 (wW_get h1 h2) rfl in_X7 (by decide) rfl q486 ?_
        refine wr_dup 38 C2 dX7_read_38 rfl ?_
        refine wr_getNI 39 1 C2 dX7_read_39 (hF _).1 rfl in_X1 (by decide) rfl q188 ?_
        refine wr_iconst 42 C2 dX7_read_42 (v := 1) rfl ?_
        refine wr_iadd 43 C2 dX7_read_43 ?_
        refine wr_putNI 44 1 C2 dX7_read_44 (hF _).1 rfl in_X1 tyX1 tyX1_ok nmX1 (by decide) rfl q188 rfl rfl rfl ?_
        refine wr_goto 47 C2 dX7_read_47 (tgt := 0) (by decide) ?_
        exact ih _ _ _ _ _ (wNext_lt (μ1 := μ2) hz) hf C2 ke
      · rw [if_neg h3] at hf
        cases hf
theorem tX7_read (l : Launch) {D : va_G} {E : List wCell} {q : Nat → Nat} {ca : wCA} {n : Nat} {len : List Nat} {byt : List (List Int32)} {adK adV : Nat → Nat} {fo : Option Nat} {r f x : Nat} {ad : Nat → Nat} (h1 : spX.length ≤ r) (h2 : r < (spX ++ E).length) (h12 : 12 ≤ n) (hA : wAd ad) {t : Nat} (ht : t < 5) (hF : wRF E r f x) (N M : Nat) (μ μ9 : wMem) (u : Unit) (t9 : Nat) (hf : wRead len byt N r f x M t μ = some (.inl (u, t9, μ9))) : wMKq (wZL ad n len byt adK adV fo) l yX7_read cX7_read 1 (some (.object "OnePassport$Family")) ({ frames := 10, cells := 0, slots := 0, locals := 215 } : Room) D vwCl (wW E r f (ad t)) (wW E r f (ad t9)) q ca [.ref (q r)] μ μ9 (some f) := by
  refine wMKq_intro (by decide) (Nat.le_of_ble_eq_true rfl) ?_
  intro p e s m args below meth c A C hZ
  refine wr_sub [(0, .ref (q r))] [0] rfl ?_
  refine tX7_rd h1 h2 h12 hA hF hZ M t μ u t9 μ9 ht hf C (fun C1 => ?_)
  refine wr_aload_n 50 C1 dX7_read_50 0 rfl rfl ?_
  refine wr_getR 51 1 C1 dX7_read_51 (wW_get h1 h2) rfl in_X7 (by decide) rfl q486 ?_
  exact wr_retqO (r := some (q f)) 54 C1 dX7_read_54 rfl ⟨Nat.le_refl _, Nat.le_refl _⟩ rfl (fun _ _ => rfl)
set_option maxHeartbeats 2000000 in
theorem tX7_rdT {p : Program} {l : Launch} {e : Env} {s : State} {m : MethodId} {args : Array Value} {below : List Frame} {meth : Method} {c : Code} {D : va_G} {E : List wCell} {q : Nat → Nat} {ca : wCA} {A : Nat → Prop} {n : Nat} {len : List Nat} {byt : List (List Int32)} {adK adV : Nat → Nat} {fo : Option Nat} {r f x : Nat} {ad : Nat → Nat} (h1 : spX.length ≤ r) (h2 : r < (spX ++ E).length) (h12 : 12 ≤ n) (hA : wAd ad) (hF : wRF E r f x) (hZ : (wZL ad n len byt adK adV fo) A s s.heap) {N : Nat} (hno : ∀ a, wNoRef (wW E r f a) (wW E r f a).length = true) {k : Int32} {t0 t9 : Nat} {μ9 : wMem} (hx : ∀ z ∈ c.exceptionTable.toList, False) : ∀ (M t : Nat) (μ : wMem), t < 5 → wRead len byt N r f x M t μ = some (.inr (k, t9, μ9)) → wC p ({ frames := 10, cells := 1, slots := 8, locals := 215 } : Room) s m args meth c cX7_read yX7_read.cls 1 (some (.object "OnePassport$Family")) D vwCl (wW E r f (ad t)) q ca A → wJ p l e ({ frames := 10, cells := 1, slots := 8, locals := 215 } : Room) s m args below meth c 1 D vwCl (wW E r f (ad t)) q ca A (vq_MQ below (va_Qv (fun (_ : Unit) => False) (fun _ _ => True) A) (wXq D vwCl (wW E r f (ad t0)) ((wW E r f (ad t9)) ++ [wFlt]) q ca (wFm μ9 (wW E r f (ad t9)).length k ((wZ μ9 (wW E r f (ad t9)).length).1 r 3)) (wW E r f (ad t9)).length A) args s ({ frames := 10, cells := 1, slots := 8, locals := 215 } : Room).cells ({ frames := 10, cells := 1, slots := 8, locals := 215 } : Room).slots A) 0 0 μ 0 [(0, .ref (q r))] [] := by
  intro M
  induction M with
  | zero =>
    intro t μ ht hf
    simp [wRead] at hf
  | succ M ih =>
    intro t μ ht hf C
    unfold wRead at hf
    refine wr_aload_n 0 C dX7_read_0 0 rfl rfl ?_
    refine wr_getA (a := ad t) 1 5 C dX7_read_1 (wW_get h1 h2) rfl in_X7 (by decide) rfl q490 ?_
    refine wr_getsA 4 C dX7_read_4 (hZ.1.1.1 0 (by decide)) q462 ?_
    refine wr_acmp_eq 7 50 C dX7_read_7 (by decide) (fun he => ?_) (fun he => ?_)
    · rw [if_pos (hA t 0 ht (by decide) he)] at hf
      cases hf
    · rw [if_neg (fun (h3 : t = 0) => he (by rw [h3]))] at hf
      rcases wRbd_r hf with hn | ⟨u1, t1, μ1, hn, hf⟩
      · refine wr_aload_n 10 C dX7_read_10 0 rfl rfl ?_
        exact wr_VTo (kc1 := 1) (ks1 := 8) (As := []) (b := r) 11 [] C dX7_read_11 (tX7_lineT l h1 h2 h12 hA ht hF hno N μ μ9 k t9 hn) okX7_line q511 (wW_get h1 h2) rfl wZL_ok hZ (Nat.le_of_eq (by simp only [wW_len])) (fun _ _ => rfl) hx ⟨rfl, rfl, Nat.le_of_ble_eq_true rfl, Nat.le_of_ble_eq_true rfl, Nat.le_of_ble_eq_true rfl, Nat.le_of_ble_eq_true rfl⟩ ⟨Nat.le_refl _, Nat.le_refl _⟩ (Nat.le_of_ble_eq_true rfl) rfl
      · by_cases h3 : t1 = 3
        · rw [if_pos h3] at hf
          obtain ⟨⟨t2, μ2⟩, hz, hf⟩ := Option.bind_eq_some_iff.mp hf
          refine wr_aload_n 10 C dX7_read_10 0 rfl rfl ?_
          refine wr_VPv (kc1 := 0) (ks1 := 0) (As := []) (b := r) 11 [] C dX7_read_11 (tX7_line l h1 h2 h12 hA ht hF N μ μ1 u1 t1 hn) okX7_line q511 (wW_get h1 h2) rfl wZL_ok hZ (by rw [wW_len, wW_len]) ⟨rfl, rfl, Nat.le_of_ble_eq_true rfl, Nat.le_of_ble_eq_true rfl, Nat.zero_le _, Nat.zero_le _⟩ (Nat.le_of_ble_eq_true rfl) rfl ?_
          intro C1
          refine wr_aload_n 14 C1 dX7_read_14 0 rfl rfl ?_
          refine wr_getA (a := ad t1) 15 5 C1 dX7_read_15 (wW_get h1 h2) rfl in_X7 (by decide) rfl q490 ?_
          refine wr_getsA 18 C1 dX7_read_18 (hZ.1.1.1 3 (by decide)) q481 ?_
          refine wr_acmp_eq 21 30 C1 dX7_read_21 (by decide) (fun _ => ?_) (fun h => absurd (congrArg ad h3) h)
          refine wr_aload_n 30 C1 dX7_read_30 0 rfl rfl ?_
          refine wr_VPv (kc1 := 0) (ks1 := 0) (As := []) (b := r) 31 [] C1 dX7_read_31 (wW_set (E := E) (f := f) (a := ad t1) (b := ad t2) h1 ▸ tX7_next l (wW_get h1 h2) N t2 μ1 μ2 hz) okX7_next q464 (wW_get h1 h2) rfl wZk_ok hZ.1.1.1 (by rw [wW_len, wW_len]) ⟨rfl, rfl, Nat.le_of_ble_eq_true rfl, Nat.le_of_ble_eq_true rfl, Nat.zero_le _, Nat.zero_le _⟩ (Nat.le_of_ble_eq_true rfl) rfl ?_
          intro C2
          refine wr_aload_n 34 C2 dX7_read_34 0 rfl rfl ?_
          refine wr_getR 35 1 C2 dX7_read_35 (wW_get h1 h2) rfl in_X7 (by decide) rfl q486 ?_
          refine wr_dup 38 C2 dX7_read_38 rfl ?_
          refine wr_getNI 39 1 C2 dX7_read_39 (hF _).1 rfl in_X1 (by decide) rfl q188 ?_
          refine wr_iconst 42 C2 dX7_read_42 (v := 1) rfl ?_
          refine wr_iadd 43 C2 dX7_read_43 ?_
          refine wr_putNI 44 1 C2 dX7_read_44 (hF _).1 rfl in_X1 tyX1 tyX1_ok nmX1 (by decide) rfl q188 rfl rfl rfl ?_
          refine wr_goto 47 C2 dX7_read_47 (tgt := 0) (by decide) ?_
          exact ih _ _ (wNext_lt (μ1 := μ2) hz) hf C2
        · rw [if_neg h3] at hf
          have h5 := wLine_lt hn
          cases hf
          refine wr_aload_n 10 C dX7_read_10 0 rfl rfl ?_
          refine wr_VPv (kc1 := 0) (ks1 := 0) (As := []) (b := r) 11 [] C dX7_read_11 (tX7_line l h1 h2 h12 hA ht hF N μ μ9 u1 t9 hn) okX7_line q511 (wW_get h1 h2) rfl wZL_ok hZ (by rw [wW_len, wW_len]) ⟨rfl, rfl, Nat.le_of_ble_eq_true rfl, Nat.le_of_ble_eq_true rfl, Nat.zero_le _, Nat.zero_le _⟩ (Nat.le_of_ble_eq_true rfl) rfl ?_
          intro C1
          refine wr_aload_n 14 C1 dX7_read_14 0 rfl rfl ?_
          refine wr_getA (a := ad t9) 15 5 C1 dX7_read_15 (wW_get h1 h2) rfl in_X7 (by decide) rfl q490 ?_
          refine wr_getsA 18 C1 dX7_read_18 (hZ.1.1.1 3 (by decide)) q481 ?_
          refine wr_acmp_eq 21 30 C1 dX7_read_21 (by decide) (fun h => absurd (hA _ _ h5 (by decide) h) h3) (fun _ => ?_)
          refine wr_aload_n 24 C1 dX7_read_24 0 rfl rfl ?_
          refine wr_iconst 25 C1 dX7_read_25 (v := 1) rfl ?_
          refine wr_VKq (kc1 := 1) (ks1 := 8) (As := [.int 1]) (b := r) 26 [] C1 dX7_read_26 (tX7_wrong l (wW_get h1 h2) (hno _) μ9) okX7_wrong q576 (wW_get h1 h2) rfl wZq_ok hZ.1.2 ⟨rfl, rfl, Nat.le_of_ble_eq_true rfl, Nat.le_of_ble_eq_true rfl, Nat.le_of_ble_eq_true rfl, Nat.le_of_ble_eq_true rfl⟩ (Nat.le_of_ble_eq_true rfl) rfl ?_
          intro q1 hq1 C9
          exact wr_athrowO (fs := [(3, 0), (3, 0), (3, 0), (3, 0), (3, 0), (0, 0), (0, 0), (0, 0)]) 29 C9 dX7_read_29 List.getElem?_concat_length rfl rfl (fun j hj => hq1 j (by rw [wW_len] at hj ⊢; exact hj)) hx ⟨Nat.le_refl _, Nat.le_refl _⟩ rfl
theorem tX7_readT (l : Launch) {D : va_G} {E : List wCell} {q : Nat → Nat} {ca : wCA} {n : Nat} {len : List Nat} {byt : List (List Int32)} {adK adV : Nat → Nat} {fo : Option Nat} {r f x : Nat} {ad : Nat → Nat} (h1 : spX.length ≤ r) (h2 : r < (spX ++ E).length) (h12 : 12 ≤ n) (hA : wAd ad) {t : Nat} (ht : t < 5) (hF : wRF E r f x) (hno : ∀ a, wNoRef (wW E r f a) (wW E r f a).length = true) (N M : Nat) (μ μ9 : wMem) (k : Int32) (t9 : Nat) (hf : wRead len byt N r f x M t μ = some (.inr (k, t9, μ9))) : wMT (wZL ad n len byt adK adV fo) l yX7_read cX7_read 1 (some (.object "OnePassport$Family")) ({ frames := 10, cells := 1, slots := 8, locals := 215 } : Room) D vwCl (wW E r f (ad t)) ((wW E r f (ad t9)) ++ [wFlt]) q ca [.ref (q r)] μ (wFm μ9 (wW E r f (ad t9)).length k ((wZ μ9 (wW E r f (ad t9)).length).1 r 3)) (wW E r f (ad t9)).length := by
  refine wMT_intro (by decide) (Nat.le_of_ble_eq_true rfl) ?_
  intro p e s m args below meth c A C hZ hx
  refine wr_sub [(0, .ref (q r))] [0] rfl ?_
  exact tX7_rdT h1 h2 h12 hA hF hZ hno hx M t μ ht hf C
