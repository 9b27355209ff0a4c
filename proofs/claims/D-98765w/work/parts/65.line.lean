set_option maxRecDepth 100000
theorem wr_putNZ {p : Program} {l : Launch} {e : Env} {R : Room} {s : State} {m : MethodId} {args : Array Value} {below : List Frame} {meth : Method} {c : Code} {cc : ByteArray} {own : String} {nL : Nat} {ret : Option FieldType} {D : va_G} {cl : List vw_C} {sp : List wCell} {q : Nat → Nat} {ca : wCA} {A : Nat → Prop} {Q : State → Prop} {kc ks : Nat} {μ : wMem} {lv : List (Nat × Value)} {st : List Value} {c0 ci N x ix : Nat} {Cn host : String} {T : u_T} {fs : List (Nat × Nat)} {v : Int32} {μ' : wMem} (pc j : Nat) (C : wC p R s m args meth c cc own nL ret D cl sp q ca A) (hd : decode cc pc = .ok (.putfield ix, 3)) (hs : sp[c0]? = some (.inl (ci, fs))) (hc : cl[ci]? = some (Cn, T, N)) (hin : ∀ w ∈ u_ws Cn T N, w ∈ lw_all) (ty0 : Nat → FieldType) (hty : ∀ k, k < N → parseFieldDescriptor (T k).2.2.1 = some (ty0 k)) (hnm : ∀ a, a < N → ∀ b, b < N → a ≠ b → (T a).2.1 ≠ (T b).2.1) (hj : j < N) (hf : fs[j]? = some (0, x)) (hl : Cond.fieldLinkNest own ix (T j).1 (T j).2.1 (T j).2.2.1 host ∈ lw_tbl) (hfin : (T j).2.2.2 = false) (ht : ty0 j = .boolean) (hb : ok_b v = true) (hμ : μ' = wSI μ c0 j v) (k : wJ p l e R s m args below meth c nL D cl sp q ca A Q kc ks μ' (pc + 3) lv st) : wJ p l e R s m args below meth c nL D cl sp q ca A Q kc ks μ pc lv (.int v :: .ref (q c0) :: st) :=
  fun H locs ls h1 h2 h3 => va_putN (ty := .boolean) C.1 C.2.1 C.2.2.2.2.1 hin ty0 hty hnm C.2.2.2.1 C.2.2.2.2.2.1 h1 (wWs_D C.2.2.2.2.2.2.2.2.1 C.2.2.2.2.2.2.2.2.2.1 μ) h2 c0 (wWs_get hs) hc j hj (wNest_use C.2.2.2.2.2.2.2.2.2.2.2 hl rfl) (fun _ h9 => h9) hfin (by rw [hty j hj, ht]) (ok_b_nar hb) (ok_b_fits hb) (by have := (List.getElem?_eq_some_iff.mp hf).1; simpa [wFs] using this) hd (fun H1 locs1 g1 g2 g3 => k H1 locs1 ls (by rw [hμ, ← wWs_setFI hs hf]; exact g1) g3 h3)
def wLine (len : List Nat) (byt : List (List Int32)) (N r f x t : Nat) (μ : wMem) : wRes Unit :=
  if μ.1 f 1 = 0 then
    wRbd (wNeeds len byt N r t 0 μ) fun _ t1 μ1 =>
    wRbd (wTold len byt N r t1 1 1 9 μ1) fun v t2 μ2 =>
    (wTakes len byt N r t2 2 (wSI μ2 f 0 v)).bind fun z => some (.inl ((), z.2.1, wSI z.2.2 f 7 z.1))
  else
    wRbd (wTakes2 len byt N r t 3 (if μ.1 f 2 = 6 then 1 else 0) μ) fun v t1 μ1 =>
    if v = 0 then
      wRbd (wTakes2 len byt N r t1 8 (if μ1.1 f 3 = 2 then 1 else 0) μ1) fun v2 t2 μ2 =>
      if v2 = 0 then some (.inr (1, t2, μ2)) else wNewPost len byt N r f x t2 μ2
    else wNewPerson len byt N r f x t1 μ1
theorem wNeeds_lt {len : List Nat} {byt : List (List Int32)} {N r t w t1 : Nat} {u : Unit} {μ μ1 : wMem} (ht : t < 5) (h : wNeeds len byt N r t w μ = some (.inl (u, t1, μ1))) : t1 < 5 := by
  obtain ⟨v0, -, hk⟩ := wNeeds_l h
  exact wTakes_lt ht hk
theorem wTakes2_lt {len : List Nat} {byt : List (List Int32)} {N r t w t1 : Nat} {full v : Int32} {μ μ1 : wMem} (ht : t < 5) (h : wTakes2 len byt N r t w full μ = some (.inl (v, t1, μ1))) : t1 < 5 := by
  unfold wTakes2 at h
  obtain ⟨b, -, h⟩ := Option.bind_eq_some_iff.mp h
  split at h
  · cases h
  · obtain ⟨⟨v, tb, μb⟩, hz, h⟩ := Option.bind_eq_some_iff.mp h
    cases h
    exact wTakes_lt ht hz
abbrev cX7_line : ByteArray := prog_6_method_12_code
def yX7_line : MethodName := ⟨RX7, "line", "()V"⟩
def dkwX7_line_5 : List UInt8 := [177]
abbrev dktX7_line_5 : List UInt8 := dkwX7_line_5 ++ []
def dkwX7_line_4 : List UInt8 := [4, 167, 0, 4, 3, 182, 0, 171, 153, 0, 10, 42, 182, 0, 179, 167, 0, 9, 42, 4, 182, 0, 103, 191]
abbrev dktX7_line_4 : List UInt8 := dkwX7_line_4 ++ dktX7_line_5
def dkwX7_line_3 : List UInt8 := [153, 0, 10, 42, 182, 0, 174, 167, 0, 41, 42, 18, 177, 42, 180, 0, 25, 180, 0, 140, 5, 160, 0, 7]
abbrev dktX7_line_3 : List UInt8 := dkwX7_line_3 ++ dktX7_line_4
def dkwX7_line_2 : List UInt8 := [42, 18, 169, 42, 180, 0, 25, 180, 0, 111, 16, 6, 160, 0, 7, 4, 167, 0, 4, 3, 182, 0, 171]
abbrev dktX7_line_2 : List UInt8 := dkwX7_line_2 ++ dktX7_line_3
def dkwX7_line_1 : List UInt8 := [16, 9, 182, 0, 119, 181, 0, 161, 42, 180, 0, 25, 42, 18, 163, 182, 0, 100, 181, 0, 165, 167, 0, 74]
abbrev dktX7_line_1 : List UInt8 := dkwX7_line_1 ++ dktX7_line_2
def dkwX7_line_0 : List UInt8 := [42, 180, 0, 25, 180, 0, 155, 154, 0, 41, 42, 18, 158, 182, 0, 107, 42, 180, 0, 25, 42, 18, 159, 4]
abbrev dktX7_line_0 : List UInt8 := dkwX7_line_0 ++ dktX7_line_1
theorem dksX7_line_0 : cX7_line.data.toList.drop 0 = dktX7_line_0 := by decide +kernel
theorem dksX7_line_1 : cX7_line.data.toList.drop 24 = dktX7_line_1 := dk_seg dksX7_line_0 24 rfl rfl
theorem dksX7_line_2 : cX7_line.data.toList.drop 48 = dktX7_line_2 := dk_seg dksX7_line_1 24 rfl rfl
theorem dksX7_line_3 : cX7_line.data.toList.drop 71 = dktX7_line_3 := dk_seg dksX7_line_2 23 rfl rfl
theorem dksX7_line_4 : cX7_line.data.toList.drop 95 = dktX7_line_4 := dk_seg dksX7_line_3 24 rfl rfl
theorem dksX7_line_5 : cX7_line.data.toList.drop 119 = dktX7_line_5 := dk_seg dksX7_line_4 24 rfl rfl
theorem dX7_line_0 : decode cX7_line 0 = .ok (.aload_n 0, 1) := dk_42 (dk_at dksX7_line_0 0 rfl rfl)
theorem dX7_line_1 : decode cX7_line 1 = .ok (.getfield 25, 3) := dk_180 0 25 (dk_at dksX7_line_0 1 rfl rfl)
theorem dX7_line_4 : decode cX7_line 4 = .ok (.getfield 155, 3) := dk_180 0 155 (dk_at dksX7_line_0 4 rfl rfl)
theorem dX7_line_7 : decode cX7_line 7 = .ok (.ifCond .ne 41, 3) := dk_154 0 41 (dk_at dksX7_line_0 7 rfl rfl)
theorem dX7_line_10 : decode cX7_line 10 = .ok (.aload_n 0, 1) := dk_42 (dk_at dksX7_line_0 10 rfl rfl)
theorem dX7_line_11 : decode cX7_line 11 = .ok (.ldc 158, 2) := dk_18 158 (dk_at dksX7_line_0 11 rfl rfl)
theorem dX7_line_13 : decode cX7_line 13 = .ok (.invokevirtual 107, 3) := dk_182 0 107 (dk_at dksX7_line_0 13 rfl rfl)
theorem dX7_line_16 : decode cX7_line 16 = .ok (.aload_n 0, 1) := dk_42 (dk_at dksX7_line_0 16 rfl rfl)
theorem dX7_line_17 : decode cX7_line 17 = .ok (.getfield 25, 3) := dk_180 0 25 (dk_at dksX7_line_0 17 rfl rfl)
theorem dX7_line_20 : decode cX7_line 20 = .ok (.aload_n 0, 1) := dk_42 (dk_at dksX7_line_0 20 rfl rfl)
theorem dX7_line_21 : decode cX7_line 21 = .ok (.ldc 159, 2) := dk_18 159 (dk_at dksX7_line_0 21 rfl rfl)
theorem dX7_line_23 : decode cX7_line 23 = .ok (.iconst 1, 1) := dk_4 (dk_at dksX7_line_0 23 rfl rfl)
theorem dX7_line_24 : decode cX7_line 24 = .ok (.bipush 9, 2) := dk_16 9 (dk_at dksX7_line_1 0 rfl rfl)
theorem dX7_line_26 : decode cX7_line 26 = .ok (.invokevirtual 119, 3) := dk_182 0 119 (dk_at dksX7_line_1 2 rfl rfl)
theorem dX7_line_29 : decode cX7_line 29 = .ok (.putfield 161, 3) := dk_181 0 161 (dk_at dksX7_line_1 5 rfl rfl)
theorem dX7_line_32 : decode cX7_line 32 = .ok (.aload_n 0, 1) := dk_42 (dk_at dksX7_line_1 8 rfl rfl)
theorem dX7_line_33 : decode cX7_line 33 = .ok (.getfield 25, 3) := dk_180 0 25 (dk_at dksX7_line_1 9 rfl rfl)
theorem dX7_line_36 : decode cX7_line 36 = .ok (.aload_n 0, 1) := dk_42 (dk_at dksX7_line_1 12 rfl rfl)
theorem dX7_line_37 : decode cX7_line 37 = .ok (.ldc 163, 2) := dk_18 163 (dk_at dksX7_line_1 13 rfl rfl)
theorem dX7_line_39 : decode cX7_line 39 = .ok (.invokevirtual 100, 3) := dk_182 0 100 (dk_at dksX7_line_1 15 rfl rfl)
theorem dX7_line_42 : decode cX7_line 42 = .ok (.putfield 165, 3) := dk_181 0 165 (dk_at dksX7_line_1 18 rfl rfl)
theorem dX7_line_45 : decode cX7_line 45 = .ok (.goto 74, 3) := dk_167 0 74 (dk_at dksX7_line_1 21 rfl rfl)
theorem dX7_line_48 : decode cX7_line 48 = .ok (.aload_n 0, 1) := dk_42 (dk_at dksX7_line_2 0 rfl rfl)
theorem dX7_line_49 : decode cX7_line 49 = .ok (.ldc 169, 2) := dk_18 169 (dk_at dksX7_line_2 1 rfl rfl)
theorem dX7_line_51 : decode cX7_line 51 = .ok (.aload_n 0, 1) := dk_42 (dk_at dksX7_line_2 3 rfl rfl)
theorem dX7_line_52 : decode cX7_line 52 = .ok (.getfield 25, 3) := dk_180 0 25 (dk_at dksX7_line_2 4 rfl rfl)
theorem dX7_line_55 : decode cX7_line 55 = .ok (.getfield 111, 3) := dk_180 0 111 (dk_at dksX7_line_2 7 rfl rfl)
theorem dX7_line_58 : decode cX7_line 58 = .ok (.bipush 6, 2) := dk_16 6 (dk_at dksX7_line_2 10 rfl rfl)
theorem dX7_line_60 : decode cX7_line 60 = .ok (.if_icmp .ne 7, 3) := dk_160 0 7 (dk_at dksX7_line_2 12 rfl rfl)
theorem dX7_line_63 : decode cX7_line 63 = .ok (.iconst 1, 1) := dk_4 (dk_at dksX7_line_2 15 rfl rfl)
theorem dX7_line_64 : decode cX7_line 64 = .ok (.goto 4, 3) := dk_167 0 4 (dk_at dksX7_line_2 16 rfl rfl)
theorem dX7_line_67 : decode cX7_line 67 = .ok (.iconst 0, 1) := dk_3 (dk_at dksX7_line_2 19 rfl rfl)
theorem dX7_line_68 : decode cX7_line 68 = .ok (.invokevirtual 171, 3) := dk_182 0 171 (dk_at dksX7_line_2 20 rfl rfl)
theorem dX7_line_71 : decode cX7_line 71 = .ok (.ifCond .eq 10, 3) := dk_153 0 10 (dk_at dksX7_line_3 0 rfl rfl)
theorem dX7_line_74 : decode cX7_line 74 = .ok (.aload_n 0, 1) := dk_42 (dk_at dksX7_line_3 3 rfl rfl)
theorem dX7_line_75 : decode cX7_line 75 = .ok (.invokevirtual 174, 3) := dk_182 0 174 (dk_at dksX7_line_3 4 rfl rfl)
theorem dX7_line_78 : decode cX7_line 78 = .ok (.goto 41, 3) := dk_167 0 41 (dk_at dksX7_line_3 7 rfl rfl)
theorem dX7_line_81 : decode cX7_line 81 = .ok (.aload_n 0, 1) := dk_42 (dk_at dksX7_line_3 10 rfl rfl)
theorem dX7_line_82 : decode cX7_line 82 = .ok (.ldc 177, 2) := dk_18 177 (dk_at dksX7_line_3 11 rfl rfl)
theorem dX7_line_84 : decode cX7_line 84 = .ok (.aload_n 0, 1) := dk_42 (dk_at dksX7_line_3 13 rfl rfl)
theorem dX7_line_85 : decode cX7_line 85 = .ok (.getfield 25, 3) := dk_180 0 25 (dk_at dksX7_line_3 14 rfl rfl)
theorem dX7_line_88 : decode cX7_line 88 = .ok (.getfield 140, 3) := dk_180 0 140 (dk_at dksX7_line_3 17 rfl rfl)
theorem dX7_line_91 : decode cX7_line 91 = .ok (.iconst 2, 1) := dk_5 (dk_at dksX7_line_3 20 rfl rfl)
theorem dX7_line_92 : decode cX7_line 92 = .ok (.if_icmp .ne 7, 3) := dk_160 0 7 (dk_at dksX7_line_3 21 rfl rfl)
theorem dX7_line_95 : decode cX7_line 95 = .ok (.iconst 1, 1) := dk_4 (dk_at dksX7_line_4 0 rfl rfl)
theorem dX7_line_96 : decode cX7_line 96 = .ok (.goto 4, 3) := dk_167 0 4 (dk_at dksX7_line_4 1 rfl rfl)
theorem dX7_line_99 : decode cX7_line 99 = .ok (.iconst 0, 1) := dk_3 (dk_at dksX7_line_4 4 rfl rfl)
theorem dX7_line_100 : decode cX7_line 100 = .ok (.invokevirtual 171, 3) := dk_182 0 171 (dk_at dksX7_line_4 5 rfl rfl)
theorem dX7_line_103 : decode cX7_line 103 = .ok (.ifCond .eq 10, 3) := dk_153 0 10 (dk_at dksX7_line_4 8 rfl rfl)
theorem dX7_line_106 : decode cX7_line 106 = .ok (.aload_n 0, 1) := dk_42 (dk_at dksX7_line_4 11 rfl rfl)
theorem dX7_line_107 : decode cX7_line 107 = .ok (.invokevirtual 179, 3) := dk_182 0 179 (dk_at dksX7_line_4 12 rfl rfl)
theorem dX7_line_110 : decode cX7_line 110 = .ok (.goto 9, 3) := dk_167 0 9 (dk_at dksX7_line_4 15 rfl rfl)
theorem dX7_line_113 : decode cX7_line 113 = .ok (.aload_n 0, 1) := dk_42 (dk_at dksX7_line_4 18 rfl rfl)
theorem dX7_line_114 : decode cX7_line 114 = .ok (.iconst 1, 1) := dk_4 (dk_at dksX7_line_4 19 rfl rfl)
theorem dX7_line_115 : decode cX7_line 115 = .ok (.invokevirtual 103, 3) := dk_182 0 103 (dk_at dksX7_line_4 20 rfl rfl)
theorem dX7_line_118 : decode cX7_line 118 = .ok (.athrow, 1) := dk_191 (dk_at dksX7_line_4 23 rfl rfl)
theorem dX7_line_119 : decode cX7_line 119 = .ok (.return_, 1) := dk_177 (dk_at dksX7_line_5 0 rfl rfl)
theorem okX7_line : wOkV yX7_line cX7_line 1 none 0 := ⟨q513, qs3, q146, q514, by decide, by decide, by decide +kernel⟩
set_option maxHeartbeats 4000000 in
theorem tX7_line (l : Launch) {D : va_G} {E : List wCell} {q : Nat → Nat} {ca : wCA} {n : Nat} {len : List Nat} {byt : List (List Int32)} {adK adV : Nat → Nat} {fo : Option Nat} {r f x t : Nat} {ad : Nat → Nat} (h1 : spX.length ≤ r) (h2 : r < (spX ++ E).length) (h12 : 12 ≤ n) (hA : wAd ad) (ht : t < 5) (hF : wRF E r f x) (N : Nat) (μ μ9 : wMem) (u : Unit) (t9 : Nat) (hf : wLine len byt N r f x t μ = some (.inl (u, t9, μ9))) : wMPv (wZL ad n len byt adK adV fo) l yX7_line cX7_line 1 none ({ frames := 9, cells := 0, slots := 0, locals := 195 } : Room) D vwCl (wW E r f (ad t)) (wW E r f (ad t9)) q ca [.ref (q r)] μ μ9 := by
  unfold wLine at hf
  refine wMPv_intro (by decide) (Nat.le_of_ble_eq_true rfl) ?_
  intro p e s m args below meth c A C hZ
  refine wr_sub [(0, .ref (q r))] [0] rfl ?_
  refine wr_aload_n 0 C dX7_line_0 0 rfl rfl ?_
  refine wr_getR 1 1 C dX7_line_1 (wW_get h1 h2) rfl in_X7 (by decide) rfl q486 ?_
  refine wr_getNI 4 1 C dX7_line_4 (hF _).1 rfl in_X1 (by decide) rfl q188 ?_
  by_cases h0 : μ.1 f 1 = 0
  · rw [if_pos h0] at hf
    obtain ⟨u1, t1, μ1, hn1, hf⟩ := wRbd_l hf
    obtain ⟨v2, t2, μ2, hn2, hf⟩ := wRbd_l hf
    obtain ⟨⟨v3, t3, μ3⟩, hz, hf⟩ := Option.bind_eq_some_iff.mp hf
    cases hf
    refine wr_if_ne 7 48 C dX7_line_7 (by decide) (fun h => absurd h0 h) (fun _ => ?_)
    refine wr_aload_n 10 C dX7_line_10 0 rfl rfl ?_
    refine wr_ldcS 11 C dX7_line_11 (hZ.2 0 (by decide)) ?_
    refine wr_VPv (kc1 := 0) (ks1 := 0) (As := [.ref (adK 0)]) (b := r) 13 [] C dX7_line_13 (tX7_needs l h1 h2 (Nat.lt_of_lt_of_le (by decide) h12) hA ht N μ μ1 u1 t1 hn1) okX7_needs q516 (wW_get h1 h2) rfl wZR_ok hZ.1 (by rw [wW_len, wW_len]) ⟨rfl, rfl, Nat.le_of_ble_eq_true rfl, Nat.le_of_ble_eq_true rfl, Nat.zero_le _, Nat.zero_le _⟩ (Nat.le_of_ble_eq_true rfl) rfl ?_
    intro C1
    refine wr_aload_n 16 C1 dX7_line_16 0 rfl rfl ?_
    refine wr_getR 17 1 C1 dX7_line_17 (wW_get h1 h2) rfl in_X7 (by decide) rfl q486 ?_
    refine wr_aload_n 20 C1 dX7_line_20 0 rfl rfl ?_
    refine wr_ldcS 21 C1 dX7_line_21 (hZ.2 1 (by decide)) ?_
    refine wr_iconst 23 C1 dX7_line_23 (v := 1) rfl ?_
    refine wr_bipush 24 C1 dX7_line_24 (v := 9) rfl ?_
    refine wr_VPi (kc1 := 0) (ks1 := 0) (As := [.ref (adK 1), .int 1, .int 9]) (b := r) 26 [.ref (q f)] C1 dX7_line_26 (tX7_told l h1 h2 (Nat.lt_of_lt_of_le (by decide) h12) hA (wNeeds_lt ht hn1) N μ1 μ2 v2 t2 hn2) okX7_told q665 (wW_get h1 h2) rfl wZR_ok hZ.1 (by rw [wW_len, wW_len]) ⟨rfl, rfl, Nat.le_of_ble_eq_true rfl, Nat.le_of_ble_eq_true rfl, Nat.zero_le _, Nat.zero_le _⟩ (Nat.le_of_ble_eq_true rfl) rfl ?_
    intro C2
    refine wr_putNI 29 0 C2 dX7_line_29 (hF _).1 rfl in_X1 tyX1 tyX1_ok nmX1 (by decide) rfl q184 rfl rfl rfl ?_
    refine wr_aload_n 32 C2 dX7_line_32 0 rfl rfl ?_
    refine wr_getR 33 1 C2 dX7_line_33 (wW_get h1 h2) rfl in_X7 (by decide) rfl q486 ?_
    refine wr_aload_n 36 C2 dX7_line_36 0 rfl rfl ?_
    refine wr_ldcS 37 C2 dX7_line_37 (hZ.2 2 (by decide)) ?_
    refine wr_VPi (kc1 := 0) (ks1 := 0) (As := [.ref (adK 2)]) (b := r) 39 [.ref (q f)] C2 dX7_line_39 (tX7_takes l h1 h2 (Nat.lt_of_lt_of_le (by decide) h12) hA (wTold_lt hn2) N (wSI μ2 f 0 v2) μ3 v3 _ hz) okX7_takes q520 (wW_get h1 h2) rfl wZr_ok hZ.1.1 (by rw [wW_len, wW_len]) ⟨rfl, rfl, Nat.le_of_ble_eq_true rfl, Nat.le_of_ble_eq_true rfl, Nat.zero_le _, Nat.zero_le _⟩ (Nat.le_of_ble_eq_true rfl) rfl ?_
    intro C3
    refine wr_putNZ 42 7 C3 dX7_line_42 (hF _).1 rfl in_X1 tyX1 tyX1_ok nmX1 (by decide) rfl q204 rfl rfl (wTakes_b hz) rfl ?_
    refine wr_goto 45 C3 dX7_line_45 (tgt := 119) (by decide) ?_
    exact wr_retPv 119 C3 dX7_line_119 ⟨Nat.le_refl _, Nat.le_refl _⟩ rfl
  · rw [if_neg h0] at hf
    obtain ⟨v1, t1, μ1, hn1, hf⟩ := wRbd_l hf
    refine wr_if_ne 7 48 C dX7_line_7 (by decide) (fun _ => ?_) (fun h => absurd h h0)
    by_cases hv : v1 = 0
    · rw [if_pos hv] at hf
      obtain ⟨v2, t2, μ2, hn2, hf⟩ := wRbd_l hf
      by_cases hv2 : v2 = 0
      · rw [if_pos hv2] at hf
        cases hf
      · rw [if_neg hv2] at hf
        refine wr_aload_n 48 C dX7_line_48 0 rfl rfl ?_
        refine wr_ldcS 49 C dX7_line_49 (hZ.2 3 (by decide)) ?_
        refine wr_aload_n 51 C dX7_line_51 0 rfl rfl ?_
        refine wr_getR 52 1 C dX7_line_52 (wW_get h1 h2) rfl in_X7 (by decide) rfl q486 ?_
        refine wr_getNI 55 2 C dX7_line_55 (hF _).1 rfl in_X1 (by decide) rfl q190 ?_
        refine wr_bipush 58 C dX7_line_58 (v := 6) rfl ?_
        refine wr_icmp_ne 60 67 C dX7_line_60 (by decide) (fun hc => ?_) (fun hc => ?_)
        · refine wr_iconst 67 C dX7_line_67 (v := (if μ.1 f 2 = 6 then (1 : Int32) else 0)) (by rw [if_neg hc]; rfl) ?_
          refine wr_VPi (kc1 := 0) (ks1 := 0) (As := [.ref (adK 3), .int (if μ.1 f 2 = 6 then (1 : Int32) else 0)]) (b := r) 68 [] C dX7_line_68 (tX7_takes_2 l h1 h2 (Nat.lt_of_lt_of_le (by decide) h12) hA ht N μ μ1 v1 t1 hn1) okX7_takes_2 q671 (wW_get h1 h2) rfl wZR_ok hZ.1 (by rw [wW_len, wW_len]) ⟨rfl, rfl, Nat.le_of_ble_eq_true rfl, Nat.le_of_ble_eq_true rfl, Nat.zero_le _, Nat.zero_le _⟩ (Nat.le_of_ble_eq_true rfl) rfl ?_
          intro C1
          refine wr_if_eq 71 81 C1 dX7_line_71 (by decide) (fun _ => ?_) (fun h => absurd hv h)
          refine wr_aload_n 81 C1 dX7_line_81 0 rfl rfl ?_
          refine wr_ldcS 82 C1 dX7_line_82 (hZ.2 8 (by decide)) ?_
          refine wr_aload_n 84 C1 dX7_line_84 0 rfl rfl ?_
          refine wr_getR 85 1 C1 dX7_line_85 (wW_get h1 h2) rfl in_X7 (by decide) rfl q486 ?_
          refine wr_getNI 88 3 C1 dX7_line_88 (hF _).1 rfl in_X1 (by decide) rfl q193 ?_
          refine wr_iconst 91 C1 dX7_line_91 (v := 2) rfl ?_
          refine wr_icmp_ne 92 99 C1 dX7_line_92 (by decide) (fun hc => ?_) (fun hc => ?_)
          · refine wr_iconst 99 C1 dX7_line_99 (v := (if μ1.1 f 3 = 2 then (1 : Int32) else 0)) (by rw [if_neg hc]; rfl) ?_
            refine wr_VPi (kc1 := 0) (ks1 := 0) (As := [.ref (adK 8), .int (if μ1.1 f 3 = 2 then (1 : Int32) else 0)]) (b := r) 100 [] C1 dX7_line_100 (tX7_takes_2 l h1 h2 (Nat.lt_of_lt_of_le (by decide) h12) hA (wTakes2_lt ht hn1) N μ1 μ2 v2 t2 hn2) okX7_takes_2 q671 (wW_get h1 h2) rfl wZR_ok hZ.1 (by rw [wW_len, wW_len]) ⟨rfl, rfl, Nat.le_of_ble_eq_true rfl, Nat.le_of_ble_eq_true rfl, Nat.zero_le _, Nat.zero_le _⟩ (Nat.le_of_ble_eq_true rfl) rfl ?_
            intro C2
            refine wr_if_eq 103 113 C2 dX7_line_103 (by decide) (fun h => absurd h hv2) (fun _ => ?_)
            refine wr_aload_n 106 C2 dX7_line_106 0 rfl rfl ?_
            refine wr_VPv (kc1 := 0) (ks1 := 0) (As := []) (b := r) 107 [] C2 dX7_line_107 (tX7_newPost l h1 h2 h12 hA (wTakes2_lt (wTakes2_lt ht hn1) hn2) hF N μ2 μ9 u t9 hf) okX7_newPost q687 (wW_get h1 h2) rfl wZL_ok hZ (by rw [wW_len, wW_len]) ⟨rfl, rfl, Nat.le_of_ble_eq_true rfl, Nat.le_of_ble_eq_true rfl, Nat.zero_le _, Nat.zero_le _⟩ (Nat.le_of_ble_eq_true rfl) rfl ?_
            intro C3
            refine wr_goto 110 C3 dX7_line_110 (tgt := 119) (by decide) ?_
            exact wr_retPv 119 C3 dX7_line_119 ⟨Nat.le_refl _, Nat.le_refl _⟩ rfl
          · refine wr_iconst 95 C1 dX7_line_95 (v := (if μ1.1 f 3 = 2 then (1 : Int32) else 0)) (by rw [if_pos hc]; rfl) ?_
            refine wr_goto 96 C1 dX7_line_96 (tgt := 100) (by decide) ?_
            refine wr_VPi (kc1 := 0) (ks1 := 0) (As := [.ref (adK 8), .int (if μ1.1 f 3 = 2 then (1 : Int32) else 0)]) (b := r) 100 [] C1 dX7_line_100 (tX7_takes_2 l h1 h2 (Nat.lt_of_lt_of_le (by decide) h12) hA (wTakes2_lt ht hn1) N μ1 μ2 v2 t2 hn2) okX7_takes_2 q671 (wW_get h1 h2) rfl wZR_ok hZ.1 (by rw [wW_len, wW_len]) ⟨rfl, rfl, Nat.le_of_ble_eq_true rfl, Nat.le_of_ble_eq_true rfl, Nat.zero_le _, Nat.zero_le _⟩ (Nat.le_of_ble_eq_true rfl) rfl ?_
            intro C2
            refine wr_if_eq 103 113 C2 dX7_line_103 (by decide) (fun h => absurd h hv2) (fun _ => ?_)
            refine wr_aload_n 106 C2 dX7_line_106 0 rfl rfl ?_
            refine wr_VPv (kc1 := 0) (ks1 := 0) (As := []) (b := r) 107 [] C2 dX7_line_107 (tX7_newPost l h1 h2 h12 hA (wTakes2_lt (wTakes2_lt ht hn1) hn2) hF N μ2 μ9 u t9 hf) okX7_newPost q687 (wW_get h1 h2) rfl wZL_ok hZ (by rw [wW_len, wW_len]) ⟨rfl, rfl, Nat.le_of_ble_eq_true rfl, Nat.le_of_ble_eq_true rfl, Nat.zero_le _, Nat.zero_le _⟩ (Nat.le_of_ble_eq_true rfl) rfl ?_
            intro C3
            refine wr_goto 110 C3 dX7_line_110 (tgt := 119) (by decide) ?_
            exact wr_retPv 119 C3 dX7_line_119 ⟨Nat.le_refl _, Nat.le_refl _⟩ rfl
        · refine wr_iconst 63 C dX7_line_63 (v := (if μ.1 f 2 = 6 then (1 : Int32) else 0)) (by rw [if_pos hc]; rfl) ?_
          refine wr_goto 64 C dX7_line_64 (tgt := 68) (by decide) ?_
          refine wr_VPi (kc1 := 0) (ks1 := 0) (As := [.ref (adK 3), .int (if μ.1 f 2 = 6 then (1 : Int32) else 0)]) (b := r) 68 [] C dX7_line_68 (tX7_takes_2 l h1 h2 (Nat.lt_of_lt_of_le (by decide) h12) hA ht N μ μ1 v1 t1 hn1) okX7_takes_2 q671 (wW_get h1 h2) rfl wZR_ok hZ.1 (by rw [wW_len, wW_len]) ⟨rfl, rfl, Nat.le_of_ble_eq_true rfl, Nat.le_of_ble_eq_true rfl, Nat.zero_le _, Nat.zero_le _⟩ (Nat.le_of_ble_eq_true rfl) rfl ?_
          intro C1
          refine wr_if_eq 71 81 C1 dX7_line_71 (by decide) (fun _ => ?_) (fun h => absurd hv h)
          refine wr_aload_n 81 C1 dX7_line_81 0 rfl rfl ?_
          refine wr_ldcS 82 C1 dX7_line_82 (hZ.2 8 (by decide)) ?_
          refine wr_aload_n 84 C1 dX7_line_84 0 rfl rfl ?_
          refine wr_getR 85 1 C1 dX7_line_85 (wW_get h1 h2) rfl in_X7 (by decide) rfl q486 ?_
          refine wr_getNI 88 3 C1 dX7_line_88 (hF _).1 rfl in_X1 (by decide) rfl q193 ?_
          refine wr_iconst 91 C1 dX7_line_91 (v := 2) rfl ?_
          refine wr_icmp_ne 92 99 C1 dX7_line_92 (by decide) (fun hc => ?_) (fun hc => ?_)
          · refine wr_iconst 99 C1 dX7_line_99 (v := (if μ1.1 f 3 = 2 then (1 : Int32) else 0)) (by rw [if_neg hc]; rfl) ?_
            refine wr_VPi (kc1 := 0) (ks1 := 0) (As := [.ref (adK 8), .int (if μ1.1 f 3 = 2 then (1 : Int32) else 0)]) (b := r) 100 [] C1 dX7_line_100 (tX7_takes_2 l h1 h2 (Nat.lt_of_lt_of_le (by decide) h12) hA (wTakes2_lt ht hn1) N μ1 μ2 v2 t2 hn2) okX7_takes_2 q671 (wW_get h1 h2) rfl wZR_ok hZ.1 (by rw [wW_len, wW_len]) ⟨rfl, rfl, Nat.le_of_ble_eq_true rfl, Nat.le_of_ble_eq_true rfl, Nat.zero_le _, Nat.zero_le _⟩ (Nat.le_of_ble_eq_true rfl) rfl ?_
            intro C2
            refine wr_if_eq 103 113 C2 dX7_line_103 (by decide) (fun h => absurd h hv2) (fun _ => ?_)
            refine wr_aload_n 106 C2 dX7_line_106 0 rfl rfl ?_
            refine wr_VPv (kc1 := 0) (ks1 := 0) (As := []) (b := r) 107 [] C2 dX7_line_107 (tX7_newPost l h1 h2 h12 hA (wTakes2_lt (wTakes2_lt ht hn1) hn2) hF N μ2 μ9 u t9 hf) okX7_newPost q687 (wW_get h1 h2) rfl wZL_ok hZ (by rw [wW_len, wW_len]) ⟨rfl, rfl, Nat.le_of_ble_eq_true rfl, Nat.le_of_ble_eq_true rfl, Nat.zero_le _, Nat.zero_le _⟩ (Nat.le_of_ble_eq_true rfl) rfl ?_
            intro C3
            refine wr_goto 110 C3 dX7_line_110 (tgt := 119) (by decide) ?_
            exact wr_retPv 119 C3 dX7_line_119 ⟨Nat.le_refl _, Nat.le_refl _⟩ rfl
          · refine wr_iconst 95 C1 dX7_line_95 (v := (if μ1.1 f 3 = 2 then (1 : Int32) else 0)) (by rw [if_pos hc]; rfl) ?_
            refine wr_goto 96 C1 dX7_line_96 (tgt := 100) (by decide) ?_
            refine wr_VPi (kc1 := 0) (ks1 := 0) (As := [.ref (adK 8), .int (if μ1.1 f 3 = 2 then (1 : Int32) else 0)]) (b := r) 100 [] C1 dX7_line_100 (tX7_takes_2 l h1 h2 (Nat.lt_of_lt_of_le (by decide) h12) hA (wTakes2_lt ht hn1) N μ1 μ2 v2 t2 hn2) okX7_takes_2 q671 (wW_get h1 h2) rfl wZR_ok hZ.1 (by rw [wW_len, wW_len]) ⟨rfl, rfl, Nat.le_of_ble_eq_true rfl, Nat.le_of_ble_eq_true rfl, Nat.zero_le _, Nat.zero_le _⟩ (Nat.le_of_ble_eq_true rfl) rfl ?_
            intro C2
            refine wr_if_eq 103 113 C2 dX7_line_103 (by decide) (fun h => absurd h hv2) (fun _ => ?_)
            refine wr_aload_n 106 C2 dX7_line_106 0 rfl rfl ?_
            refine wr_VPv (kc1 := 0) (ks1 := 0) (As := []) (b := r) 107 [] C2 dX7_line_107 (tX7_newPost l h1 h2 h12 hA (wTakes2_lt (wTakes2_lt ht hn1) hn2) hF N μ2 μ9 u t9 hf) okX7_newPost q687 (wW_get h1 h2) rfl wZL_ok hZ (by rw [wW_len, wW_len]) ⟨rfl, rfl, Nat.le_of_ble_eq_true rfl, Nat.le_of_ble_eq_true rfl, Nat.zero_le _, Nat.zero_le _⟩ (Nat.le_of_ble_eq_true rfl) rfl ?_
            intro C3
            refine wr_goto 110 C3 dX7_line_110 (tgt := 119) (by decide) ?_
            exact wr_retPv 119 C3 dX7_line_119 ⟨Nat.le_refl _, Nat.le_refl _⟩ rfl
    · rw [if_neg hv] at hf
      refine wr_aload_n 48 C dX7_line_48 0 rfl rfl ?_
      refine wr_ldcS 49 C dX7_line_49 (hZ.2 3 (by decide)) ?_
      refine wr_aload_n 51 C dX7_line_51 0 rfl rfl ?_
      refine wr_getR 52 1 C dX7_line_52 (wW_get h1 h2) rfl in_X7 (by decide) rfl q486 ?_
      refine wr_getNI 55 2 C dX7_line_55 (hF _).1 rfl in_X1 (by decide) rfl q190 ?_
      refine wr_bipush 58 C dX7_line_58 (v := 6) rfl ?_
      refine wr_icmp_ne 60 67 C dX7_line_60 (by decide) (fun hc => ?_) (fun hc => ?_)
      · refine wr_iconst 67 C dX7_line_67 (v := (if μ.1 f 2 = 6 then (1 : Int32) else 0)) (by rw [if_neg hc]; rfl) ?_
        refine wr_VPi (kc1 := 0) (ks1 := 0) (As := [.ref (adK 3), .int (if μ.1 f 2 = 6 then (1 : Int32) else 0)]) (b := r) 68 [] C dX7_line_68 (tX7_takes_2 l h1 h2 (Nat.lt_of_lt_of_le (by decide) h12) hA ht N μ μ1 v1 t1 hn1) okX7_takes_2 q671 (wW_get h1 h2) rfl wZR_ok hZ.1 (by rw [wW_len, wW_len]) ⟨rfl, rfl, Nat.le_of_ble_eq_true rfl, Nat.le_of_ble_eq_true rfl, Nat.zero_le _, Nat.zero_le _⟩ (Nat.le_of_ble_eq_true rfl) rfl ?_
        intro C1
        refine wr_if_eq 71 81 C1 dX7_line_71 (by decide) (fun h => absurd h hv) (fun _ => ?_)
        refine wr_aload_n 74 C1 dX7_line_74 0 rfl rfl ?_
        refine wr_VPv (kc1 := 0) (ks1 := 0) (As := []) (b := r) 75 [] C1 dX7_line_75 (tX7_newPerson l h1 h2 h12 hA (wTakes2_lt ht hn1) hF N μ1 μ9 u t9 hf) okX7_newPerson q675 (wW_get h1 h2) rfl wZL_ok hZ (by rw [wW_len, wW_len]) ⟨rfl, rfl, Nat.le_of_ble_eq_true rfl, Nat.le_of_ble_eq_true rfl, Nat.zero_le _, Nat.zero_le _⟩ (Nat.le_of_ble_eq_true rfl) rfl ?_
        intro C2
        refine wr_goto 78 C2 dX7_line_78 (tgt := 119) (by decide) ?_
        exact wr_retPv 119 C2 dX7_line_119 ⟨Nat.le_refl _, Nat.le_refl _⟩ rfl
      · refine wr_iconst 63 C dX7_line_63 (v := (if μ.1 f 2 = 6 then (1 : Int32) else 0)) (by rw [if_pos hc]; rfl) ?_
        refine wr_goto 64 C dX7_line_64 (tgt := 68) (by decide) ?_
        refine wr_VPi (kc1 := 0) (ks1 := 0) (As := [.ref (adK 3), .int (if μ.1 f 2 = 6 then (1 : Int32) else 0)]) (b := r) 68 [] C dX7_line_68 (tX7_takes_2 l h1 h2 (Nat.lt_of_lt_of_le (by decide) h12) hA ht N μ μ1 v1 t1 hn1) okX7_takes_2 q671 (wW_get h1 h2) rfl wZR_ok hZ.1 (by rw [wW_len, wW_len]) ⟨rfl, rfl, Nat.le_of_ble_eq_true rfl, Nat.le_of_ble_eq_true rfl, Nat.zero_le _, Nat.zero_le _⟩ (Nat.le_of_ble_eq_true rfl) rfl ?_
        intro C1
        refine wr_if_eq 71 81 C1 dX7_line_71 (by decide) (fun h => absurd h hv) (fun _ => ?_)
        refine wr_aload_n 74 C1 dX7_line_74 0 rfl rfl ?_
        refine wr_VPv (kc1 := 0) (ks1 := 0) (As := []) (b := r) 75 [] C1 dX7_line_75 (tX7_newPerson l h1 h2 h12 hA (wTakes2_lt ht hn1) hF N μ1 μ9 u t9 hf) okX7_newPerson q675 (wW_get h1 h2) rfl wZL_ok hZ (by rw [wW_len, wW_len]) ⟨rfl, rfl, Nat.le_of_ble_eq_true rfl, Nat.le_of_ble_eq_true rfl, Nat.zero_le _, Nat.zero_le _⟩ (Nat.le_of_ble_eq_true rfl) rfl ?_
        intro C2
        refine wr_goto 78 C2 dX7_line_78 (tgt := 119) (by decide) ?_
        exact wr_retPv 119 C2 dX7_line_119 ⟨Nat.le_refl _, Nat.le_refl _⟩ rfl
set_option maxHeartbeats 4000000 in
theorem tX7_lineT (l : Launch) {D : va_G} {E : List wCell} {q : Nat → Nat} {ca : wCA} {n : Nat} {len : List Nat} {byt : List (List Int32)} {adK adV : Nat → Nat} {fo : Option Nat} {r f x t : Nat} {ad : Nat → Nat} (h1 : spX.length ≤ r) (h2 : r < (spX ++ E).length) (h12 : 12 ≤ n) (hA : wAd ad) (ht : t < 5) (hF : wRF E r f x) (hno : ∀ a, wNoRef (wW E r f a) (wW E r f a).length = true) (N : Nat) (μ μ9 : wMem) (k : Int32) (t9 : Nat) (hf : wLine len byt N r f x t μ = some (.inr (k, t9, μ9))) : wMT (wZL ad n len byt adK adV fo) l yX7_line cX7_line 1 none ({ frames := 9, cells := 1, slots := 8, locals := 195 } : Room) D vwCl (wW E r f (ad t)) ((wW E r f (ad t9)) ++ [wFlt]) q ca [.ref (q r)] μ (wFm μ9 (wW E r f (ad t9)).length k ((wZ μ9 (wW E r f (ad t9)).length).1 r 3)) (wW E r f (ad t9)).length := by
  unfold wLine at hf
  refine wMT_intro (by decide) (Nat.le_of_ble_eq_true rfl) ?_
  intro p e s m args below meth c A C hZ hx
  refine wr_sub [(0, .ref (q r))] [0] rfl ?_
  refine wr_aload_n 0 C dX7_line_0 0 rfl rfl ?_
  refine wr_getR 1 1 C dX7_line_1 (wW_get h1 h2) rfl in_X7 (by decide) rfl q486 ?_
  refine wr_getNI 4 1 C dX7_line_4 (hF _).1 rfl in_X1 (by decide) rfl q188 ?_
  by_cases h0 : μ.1 f 1 = 0
  · rw [if_pos h0] at hf
    refine wr_if_ne 7 48 C dX7_line_7 (by decide) (fun h => absurd h0 h) (fun _ => ?_)
    rcases wRbd_r hf with hn1 | ⟨u1, t1, μ1, hn1, hf⟩
    · refine wr_aload_n 10 C dX7_line_10 0 rfl rfl ?_
      refine wr_ldcS 11 C dX7_line_11 (hZ.2 0 (by decide)) ?_
      exact wr_VTo (kc1 := 1) (ks1 := 8) (As := [.ref (adK 0)]) (b := r) 13 [] C dX7_line_13 (tX7_needsT l h1 h2 (Nat.lt_of_lt_of_le (by decide) h12) hA ht hno N μ μ9 k t9 hn1) okX7_needs q516 (wW_get h1 h2) rfl wZR_ok hZ.1 (Nat.le_of_eq (by simp only [wW_len])) (fun _ _ => rfl) hx ⟨rfl, rfl, Nat.le_of_ble_eq_true rfl, Nat.le_of_ble_eq_true rfl, Nat.le_of_ble_eq_true rfl, Nat.le_of_ble_eq_true rfl⟩ ⟨Nat.le_refl _, Nat.le_refl _⟩ (Nat.le_of_ble_eq_true rfl) rfl
    · rcases wRbd_r hf with hn2 | ⟨v2, t2, μ2, hn2, hf⟩
      · refine wr_aload_n 10 C dX7_line_10 0 rfl rfl ?_
        refine wr_ldcS 11 C dX7_line_11 (hZ.2 0 (by decide)) ?_
        refine wr_VPv (kc1 := 0) (ks1 := 0) (As := [.ref (adK 0)]) (b := r) 13 [] C dX7_line_13 (tX7_needs l h1 h2 (Nat.lt_of_lt_of_le (by decide) h12) hA ht N μ μ1 u1 t1 hn1) okX7_needs q516 (wW_get h1 h2) rfl wZR_ok hZ.1 (by rw [wW_len, wW_len]) ⟨rfl, rfl, Nat.le_of_ble_eq_true rfl, Nat.le_of_ble_eq_true rfl, Nat.zero_le _, Nat.zero_le _⟩ (Nat.le_of_ble_eq_true rfl) rfl ?_
        intro C1
        refine wr_aload_n 16 C1 dX7_line_16 0 rfl rfl ?_
        refine wr_getR 17 1 C1 dX7_line_17 (wW_get h1 h2) rfl in_X7 (by decide) rfl q486 ?_
        refine wr_aload_n 20 C1 dX7_line_20 0 rfl rfl ?_
        refine wr_ldcS 21 C1 dX7_line_21 (hZ.2 1 (by decide)) ?_
        refine wr_iconst 23 C1 dX7_line_23 (v := 1) rfl ?_
        refine wr_bipush 24 C1 dX7_line_24 (v := 9) rfl ?_
        exact wr_VTo (kc1 := 1) (ks1 := 8) (As := [.ref (adK 1), .int 1, .int 9]) (b := r) 26 [.ref (q f)] C1 dX7_line_26 (tX7_toldT l h1 h2 (Nat.lt_of_lt_of_le (by decide) h12) hA (wNeeds_lt ht hn1) hno N μ1 μ9 k t9 hn2) okX7_told q665 (wW_get h1 h2) rfl wZR_ok hZ.1 (Nat.le_of_eq (by simp only [wW_len])) (fun _ _ => rfl) hx ⟨rfl, rfl, Nat.le_of_ble_eq_true rfl, Nat.le_of_ble_eq_true rfl, Nat.le_of_ble_eq_true rfl, Nat.le_of_ble_eq_true rfl⟩ ⟨Nat.le_refl _, Nat.le_refl _⟩ (Nat.le_of_ble_eq_true rfl) rfl
      · obtain ⟨z, -, hf⟩ := Option.bind_eq_some_iff.mp hf
        cases hf
  · rw [if_neg h0] at hf
    refine wr_if_ne 7 48 C dX7_line_7 (by decide) (fun _ => ?_) (fun h => absurd h h0)
    rcases wRbd_r hf with hn1 | ⟨v1, t1, μ1, hn1, hf⟩
    · refine wr_aload_n 48 C dX7_line_48 0 rfl rfl ?_
      refine wr_ldcS 49 C dX7_line_49 (hZ.2 3 (by decide)) ?_
      refine wr_aload_n 51 C dX7_line_51 0 rfl rfl ?_
      refine wr_getR 52 1 C dX7_line_52 (wW_get h1 h2) rfl in_X7 (by decide) rfl q486 ?_
      refine wr_getNI 55 2 C dX7_line_55 (hF _).1 rfl in_X1 (by decide) rfl q190 ?_
      refine wr_bipush 58 C dX7_line_58 (v := 6) rfl ?_
      refine wr_icmp_ne 60 67 C dX7_line_60 (by decide) (fun hc => ?_) (fun hc => ?_)
      · refine wr_iconst 67 C dX7_line_67 (v := (if μ.1 f 2 = 6 then (1 : Int32) else 0)) (by rw [if_neg hc]; rfl) ?_
        exact wr_VTo (kc1 := 1) (ks1 := 8) (As := [.ref (adK 3), .int (if μ.1 f 2 = 6 then (1 : Int32) else 0)]) (b := r) 68 [] C dX7_line_68 (tX7_takes_2T l h1 h2 (Nat.lt_of_lt_of_le (by decide) h12) hA ht hno N μ μ9 k t9 hn1) okX7_takes_2 q671 (wW_get h1 h2) rfl wZR_ok hZ.1 (Nat.le_of_eq (by simp only [wW_len])) (fun _ _ => rfl) hx ⟨rfl, rfl, Nat.le_of_ble_eq_true rfl, Nat.le_of_ble_eq_true rfl, Nat.le_of_ble_eq_true rfl, Nat.le_of_ble_eq_true rfl⟩ ⟨Nat.le_refl _, Nat.le_refl _⟩ (Nat.le_of_ble_eq_true rfl) rfl
      · refine wr_iconst 63 C dX7_line_63 (v := (if μ.1 f 2 = 6 then (1 : Int32) else 0)) (by rw [if_pos hc]; rfl) ?_
        refine wr_goto 64 C dX7_line_64 (tgt := 68) (by decide) ?_
        exact wr_VTo (kc1 := 1) (ks1 := 8) (As := [.ref (adK 3), .int (if μ.1 f 2 = 6 then (1 : Int32) else 0)]) (b := r) 68 [] C dX7_line_68 (tX7_takes_2T l h1 h2 (Nat.lt_of_lt_of_le (by decide) h12) hA ht hno N μ μ9 k t9 hn1) okX7_takes_2 q671 (wW_get h1 h2) rfl wZR_ok hZ.1 (Nat.le_of_eq (by simp only [wW_len])) (fun _ _ => rfl) hx ⟨rfl, rfl, Nat.le_of_ble_eq_true rfl, Nat.le_of_ble_eq_true rfl, Nat.le_of_ble_eq_true rfl, Nat.le_of_ble_eq_true rfl⟩ ⟨Nat.le_refl _, Nat.le_refl _⟩ (Nat.le_of_ble_eq_true rfl) rfl
    · by_cases hv : v1 = 0
      · rw [if_pos hv] at hf
        rcases wRbd_r hf with hn2 | ⟨v2, t2, μ2, hn2, hf⟩
        · refine wr_aload_n 48 C dX7_line_48 0 rfl rfl ?_
          refine wr_ldcS 49 C dX7_line_49 (hZ.2 3 (by decide)) ?_
          refine wr_aload_n 51 C dX7_line_51 0 rfl rfl ?_
          refine wr_getR 52 1 C dX7_line_52 (wW_get h1 h2) rfl in_X7 (by decide) rfl q486 ?_
          refine wr_getNI 55 2 C dX7_line_55 (hF _).1 rfl in_X1 (by decide) rfl q190 ?_
          refine wr_bipush 58 C dX7_line_58 (v := 6) rfl ?_
          refine wr_icmp_ne 60 67 C dX7_line_60 (by decide) (fun hc => ?_) (fun hc => ?_)
          · refine wr_iconst 67 C dX7_line_67 (v := (if μ.1 f 2 = 6 then (1 : Int32) else 0)) (by rw [if_neg hc]; rfl) ?_
            refine wr_VPi (kc1 := 0) (ks1 := 0) (As := [.ref (adK 3), .int (if μ.1 f 2 = 6 then (1 : Int32) else 0)]) (b := r) 68 [] C dX7_line_68 (tX7_takes_2 l h1 h2 (Nat.lt_of_lt_of_le (by decide) h12) hA ht N μ μ1 v1 t1 hn1) okX7_takes_2 q671 (wW_get h1 h2) rfl wZR_ok hZ.1 (by rw [wW_len, wW_len]) ⟨rfl, rfl, Nat.le_of_ble_eq_true rfl, Nat.le_of_ble_eq_true rfl, Nat.zero_le _, Nat.zero_le _⟩ (Nat.le_of_ble_eq_true rfl) rfl ?_
            intro C1
            refine wr_if_eq 71 81 C1 dX7_line_71 (by decide) (fun _ => ?_) (fun h => absurd hv h)
            refine wr_aload_n 81 C1 dX7_line_81 0 rfl rfl ?_
            refine wr_ldcS 82 C1 dX7_line_82 (hZ.2 8 (by decide)) ?_
            refine wr_aload_n 84 C1 dX7_line_84 0 rfl rfl ?_
            refine wr_getR 85 1 C1 dX7_line_85 (wW_get h1 h2) rfl in_X7 (by decide) rfl q486 ?_
            refine wr_getNI 88 3 C1 dX7_line_88 (hF _).1 rfl in_X1 (by decide) rfl q193 ?_
            refine wr_iconst 91 C1 dX7_line_91 (v := 2) rfl ?_
            refine wr_icmp_ne 92 99 C1 dX7_line_92 (by decide) (fun hc => ?_) (fun hc => ?_)
            · refine wr_iconst 99 C1 dX7_line_99 (v := (if μ1.1 f 3 = 2 then (1 : Int32) else 0)) (by rw [if_neg hc]; rfl) ?_
              exact wr_VTo (kc1 := 1) (ks1 := 8) (As := [.ref (adK 8), .int (if μ1.1 f 3 = 2 then (1 : Int32) else 0)]) (b := r) 100 [] C1 dX7_line_100 (tX7_takes_2T l h1 h2 (Nat.lt_of_lt_of_le (by decide) h12) hA (wTakes2_lt ht hn1) hno N μ1 μ9 k t9 hn2) okX7_takes_2 q671 (wW_get h1 h2) rfl wZR_ok hZ.1 (Nat.le_of_eq (by simp only [wW_len])) (fun _ _ => rfl) hx ⟨rfl, rfl, Nat.le_of_ble_eq_true rfl, Nat.le_of_ble_eq_true rfl, Nat.le_of_ble_eq_true rfl, Nat.le_of_ble_eq_true rfl⟩ ⟨Nat.le_refl _, Nat.le_refl _⟩ (Nat.le_of_ble_eq_true rfl) rfl
            · refine wr_iconst 95 C1 dX7_line_95 (v := (if μ1.1 f 3 = 2 then (1 : Int32) else 0)) (by rw [if_pos hc]; rfl) ?_
              refine wr_goto 96 C1 dX7_line_96 (tgt := 100) (by decide) ?_
              exact wr_VTo (kc1 := 1) (ks1 := 8) (As := [.ref (adK 8), .int (if μ1.1 f 3 = 2 then (1 : Int32) else 0)]) (b := r) 100 [] C1 dX7_line_100 (tX7_takes_2T l h1 h2 (Nat.lt_of_lt_of_le (by decide) h12) hA (wTakes2_lt ht hn1) hno N μ1 μ9 k t9 hn2) okX7_takes_2 q671 (wW_get h1 h2) rfl wZR_ok hZ.1 (Nat.le_of_eq (by simp only [wW_len])) (fun _ _ => rfl) hx ⟨rfl, rfl, Nat.le_of_ble_eq_true rfl, Nat.le_of_ble_eq_true rfl, Nat.le_of_ble_eq_true rfl, Nat.le_of_ble_eq_true rfl⟩ ⟨Nat.le_refl _, Nat.le_refl _⟩ (Nat.le_of_ble_eq_true rfl) rfl
          · refine wr_iconst 63 C dX7_line_63 (v := (if μ.1 f 2 = 6 then (1 : Int32) else 0)) (by rw [if_pos hc]; rfl) ?_
            refine wr_goto 64 C dX7_line_64 (tgt := 68) (by decide) ?_
            refine wr_VPi (kc1 := 0) (ks1 := 0) (As := [.ref (adK 3), .int (if μ.1 f 2 = 6 then (1 : Int32) else 0)]) (b := r) 68 [] C dX7_line_68 (tX7_takes_2 l h1 h2 (Nat.lt_of_lt_of_le (by decide) h12) hA ht N μ μ1 v1 t1 hn1) okX7_takes_2 q671 (wW_get h1 h2) rfl wZR_ok hZ.1 (by rw [wW_len, wW_len]) ⟨rfl, rfl, Nat.le_of_ble_eq_true rfl, Nat.le_of_ble_eq_true rfl, Nat.zero_le _, Nat.zero_le _⟩ (Nat.le_of_ble_eq_true rfl) rfl ?_
            intro C1
            refine wr_if_eq 71 81 C1 dX7_line_71 (by decide) (fun _ => ?_) (fun h => absurd hv h)
            refine wr_aload_n 81 C1 dX7_line_81 0 rfl rfl ?_
            refine wr_ldcS 82 C1 dX7_line_82 (hZ.2 8 (by decide)) ?_
            refine wr_aload_n 84 C1 dX7_line_84 0 rfl rfl ?_
            refine wr_getR 85 1 C1 dX7_line_85 (wW_get h1 h2) rfl in_X7 (by decide) rfl q486 ?_
            refine wr_getNI 88 3 C1 dX7_line_88 (hF _).1 rfl in_X1 (by decide) rfl q193 ?_
            refine wr_iconst 91 C1 dX7_line_91 (v := 2) rfl ?_
            refine wr_icmp_ne 92 99 C1 dX7_line_92 (by decide) (fun hc => ?_) (fun hc => ?_)
            · refine wr_iconst 99 C1 dX7_line_99 (v := (if μ1.1 f 3 = 2 then (1 : Int32) else 0)) (by rw [if_neg hc]; rfl) ?_
              exact wr_VTo (kc1 := 1) (ks1 := 8) (As := [.ref (adK 8), .int (if μ1.1 f 3 = 2 then (1 : Int32) else 0)]) (b := r) 100 [] C1 dX7_line_100 (tX7_takes_2T l h1 h2 (Nat.lt_of_lt_of_le (by decide) h12) hA (wTakes2_lt ht hn1) hno N μ1 μ9 k t9 hn2) okX7_takes_2 q671 (wW_get h1 h2) rfl wZR_ok hZ.1 (Nat.le_of_eq (by simp only [wW_len])) (fun _ _ => rfl) hx ⟨rfl, rfl, Nat.le_of_ble_eq_true rfl, Nat.le_of_ble_eq_true rfl, Nat.le_of_ble_eq_true rfl, Nat.le_of_ble_eq_true rfl⟩ ⟨Nat.le_refl _, Nat.le_refl _⟩ (Nat.le_of_ble_eq_true rfl) rfl
            · refine wr_iconst 95 C1 dX7_line_95 (v := (if μ1.1 f 3 = 2 then (1 : Int32) else 0)) (by rw [if_pos hc]; rfl) ?_
              refine wr_goto 96 C1 dX7_line_96 (tgt := 100) (by decide) ?_
              exact wr_VTo (kc1 := 1) (ks1 := 8) (As := [.ref (adK 8), .int (if μ1.1 f 3 = 2 then (1 : Int32) else 0)]) (b := r) 100 [] C1 dX7_line_100 (tX7_takes_2T l h1 h2 (Nat.lt_of_lt_of_le (by decide) h12) hA (wTakes2_lt ht hn1) hno N μ1 μ9 k t9 hn2) okX7_takes_2 q671 (wW_get h1 h2) rfl wZR_ok hZ.1 (Nat.le_of_eq (by simp only [wW_len])) (fun _ _ => rfl) hx ⟨rfl, rfl, Nat.le_of_ble_eq_true rfl, Nat.le_of_ble_eq_true rfl, Nat.le_of_ble_eq_true rfl, Nat.le_of_ble_eq_true rfl⟩ ⟨Nat.le_refl _, Nat.le_refl _⟩ (Nat.le_of_ble_eq_true rfl) rfl
        · by_cases hv2 : v2 = 0
          · rw [if_pos hv2] at hf
            cases hf
            refine wr_aload_n 48 C dX7_line_48 0 rfl rfl ?_
            refine wr_ldcS 49 C dX7_line_49 (hZ.2 3 (by decide)) ?_
            refine wr_aload_n 51 C dX7_line_51 0 rfl rfl ?_
            refine wr_getR 52 1 C dX7_line_52 (wW_get h1 h2) rfl in_X7 (by decide) rfl q486 ?_
            refine wr_getNI 55 2 C dX7_line_55 (hF _).1 rfl in_X1 (by decide) rfl q190 ?_
            refine wr_bipush 58 C dX7_line_58 (v := 6) rfl ?_
            refine wr_icmp_ne 60 67 C dX7_line_60 (by decide) (fun hc => ?_) (fun hc => ?_)
            · refine wr_iconst 67 C dX7_line_67 (v := (if μ.1 f 2 = 6 then (1 : Int32) else 0)) (by rw [if_neg hc]; rfl) ?_
              refine wr_VPi (kc1 := 0) (ks1 := 0) (As := [.ref (adK 3), .int (if μ.1 f 2 = 6 then (1 : Int32) else 0)]) (b := r) 68 [] C dX7_line_68 (tX7_takes_2 l h1 h2 (Nat.lt_of_lt_of_le (by decide) h12) hA ht N μ μ1 v1 t1 hn1) okX7_takes_2 q671 (wW_get h1 h2) rfl wZR_ok hZ.1 (by rw [wW_len, wW_len]) ⟨rfl, rfl, Nat.le_of_ble_eq_true rfl, Nat.le_of_ble_eq_true rfl, Nat.zero_le _, Nat.zero_le _⟩ (Nat.le_of_ble_eq_true rfl) rfl ?_
              intro C1
              refine wr_if_eq 71 81 C1 dX7_line_71 (by decide) (fun _ => ?_) (fun h => absurd hv h)
              refine wr_aload_n 81 C1 dX7_line_81 0 rfl rfl ?_
              refine wr_ldcS 82 C1 dX7_line_82 (hZ.2 8 (by decide)) ?_
              refine wr_aload_n 84 C1 dX7_line_84 0 rfl rfl ?_
              refine wr_getR 85 1 C1 dX7_line_85 (wW_get h1 h2) rfl in_X7 (by decide) rfl q486 ?_
              refine wr_getNI 88 3 C1 dX7_line_88 (hF _).1 rfl in_X1 (by decide) rfl q193 ?_
              refine wr_iconst 91 C1 dX7_line_91 (v := 2) rfl ?_
              refine wr_icmp_ne 92 99 C1 dX7_line_92 (by decide) (fun hc => ?_) (fun hc => ?_)
              · refine wr_iconst 99 C1 dX7_line_99 (v := (if μ1.1 f 3 = 2 then (1 : Int32) else 0)) (by rw [if_neg hc]; rfl) ?_
                refine wr_VPi (kc1 := 0) (ks1 := 0) (As := [.ref (adK 8), .int (if μ1.1 f 3 = 2 then (1 : Int32) else 0)]) (b := r) 100 [] C1 dX7_line_100 (tX7_takes_2 l h1 h2 (Nat.lt_of_lt_of_le (by decide) h12) hA (wTakes2_lt ht hn1) N μ1 μ9 v2 _ hn2) okX7_takes_2 q671 (wW_get h1 h2) rfl wZR_ok hZ.1 (by rw [wW_len, wW_len]) ⟨rfl, rfl, Nat.le_of_ble_eq_true rfl, Nat.le_of_ble_eq_true rfl, Nat.zero_le _, Nat.zero_le _⟩ (Nat.le_of_ble_eq_true rfl) rfl ?_
                intro C2
                refine wr_if_eq 103 113 C2 dX7_line_103 (by decide) (fun _ => ?_) (fun h => absurd hv2 h)
                refine wr_aload_n 113 C2 dX7_line_113 0 rfl rfl ?_
                refine wr_iconst 114 C2 dX7_line_114 (v := 1) rfl ?_
                refine wr_VKq (kc1 := 1) (ks1 := 8) (As := [.int 1]) (b := r) 115 [] C2 dX7_line_115 (tX7_wrong l (wW_get h1 h2) (hno _) μ9) okX7_wrong q576 (wW_get h1 h2) rfl wZq_ok hZ.1.2 ⟨rfl, rfl, Nat.le_of_ble_eq_true rfl, Nat.le_of_ble_eq_true rfl, Nat.le_of_ble_eq_true rfl, Nat.le_of_ble_eq_true rfl⟩ (Nat.le_of_ble_eq_true rfl) rfl ?_
                intro q1 hq1 C9
                exact wr_athrowO (fs := [(3, 0), (3, 0), (3, 0), (3, 0), (3, 0), (0, 0), (0, 0), (0, 0)]) 118 C9 dX7_line_118 List.getElem?_concat_length rfl rfl (fun j hj => hq1 j (by rw [wW_len] at hj ⊢; exact hj)) hx ⟨Nat.le_refl _, Nat.le_refl _⟩ rfl
              · refine wr_iconst 95 C1 dX7_line_95 (v := (if μ1.1 f 3 = 2 then (1 : Int32) else 0)) (by rw [if_pos hc]; rfl) ?_
                refine wr_goto 96 C1 dX7_line_96 (tgt := 100) (by decide) ?_
                refine wr_VPi (kc1 := 0) (ks1 := 0) (As := [.ref (adK 8), .int (if μ1.1 f 3 = 2 then (1 : Int32) else 0)]) (b := r) 100 [] C1 dX7_line_100 (tX7_takes_2 l h1 h2 (Nat.lt_of_lt_of_le (by decide) h12) hA (wTakes2_lt ht hn1) N μ1 μ9 v2 _ hn2) okX7_takes_2 q671 (wW_get h1 h2) rfl wZR_ok hZ.1 (by rw [wW_len, wW_len]) ⟨rfl, rfl, Nat.le_of_ble_eq_true rfl, Nat.le_of_ble_eq_true rfl, Nat.zero_le _, Nat.zero_le _⟩ (Nat.le_of_ble_eq_true rfl) rfl ?_
                intro C2
                refine wr_if_eq 103 113 C2 dX7_line_103 (by decide) (fun _ => ?_) (fun h => absurd hv2 h)
                refine wr_aload_n 113 C2 dX7_line_113 0 rfl rfl ?_
                refine wr_iconst 114 C2 dX7_line_114 (v := 1) rfl ?_
                refine wr_VKq (kc1 := 1) (ks1 := 8) (As := [.int 1]) (b := r) 115 [] C2 dX7_line_115 (tX7_wrong l (wW_get h1 h2) (hno _) μ9) okX7_wrong q576 (wW_get h1 h2) rfl wZq_ok hZ.1.2 ⟨rfl, rfl, Nat.le_of_ble_eq_true rfl, Nat.le_of_ble_eq_true rfl, Nat.le_of_ble_eq_true rfl, Nat.le_of_ble_eq_true rfl⟩ (Nat.le_of_ble_eq_true rfl) rfl ?_
                intro q1 hq1 C9
                exact wr_athrowO (fs := [(3, 0), (3, 0), (3, 0), (3, 0), (3, 0), (0, 0), (0, 0), (0, 0)]) 118 C9 dX7_line_118 List.getElem?_concat_length rfl rfl (fun j hj => hq1 j (by rw [wW_len] at hj ⊢; exact hj)) hx ⟨Nat.le_refl _, Nat.le_refl _⟩ rfl
            · refine wr_iconst 63 C dX7_line_63 (v := (if μ.1 f 2 = 6 then (1 : Int32) else 0)) (by rw [if_pos hc]; rfl) ?_
              refine wr_goto 64 C dX7_line_64 (tgt := 68) (by decide) ?_
              refine wr_VPi (kc1 := 0) (ks1 := 0) (As := [.ref (adK 3), .int (if μ.1 f 2 = 6 then (1 : Int32) else 0)]) (b := r) 68 [] C dX7_line_68 (tX7_takes_2 l h1 h2 (Nat.lt_of_lt_of_le (by decide) h12) hA ht N μ μ1 v1 t1 hn1) okX7_takes_2 q671 (wW_get h1 h2) rfl wZR_ok hZ.1 (by rw [wW_len, wW_len]) ⟨rfl, rfl, Nat.le_of_ble_eq_true rfl, Nat.le_of_ble_eq_true rfl, Nat.zero_le _, Nat.zero_le _⟩ (Nat.le_of_ble_eq_true rfl) rfl ?_
              intro C1
              refine wr_if_eq 71 81 C1 dX7_line_71 (by decide) (fun _ => ?_) (fun h => absurd hv h)
              refine wr_aload_n 81 C1 dX7_line_81 0 rfl rfl ?_
              refine wr_ldcS 82 C1 dX7_line_82 (hZ.2 8 (by decide)) ?_
              refine wr_aload_n 84 C1 dX7_line_84 0 rfl rfl ?_
              refine wr_getR 85 1 C1 dX7_line_85 (wW_get h1 h2) rfl in_X7 (by decide) rfl q486 ?_
              refine wr_getNI 88 3 C1 dX7_line_88 (hF _).1 rfl in_X1 (by decide) rfl q193 ?_
              refine wr_iconst 91 C1 dX7_line_91 (v := 2) rfl ?_
              refine wr_icmp_ne 92 99 C1 dX7_line_92 (by decide) (fun hc => ?_) (fun hc => ?_)
              · refine wr_iconst 99 C1 dX7_line_99 (v := (if μ1.1 f 3 = 2 then (1 : Int32) else 0)) (by rw [if_neg hc]; rfl) ?_
                refine wr_VPi (kc1 := 0) (ks1 := 0) (As := [.ref (adK 8), .int (if μ1.1 f 3 = 2 then (1 : Int32) else 0)]) (b := r) 100 [] C1 dX7_line_100 (tX7_takes_2 l h1 h2 (Nat.lt_of_lt_of_le (by decide) h12) hA (wTakes2_lt ht hn1) N μ1 μ9 v2 _ hn2) okX7_takes_2 q671 (wW_get h1 h2) rfl wZR_ok hZ.1 (by rw [wW_len, wW_len]) ⟨rfl, rfl, Nat.le_of_ble_eq_true rfl, Nat.le_of_ble_eq_true rfl, Nat.zero_le _, Nat.zero_le _⟩ (Nat.le_of_ble_eq_true rfl) rfl ?_
                intro C2
                refine wr_if_eq 103 113 C2 dX7_line_103 (by decide) (fun _ => ?_) (fun h => absurd hv2 h)
                refine wr_aload_n 113 C2 dX7_line_113 0 rfl rfl ?_
                refine wr_iconst 114 C2 dX7_line_114 (v := 1) rfl ?_
                refine wr_VKq (kc1 := 1) (ks1 := 8) (As := [.int 1]) (b := r) 115 [] C2 dX7_line_115 (tX7_wrong l (wW_get h1 h2) (hno _) μ9) okX7_wrong q576 (wW_get h1 h2) rfl wZq_ok hZ.1.2 ⟨rfl, rfl, Nat.le_of_ble_eq_true rfl, Nat.le_of_ble_eq_true rfl, Nat.le_of_ble_eq_true rfl, Nat.le_of_ble_eq_true rfl⟩ (Nat.le_of_ble_eq_true rfl) rfl ?_
                intro q1 hq1 C9
                exact wr_athrowO (fs := [(3, 0), (3, 0), (3, 0), (3, 0), (3, 0), (0, 0), (0, 0), (0, 0)]) 118 C9 dX7_line_118 List.getElem?_concat_length rfl rfl (fun j hj => hq1 j (by rw [wW_len] at hj ⊢; exact hj)) hx ⟨Nat.le_refl _, Nat.le_refl _⟩ rfl
              · refine wr_iconst 95 C1 dX7_line_95 (v := (if μ1.1 f 3 = 2 then (1 : Int32) else 0)) (by rw [if_pos hc]; rfl) ?_
                refine wr_goto 96 C1 dX7_line_96 (tgt := 100) (by decide) ?_
                refine wr_VPi (kc1 := 0) (ks1 := 0) (As := [.ref (adK 8), .int (if μ1.1 f 3 = 2 then (1 : Int32) else 0)]) (b := r) 100 [] C1 dX7_line_100 (tX7_takes_2 l h1 h2 (Nat.lt_of_lt_of_le (by decide) h12) hA (wTakes2_lt ht hn1) N μ1 μ9 v2 _ hn2) okX7_takes_2 q671 (wW_get h1 h2) rfl wZR_ok hZ.1 (by rw [wW_len, wW_len]) ⟨rfl, rfl, Nat.le_of_ble_eq_true rfl, Nat.le_of_ble_eq_true rfl, Nat.zero_le _, Nat.zero_le _⟩ (Nat.le_of_ble_eq_true rfl) rfl ?_
                intro C2
                refine wr_if_eq 103 113 C2 dX7_line_103 (by decide) (fun _ => ?_) (fun h => absurd hv2 h)
                refine wr_aload_n 113 C2 dX7_line_113 0 rfl rfl ?_
                refine wr_iconst 114 C2 dX7_line_114 (v := 1) rfl ?_
                refine wr_VKq (kc1 := 1) (ks1 := 8) (As := [.int 1]) (b := r) 115 [] C2 dX7_line_115 (tX7_wrong l (wW_get h1 h2) (hno _) μ9) okX7_wrong q576 (wW_get h1 h2) rfl wZq_ok hZ.1.2 ⟨rfl, rfl, Nat.le_of_ble_eq_true rfl, Nat.le_of_ble_eq_true rfl, Nat.le_of_ble_eq_true rfl, Nat.le_of_ble_eq_true rfl⟩ (Nat.le_of_ble_eq_true rfl) rfl ?_
                intro q1 hq1 C9
                exact wr_athrowO (fs := [(3, 0), (3, 0), (3, 0), (3, 0), (3, 0), (0, 0), (0, 0), (0, 0)]) 118 C9 dX7_line_118 List.getElem?_concat_length rfl rfl (fun j hj => hq1 j (by rw [wW_len] at hj ⊢; exact hj)) hx ⟨Nat.le_refl _, Nat.le_refl _⟩ rfl
          · rw [if_neg hv2] at hf
            refine wr_aload_n 48 C dX7_line_48 0 rfl rfl ?_
            refine wr_ldcS 49 C dX7_line_49 (hZ.2 3 (by decide)) ?_
            refine wr_aload_n 51 C dX7_line_51 0 rfl rfl ?_
            refine wr_getR 52 1 C dX7_line_52 (wW_get h1 h2) rfl in_X7 (by decide) rfl q486 ?_
            refine wr_getNI 55 2 C dX7_line_55 (hF _).1 rfl in_X1 (by decide) rfl q190 ?_
            refine wr_bipush 58 C dX7_line_58 (v := 6) rfl ?_
            refine wr_icmp_ne 60 67 C dX7_line_60 (by decide) (fun hc => ?_) (fun hc => ?_)
            · refine wr_iconst 67 C dX7_line_67 (v := (if μ.1 f 2 = 6 then (1 : Int32) else 0)) (by rw [if_neg hc]; rfl) ?_
              refine wr_VPi (kc1 := 0) (ks1 := 0) (As := [.ref (adK 3), .int (if μ.1 f 2 = 6 then (1 : Int32) else 0)]) (b := r) 68 [] C dX7_line_68 (tX7_takes_2 l h1 h2 (Nat.lt_of_lt_of_le (by decide) h12) hA ht N μ μ1 v1 t1 hn1) okX7_takes_2 q671 (wW_get h1 h2) rfl wZR_ok hZ.1 (by rw [wW_len, wW_len]) ⟨rfl, rfl, Nat.le_of_ble_eq_true rfl, Nat.le_of_ble_eq_true rfl, Nat.zero_le _, Nat.zero_le _⟩ (Nat.le_of_ble_eq_true rfl) rfl ?_
              intro C1
              refine wr_if_eq 71 81 C1 dX7_line_71 (by decide) (fun _ => ?_) (fun h => absurd hv h)
              refine wr_aload_n 81 C1 dX7_line_81 0 rfl rfl ?_
              refine wr_ldcS 82 C1 dX7_line_82 (hZ.2 8 (by decide)) ?_
              refine wr_aload_n 84 C1 dX7_line_84 0 rfl rfl ?_
              refine wr_getR 85 1 C1 dX7_line_85 (wW_get h1 h2) rfl in_X7 (by decide) rfl q486 ?_
              refine wr_getNI 88 3 C1 dX7_line_88 (hF _).1 rfl in_X1 (by decide) rfl q193 ?_
              refine wr_iconst 91 C1 dX7_line_91 (v := 2) rfl ?_
              refine wr_icmp_ne 92 99 C1 dX7_line_92 (by decide) (fun hc => ?_) (fun hc => ?_)
              · refine wr_iconst 99 C1 dX7_line_99 (v := (if μ1.1 f 3 = 2 then (1 : Int32) else 0)) (by rw [if_neg hc]; rfl) ?_
                refine wr_VPi (kc1 := 0) (ks1 := 0) (As := [.ref (adK 8), .int (if μ1.1 f 3 = 2 then (1 : Int32) else 0)]) (b := r) 100 [] C1 dX7_line_100 (tX7_takes_2 l h1 h2 (Nat.lt_of_lt_of_le (by decide) h12) hA (wTakes2_lt ht hn1) N μ1 μ2 v2 t2 hn2) okX7_takes_2 q671 (wW_get h1 h2) rfl wZR_ok hZ.1 (by rw [wW_len, wW_len]) ⟨rfl, rfl, Nat.le_of_ble_eq_true rfl, Nat.le_of_ble_eq_true rfl, Nat.zero_le _, Nat.zero_le _⟩ (Nat.le_of_ble_eq_true rfl) rfl ?_
                intro C2
                refine wr_if_eq 103 113 C2 dX7_line_103 (by decide) (fun h => absurd h hv2) (fun _ => ?_)
                refine wr_aload_n 106 C2 dX7_line_106 0 rfl rfl ?_
                exact wr_VTo (kc1 := 1) (ks1 := 8) (As := []) (b := r) 107 [] C2 dX7_line_107 (tX7_newPostT l h1 h2 h12 hA (wTakes2_lt (wTakes2_lt ht hn1) hn2) hF hno N μ2 μ9 k t9 hf) okX7_newPost q687 (wW_get h1 h2) rfl wZL_ok hZ (Nat.le_of_eq (by simp only [wW_len])) (fun _ _ => rfl) hx ⟨rfl, rfl, Nat.le_of_ble_eq_true rfl, Nat.le_of_ble_eq_true rfl, Nat.le_of_ble_eq_true rfl, Nat.le_of_ble_eq_true rfl⟩ ⟨Nat.le_refl _, Nat.le_refl _⟩ (Nat.le_of_ble_eq_true rfl) rfl
              · refine wr_iconst 95 C1 dX7_line_95 (v := (if μ1.1 f 3 = 2 then (1 : Int32) else 0)) (by rw [if_pos hc]; rfl) ?_
                refine wr_goto 96 C1 dX7_line_96 (tgt := 100) (by decide) ?_
                refine wr_VPi (kc1 := 0) (ks1 := 0) (As := [.ref (adK 8), .int (if μ1.1 f 3 = 2 then (1 : Int32) else 0)]) (b := r) 100 [] C1 dX7_line_100 (tX7_takes_2 l h1 h2 (Nat.lt_of_lt_of_le (by decide) h12) hA (wTakes2_lt ht hn1) N μ1 μ2 v2 t2 hn2) okX7_takes_2 q671 (wW_get h1 h2) rfl wZR_ok hZ.1 (by rw [wW_len, wW_len]) ⟨rfl, rfl, Nat.le_of_ble_eq_true rfl, Nat.le_of_ble_eq_true rfl, Nat.zero_le _, Nat.zero_le _⟩ (Nat.le_of_ble_eq_true rfl) rfl ?_
                intro C2
                refine wr_if_eq 103 113 C2 dX7_line_103 (by decide) (fun h => absurd h hv2) (fun _ => ?_)
                refine wr_aload_n 106 C2 dX7_line_106 0 rfl rfl ?_
                exact wr_VTo (kc1 := 1) (ks1 := 8) (As := []) (b := r) 107 [] C2 dX7_line_107 (tX7_newPostT l h1 h2 h12 hA (wTakes2_lt (wTakes2_lt ht hn1) hn2) hF hno N μ2 μ9 k t9 hf) okX7_newPost q687 (wW_get h1 h2) rfl wZL_ok hZ (Nat.le_of_eq (by simp only [wW_len])) (fun _ _ => rfl) hx ⟨rfl, rfl, Nat.le_of_ble_eq_true rfl, Nat.le_of_ble_eq_true rfl, Nat.le_of_ble_eq_true rfl, Nat.le_of_ble_eq_true rfl⟩ ⟨Nat.le_refl _, Nat.le_refl _⟩ (Nat.le_of_ble_eq_true rfl) rfl
            · refine wr_iconst 63 C dX7_line_63 (v := (if μ.1 f 2 = 6 then (1 : Int32) else 0)) (by rw [if_pos hc]; rfl) ?_
              refine wr_goto 64 C dX7_line_64 (tgt := 68) (by decide) ?_
              refine wr_VPi (kc1 := 0) (ks1 := 0) (As := [.ref (adK 3), .int (if μ.1 f 2 = 6 then (1 : Int32) else 0)]) (b := r) 68 [] C dX7_line_68 (tX7_takes_2 l h1 h2 (Nat.lt_of_lt_of_le (by decide) h12) hA ht N μ μ1 v1 t1 hn1) okX7_takes_2 q671 (wW_get h1 h2) rfl wZR_ok hZ.1 (by rw [wW_len, wW_len]) ⟨rfl, rfl, Nat.le_of_ble_eq_true rfl, Nat.le_of_ble_eq_true rfl, Nat.zero_le _, Nat.zero_le _⟩ (Nat.le_of_ble_eq_true rfl) rfl ?_
              intro C1
              refine wr_if_eq 71 81 C1 dX7_line_71 (by decide) (fun _ => ?_) (fun h => absurd hv h)
              refine wr_aload_n 81 C1 dX7_line_81 0 rfl rfl ?_
              refine wr_ldcS 82 C1 dX7_line_82 (hZ.2 8 (by decide)) ?_
              refine wr_aload_n 84 C1 dX7_line_84 0 rfl rfl ?_
              refine wr_getR 85 1 C1 dX7_line_85 (wW_get h1 h2) rfl in_X7 (by decide) rfl q486 ?_
              refine wr_getNI 88 3 C1 dX7_line_88 (hF _).1 rfl in_X1 (by decide) rfl q193 ?_
              refine wr_iconst 91 C1 dX7_line_91 (v := 2) rfl ?_
              refine wr_icmp_ne 92 99 C1 dX7_line_92 (by decide) (fun hc => ?_) (fun hc => ?_)
              · refine wr_iconst 99 C1 dX7_line_99 (v := (if μ1.1 f 3 = 2 then (1 : Int32) else 0)) (by rw [if_neg hc]; rfl) ?_
                refine wr_VPi (kc1 := 0) (ks1 := 0) (As := [.ref (adK 8), .int (if μ1.1 f 3 = 2 then (1 : Int32) else 0)]) (b := r) 100 [] C1 dX7_line_100 (tX7_takes_2 l h1 h2 (Nat.lt_of_lt_of_le (by decide) h12) hA (wTakes2_lt ht hn1) N μ1 μ2 v2 t2 hn2) okX7_takes_2 q671 (wW_get h1 h2) rfl wZR_ok hZ.1 (by rw [wW_len, wW_len]) ⟨rfl, rfl, Nat.le_of_ble_eq_true rfl, Nat.le_of_ble_eq_true rfl, Nat.zero_le _, Nat.zero_le _⟩ (Nat.le_of_ble_eq_true rfl) rfl ?_
                intro C2
                refine wr_if_eq 103 113 C2 dX7_line_103 (by decide) (fun h => absurd h hv2) (fun _ => ?_)
                refine wr_aload_n 106 C2 dX7_line_106 0 rfl rfl ?_
                exact wr_VTo (kc1 := 1) (ks1 := 8) (As := []) (b := r) 107 [] C2 dX7_line_107 (tX7_newPostT l h1 h2 h12 hA (wTakes2_lt (wTakes2_lt ht hn1) hn2) hF hno N μ2 μ9 k t9 hf) okX7_newPost q687 (wW_get h1 h2) rfl wZL_ok hZ (Nat.le_of_eq (by simp only [wW_len])) (fun _ _ => rfl) hx ⟨rfl, rfl, Nat.le_of_ble_eq_true rfl, Nat.le_of_ble_eq_true rfl, Nat.le_of_ble_eq_true rfl, Nat.le_of_ble_eq_true rfl⟩ ⟨Nat.le_refl _, Nat.le_refl _⟩ (Nat.le_of_ble_eq_true rfl) rfl
              · refine wr_iconst 95 C1 dX7_line_95 (v := (if μ1.1 f 3 = 2 then (1 : Int32) else 0)) (by rw [if_pos hc]; rfl) ?_
                refine wr_goto 96 C1 dX7_line_96 (tgt := 100) (by decide) ?_
                refine wr_VPi (kc1 := 0) (ks1 := 0) (As := [.ref (adK 8), .int (if μ1.1 f 3 = 2 then (1 : Int32) else 0)]) (b := r) 100 [] C1 dX7_line_100 (tX7_takes_2 l h1 h2 (Nat.lt_of_lt_of_le (by decide) h12) hA (wTakes2_lt ht hn1) N μ1 μ2 v2 t2 hn2) okX7_takes_2 q671 (wW_get h1 h2) rfl wZR_ok hZ.1 (by rw [wW_len, wW_len]) ⟨rfl, rfl, Nat.le_of_ble_eq_true rfl, Nat.le_of_ble_eq_true rfl, Nat.zero_le _, Nat.zero_le _⟩ (Nat.le_of_ble_eq_true rfl) rfl ?_
                intro C2
                refine wr_if_eq 103 113 C2 dX7_line_103 (by decide) (fun h => absurd h hv2) (fun _ => ?_)
                refine wr_aload_n 106 C2 dX7_line_106 0 rfl rfl ?_
                exact wr_VTo (kc1 := 1) (ks1 := 8) (As := []) (b := r) 107 [] C2 dX7_line_107 (tX7_newPostT l h1 h2 h12 hA (wTakes2_lt (wTakes2_lt ht hn1) hn2) hF hno N μ2 μ9 k t9 hf) okX7_newPost q687 (wW_get h1 h2) rfl wZL_ok hZ (Nat.le_of_eq (by simp only [wW_len])) (fun _ _ => rfl) hx ⟨rfl, rfl, Nat.le_of_ble_eq_true rfl, Nat.le_of_ble_eq_true rfl, Nat.le_of_ble_eq_true rfl, Nat.le_of_ble_eq_true rfl⟩ ⟨Nat.le_refl _, Nat.le_refl _⟩ (Nat.le_of_ble_eq_true rfl) rfl
      · rw [if_neg hv] at hf
        refine wr_aload_n 48 C dX7_line_48 0 rfl rfl ?_
        refine wr_ldcS 49 C dX7_line_49 (hZ.2 3 (by decide)) ?_
        refine wr_aload_n 51 C dX7_line_51 0 rfl rfl ?_
        refine wr_getR 52 1 C dX7_line_52 (wW_get h1 h2) rfl in_X7 (by decide) rfl q486 ?_
        refine wr_getNI 55 2 C dX7_line_55 (hF _).1 rfl in_X1 (by decide) rfl q190 ?_
        refine wr_bipush 58 C dX7_line_58 (v := 6) rfl ?_
        refine wr_icmp_ne 60 67 C dX7_line_60 (by decide) (fun hc => ?_) (fun hc => ?_)
        · refine wr_iconst 67 C dX7_line_67 (v := (if μ.1 f 2 = 6 then (1 : Int32) else 0)) (by rw [if_neg hc]; rfl) ?_
          refine wr_VPi (kc1 := 0) (ks1 := 0) (As := [.ref (adK 3), .int (if μ.1 f 2 = 6 then (1 : Int32) else 0)]) (b := r) 68 [] C dX7_line_68 (tX7_takes_2 l h1 h2 (Nat.lt_of_lt_of_le (by decide) h12) hA ht N μ μ1 v1 t1 hn1) okX7_takes_2 q671 (wW_get h1 h2) rfl wZR_ok hZ.1 (by rw [wW_len, wW_len]) ⟨rfl, rfl, Nat.le_of_ble_eq_true rfl, Nat.le_of_ble_eq_true rfl, Nat.zero_le _, Nat.zero_le _⟩ (Nat.le_of_ble_eq_true rfl) rfl ?_
          intro C1
          refine wr_if_eq 71 81 C1 dX7_line_71 (by decide) (fun h => absurd h hv) (fun _ => ?_)
          refine wr_aload_n 74 C1 dX7_line_74 0 rfl rfl ?_
          exact wr_VTo (kc1 := 1) (ks1 := 8) (As := []) (b := r) 75 [] C1 dX7_line_75 (tX7_newPersonT l h1 h2 h12 hA (wTakes2_lt ht hn1) hF hno N μ1 μ9 k t9 hf) okX7_newPerson q675 (wW_get h1 h2) rfl wZL_ok hZ (Nat.le_of_eq (by simp only [wW_len])) (fun _ _ => rfl) hx ⟨rfl, rfl, Nat.le_of_ble_eq_true rfl, Nat.le_of_ble_eq_true rfl, Nat.le_of_ble_eq_true rfl, Nat.le_of_ble_eq_true rfl⟩ ⟨Nat.le_refl _, Nat.le_refl _⟩ (Nat.le_of_ble_eq_true rfl) rfl
        · refine wr_iconst 63 C dX7_line_63 (v := (if μ.1 f 2 = 6 then (1 : Int32) else 0)) (by rw [if_pos hc]; rfl) ?_
          refine wr_goto 64 C dX7_line_64 (tgt := 68) (by decide) ?_
          refine wr_VPi (kc1 := 0) (ks1 := 0) (As := [.ref (adK 3), .int (if μ.1 f 2 = 6 then (1 : Int32) else 0)]) (b := r) 68 [] C dX7_line_68 (tX7_takes_2 l h1 h2 (Nat.lt_of_lt_of_le (by decide) h12) hA ht N μ μ1 v1 t1 hn1) okX7_takes_2 q671 (wW_get h1 h2) rfl wZR_ok hZ.1 (by rw [wW_len, wW_len]) ⟨rfl, rfl, Nat.le_of_ble_eq_true rfl, Nat.le_of_ble_eq_true rfl, Nat.zero_le _, Nat.zero_le _⟩ (Nat.le_of_ble_eq_true rfl) rfl ?_
          intro C1
          refine wr_if_eq 71 81 C1 dX7_line_71 (by decide) (fun h => absurd h hv) (fun _ => ?_)
          refine wr_aload_n 74 C1 dX7_line_74 0 rfl rfl ?_
          exact wr_VTo (kc1 := 1) (ks1 := 8) (As := []) (b := r) 75 [] C1 dX7_line_75 (tX7_newPersonT l h1 h2 h12 hA (wTakes2_lt ht hn1) hF hno N μ1 μ9 k t9 hf) okX7_newPerson q675 (wW_get h1 h2) rfl wZL_ok hZ (Nat.le_of_eq (by simp only [wW_len])) (fun _ _ => rfl) hx ⟨rfl, rfl, Nat.le_of_ble_eq_true rfl, Nat.le_of_ble_eq_true rfl, Nat.le_of_ble_eq_true rfl, Nat.le_of_ble_eq_true rfl⟩ ⟨Nat.le_refl _, Nat.le_refl _⟩ (Nat.le_of_ble_eq_true rfl) rfl
