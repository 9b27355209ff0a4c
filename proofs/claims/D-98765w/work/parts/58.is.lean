set_option maxRecDepth 100000
/-- what the reader asks of what is old: the tokens, the strings -/
def wZr (ad : Nat → Nat) (n : Nat) (len : List Nat) (byt : List (List Int32)) (adK adV : Nat → Nat) (fo : Option Nat) (A : Nat → Prop) (U : State) (H : Heap) : Prop := wZk ad A U H ∧ wZs n len byt adK adV fo A U H
theorem wZr_ok {ad : Nat → Nat} {n : Nat} {len : List Nat} {byt : List (List Int32)} {adK adV : Nat → Nat} {fo : Option Nat} : wZok (wZr ad n len byt adK adV fo) := fun A B s U H hv h hk hn => ⟨wZk_ok A B s U H hv h.1 hk hn, wZs_ok A B s U H hv h.2 hk hn⟩
def wAd (ad : Nat → Nat) : Prop := ∀ i j, i < 5 → j < 5 → ad i = ad j → i = j
/-- the word w at the place: the letters from k on -/
def wIsk (len : List Nat) (byt : List (List Int32)) (r w : Nat) (μ : wMem) : Nat → Int32 → Option Int32
  | 0, _ => none
  | N + 1, k => if k < Int32.ofNat (len.getD w 0) then (if ok_in (μ.1 r 3 + k) 600 = true then (if ok_in k (len.getD w 0) = true then (if k < 0 then none else if μ.1 8 (μ.1 r 3 + k).toNatClampNeg = wCh ((byt.getD w []).getD k.toNatClampNeg 0) then wIsk len byt r w μ N (k + 1) else some 0) else none) else none) else some 1
def wIs (len : List Nat) (byt : List (List Int32)) (N r t w : Nat) (μ : wMem) : Option Int32 := if t = 1 then (if μ.1 r 2 - μ.1 r 3 = Int32.ofNat (len.getD w 0) then wIsk len byt r w μ N 0 else some 0) else some 0
abbrev cX7_is : ByteArray := prog_6_method_5_code
def yX7_is : MethodName := ⟨RX7, "is", "(Ljava/lang/String;)Z"⟩
def dkwX7_is_2 : List UInt8 := [180, 0, 52, 28, 96, 51, 43, 28, 182, 0, 92, 159, 0, 5, 3, 172, 132, 2, 1, 167, 255, 221, 4, 172]
abbrev dktX7_is_2 : List UInt8 := dkwX7_is_2 ++ []
def dkwX7_is_1 : List UInt8 := [159, 0, 5, 3, 172, 3, 61, 28, 43, 182, 0, 86, 162, 0, 33, 42, 180, 0, 3, 180, 0, 44, 42]
abbrev dktX7_is_1 : List UInt8 := dkwX7_is_1 ++ dktX7_is_2
def dkwX7_is_0 : List UInt8 := [42, 180, 0, 35, 178, 0, 59, 166, 0, 19, 42, 180, 0, 41, 42, 180, 0, 52, 100, 43, 182, 0, 86]
abbrev dktX7_is_0 : List UInt8 := dkwX7_is_0 ++ dktX7_is_1
theorem dksX7_is_0 : cX7_is.data.toList.drop 0 = dktX7_is_0 := by decide +kernel
theorem dksX7_is_1 : cX7_is.data.toList.drop 23 = dktX7_is_1 := dk_seg dksX7_is_0 23 rfl rfl
theorem dksX7_is_2 : cX7_is.data.toList.drop 46 = dktX7_is_2 := dk_seg dksX7_is_1 23 rfl rfl
theorem dX7_is_0 : decode cX7_is 0 = .ok (.aload_n 0, 1) := dk_42 (dk_at dksX7_is_0 0 rfl rfl)
theorem dX7_is_1 : decode cX7_is 1 = .ok (.getfield 35, 3) := dk_180 0 35 (dk_at dksX7_is_0 1 rfl rfl)
theorem dX7_is_4 : decode cX7_is 4 = .ok (.getstatic 59, 3) := dk_178 0 59 (dk_at dksX7_is_0 4 rfl rfl)
theorem dX7_is_7 : decode cX7_is 7 = .ok (.if_acmp .ne 19, 3) := dk_166 0 19 (dk_at dksX7_is_0 7 rfl rfl)
theorem dX7_is_10 : decode cX7_is 10 = .ok (.aload_n 0, 1) := dk_42 (dk_at dksX7_is_0 10 rfl rfl)
theorem dX7_is_11 : decode cX7_is 11 = .ok (.getfield 41, 3) := dk_180 0 41 (dk_at dksX7_is_0 11 rfl rfl)
theorem dX7_is_14 : decode cX7_is 14 = .ok (.aload_n 0, 1) := dk_42 (dk_at dksX7_is_0 14 rfl rfl)
theorem dX7_is_15 : decode cX7_is 15 = .ok (.getfield 52, 3) := dk_180 0 52 (dk_at dksX7_is_0 15 rfl rfl)
theorem dX7_is_18 : decode cX7_is 18 = .ok (.isub, 1) := dk_100 (dk_at dksX7_is_0 18 rfl rfl)
theorem dX7_is_19 : decode cX7_is 19 = .ok (.aload_n 1, 1) := dk_43 (dk_at dksX7_is_0 19 rfl rfl)
theorem dX7_is_20 : decode cX7_is 20 = .ok (.invokevirtual 86, 3) := dk_182 0 86 (dk_at dksX7_is_0 20 rfl rfl)
theorem dX7_is_23 : decode cX7_is 23 = .ok (.if_icmp .eq 5, 3) := dk_159 0 5 (dk_at dksX7_is_1 0 rfl rfl)
theorem dX7_is_26 : decode cX7_is 26 = .ok (.iconst 0, 1) := dk_3 (dk_at dksX7_is_1 3 rfl rfl)
theorem dX7_is_27 : decode cX7_is 27 = .ok (.ireturn, 1) := dk_172 (dk_at dksX7_is_1 4 rfl rfl)
theorem dX7_is_28 : decode cX7_is 28 = .ok (.iconst 0, 1) := dk_3 (dk_at dksX7_is_1 5 rfl rfl)
theorem dX7_is_29 : decode cX7_is 29 = .ok (.istore_n 2, 1) := dk_61 (dk_at dksX7_is_1 6 rfl rfl)
theorem dX7_is_30 : decode cX7_is 30 = .ok (.iload_n 2, 1) := dk_28 (dk_at dksX7_is_1 7 rfl rfl)
theorem dX7_is_31 : decode cX7_is 31 = .ok (.aload_n 1, 1) := dk_43 (dk_at dksX7_is_1 8 rfl rfl)
theorem dX7_is_32 : decode cX7_is 32 = .ok (.invokevirtual 86, 3) := dk_182 0 86 (dk_at dksX7_is_1 9 rfl rfl)
theorem dX7_is_35 : decode cX7_is 35 = .ok (.if_icmp .ge 33, 3) := dk_162 0 33 (dk_at dksX7_is_1 12 rfl rfl)
theorem dX7_is_38 : decode cX7_is 38 = .ok (.aload_n 0, 1) := dk_42 (dk_at dksX7_is_1 15 rfl rfl)
theorem dX7_is_39 : decode cX7_is 39 = .ok (.getfield 3, 3) := dk_180 0 3 (dk_at dksX7_is_1 16 rfl rfl)
theorem dX7_is_42 : decode cX7_is 42 = .ok (.getfield 44, 3) := dk_180 0 44 (dk_at dksX7_is_1 19 rfl rfl)
theorem dX7_is_45 : decode cX7_is 45 = .ok (.aload_n 0, 1) := dk_42 (dk_at dksX7_is_1 22 rfl rfl)
theorem dX7_is_46 : decode cX7_is 46 = .ok (.getfield 52, 3) := dk_180 0 52 (dk_at dksX7_is_2 0 rfl rfl)
theorem dX7_is_49 : decode cX7_is 49 = .ok (.iload_n 2, 1) := dk_28 (dk_at dksX7_is_2 3 rfl rfl)
theorem dX7_is_50 : decode cX7_is 50 = .ok (.iadd, 1) := dk_96 (dk_at dksX7_is_2 4 rfl rfl)
theorem dX7_is_51 : decode cX7_is 51 = .ok (.baload, 1) := dk_51 (dk_at dksX7_is_2 5 rfl rfl)
theorem dX7_is_52 : decode cX7_is 52 = .ok (.aload_n 1, 1) := dk_43 (dk_at dksX7_is_2 6 rfl rfl)
theorem dX7_is_53 : decode cX7_is 53 = .ok (.iload_n 2, 1) := dk_28 (dk_at dksX7_is_2 7 rfl rfl)
theorem dX7_is_54 : decode cX7_is 54 = .ok (.invokevirtual 92, 3) := dk_182 0 92 (dk_at dksX7_is_2 8 rfl rfl)
theorem dX7_is_57 : decode cX7_is 57 = .ok (.if_icmp .eq 5, 3) := dk_159 0 5 (dk_at dksX7_is_2 11 rfl rfl)
theorem dX7_is_60 : decode cX7_is 60 = .ok (.iconst 0, 1) := dk_3 (dk_at dksX7_is_2 14 rfl rfl)
theorem dX7_is_61 : decode cX7_is 61 = .ok (.ireturn, 1) := dk_172 (dk_at dksX7_is_2 15 rfl rfl)
theorem dX7_is_62 : decode cX7_is 62 = .ok (.iinc 2 1, 3) := dk_132 2 1 (dk_at dksX7_is_2 16 rfl rfl)
theorem dX7_is_65 : decode cX7_is 65 = .ok (.goto (-35), 3) := dk_167 255 221 (dk_at dksX7_is_2 19 rfl rfl)
theorem dX7_is_68 : decode cX7_is 68 = .ok (.iconst 1, 1) := dk_4 (dk_at dksX7_is_2 22 rfl rfl)
theorem dX7_is_69 : decode cX7_is 69 = .ok (.ireturn, 1) := dk_172 (dk_at dksX7_is_2 23 rfl rfl)
theorem okX7_is : wOkV yX7_is cX7_is 3 (some .boolean) 1 := ⟨q526, qs6, q146, q527, by decide, by decide, by decide +kernel⟩
theorem tX7_isk {p : Program} {l : Launch} {e : Env} {s : State} {m : MethodId} {args : Array Value} {below : List Frame} {meth : Method} {c : Code} {D : va_G} {E : List wCell} {q : Nat → Nat} {ca : wCA} {A : Nat → Prop} {n : Nat} {len : List Nat} {byt : List (List Int32)} {adK adV : Nat → Nat} {fo : Option Nat} {w : Nat} {r f t : Nat} {ad : Nat → Nat} (hb : (spX ++ E)[r]? = some (wRdr f (ad t))) (hw : w < n) (C : wC p ({ frames := 4, cells := 0, slots := 0, locals := 85 } : Room) s m args meth c cX7_is yX7_is.cls 3 (some .boolean) D vwCl (spX ++ E) q ca A) (hZ : (wZr ad n len byt adK adV fo) A s s.heap) {μ : wMem} {v : Int32} : ∀ (N : Nat) (k : Int32), wIsk len byt r w μ N k = some v → wJ p l e ({ frames := 4, cells := 0, slots := 0, locals := 85 } : Room) s m args below meth c 3 D vwCl (spX ++ E) q ca A (MQ below (va_Qi (fun (r : Int32) (_ : Unit) => r = v) (fun (_ : Unit) t => va_P D vwCl (wWs (spX ++ E) q ca μ) t.heap) A) args s ({ frames := 4, cells := 0, slots := 0, locals := 85 } : Room).cells ({ frames := 4, cells := 0, slots := 0, locals := 85 } : Room).slots A) 0 0 μ 30 [(2, .int k), (0, .ref (q r)), (1, .ref (adK w))] [] := by
  intro N
  induction N with
  | zero =>
    intro k h
    simp [wIsk] at h
  | succ N ih =>
    intro k h
    unfold wIsk at h
    refine wr_iload_n 30 C dX7_is_30 0 rfl rfl ?_
    refine wr_aload_n 31 C dX7_is_31 2 rfl rfl ?_
    refine wr_OPi (kc1 := 0) (ks1 := 0) (As := []) (a := adK w) 32 [.int k] C dX7_is_32 (tJ4_length l hw μ) okJ4_length q528 (fun H locs hS => vk_recv hZ.2.1 hw hS) wZs_ok hZ.2 rfl ⟨rfl, rfl, Nat.le_of_ble_eq_true rfl, Nat.le_of_ble_eq_true rfl, Nat.zero_le _, Nat.zero_le _⟩ (Nat.le_of_ble_eq_true rfl) rfl ?_
    intro _
    refine wr_icmp_ge 35 68 C dX7_is_35 (by decide) (fun hc => ?_) (fun hc => ?_)
    · rw [if_neg (Int32.not_lt.mpr hc)] at h
      have e := Option.some.inj h
      refine wr_iconst 68 C dX7_is_68 (v := 1) rfl ?_
      exact wr_retPz 69 C dX7_is_69 rfl e ⟨Nat.le_refl _, Nat.le_refl _⟩ rfl
    · have hlt := Int32.not_le.mp hc
      rw [if_pos hlt] at h
      by_cases h1 : ok_in (μ.1 r 3 + k) 600 = true
      · rw [if_pos h1] at h
        by_cases h2 : ok_in k (len.getD w 0) = true
        · rw [if_pos h2] at h
          by_cases h3 : k < 0
          · rw [if_pos h3] at h
            cases h
          · rw [if_neg h3] at h
            refine wr_aload_n 38 C dX7_is_38 1 rfl rfl ?_
            refine wr_getR 39 6 C dX7_is_39 hb rfl in_X7 (by decide) rfl q491 ?_
            refine wr_getNR 42 1 C dX7_is_42 spX_0 rfl in_X0 (by decide) rfl q330 ?_
            refine wr_aload_n 45 C dX7_is_45 1 rfl rfl ?_
            refine wr_getI 46 3 C dX7_is_46 hb rfl in_X7 (by decide) rfl q488 ?_
            refine wr_iload_n 49 C dX7_is_49 0 rfl rfl ?_
            refine wr_iadd 50 C dX7_is_50 ?_
            refine wr_bald 51 C dX7_is_51 spX_8 h1 ?_
            refine wr_aload_n 52 C dX7_is_52 2 rfl rfl ?_
            refine wr_iload_n 53 C dX7_is_53 0 rfl rfl ?_
            refine wr_OPi (kc1 := 0) (ks1 := 0) (As := [.int k]) (a := adK w) 54 [.int (μ.1 8 (μ.1 r 3 + k).toNatClampNeg)] C dX7_is_54 (tJ4_charAt l hw h3 hlt h2 μ) okJ4_charAt q538 (fun H locs hS => vk_recv hZ.2.1 hw hS) wZs_ok hZ.2 rfl ⟨rfl, rfl, Nat.le_of_ble_eq_true rfl, Nat.le_of_ble_eq_true rfl, Nat.zero_le _, Nat.zero_le _⟩ (Nat.le_of_ble_eq_true rfl) rfl ?_
            intro _
            refine wr_icmp_eq 57 62 C dX7_is_57 (by decide) (fun he => ?_) (fun he => ?_)
            · rw [if_pos he] at h
              refine wr_iinc 62 [(2, .int (k + 1)), (0, .ref (q r)), (1, .ref (adK w))] C dX7_is_62 0 rfl rfl (by decide) rfl ?_
              refine wr_goto 65 C dX7_is_65 (tgt := 30) (by decide) ?_
              exact ih _ h
            · rw [if_neg he] at h
              have e := Option.some.inj h
              refine wr_iconst 60 C dX7_is_60 (v := 0) rfl ?_
              exact wr_retPz 61 C dX7_is_61 rfl e ⟨Nat.le_refl _, Nat.le_refl _⟩ rfl
        · rw [if_neg h2] at h
          cases h
      · rw [if_neg h1] at h
        cases h
theorem tX7_is (l : Launch) {D : va_G} {E : List wCell} {q : Nat → Nat} {ca : wCA} {n : Nat} {len : List Nat} {byt : List (List Int32)} {adK adV : Nat → Nat} {fo : Option Nat} {w : Nat} {r f t : Nat} {ad : Nat → Nat} (hb : (spX ++ E)[r]? = some (wRdr f (ad t))) (hw : w < n) (hA : wAd ad) (ht : t < 5) (N : Nat) (μ : wMem) (v : Int32) (hf : wIs len byt N r t w μ = some v) : wMPi (wZr ad n len byt adK adV fo) l yX7_is cX7_is 3 (some .boolean) ({ frames := 4, cells := 0, slots := 0, locals := 85 } : Room) D vwCl (spX ++ E) (spX ++ E) q ca [.ref (q r), .ref (adK w)] μ μ v := by
  refine wMPi_intro (by decide) (Nat.le_of_ble_eq_true rfl) ?_
  intro p e s m args below meth c A C hZ
  refine wr_sub [(0, .ref (q r)), (1, .ref (adK w))] [0, 1] rfl ?_
  unfold wIs at hf
  refine wr_aload_n 0 C dX7_is_0 0 rfl rfl ?_
  refine wr_getA (a := ad t) 1 5 C dX7_is_1 hb rfl in_X7 (by decide) rfl q490 ?_
  refine wr_getsA 4 C dX7_is_4 (hZ.1 1 (by decide)) q473 ?_
  refine wr_acmp_ne 7 26 C dX7_is_7 (by decide) (fun hne => ?_) (fun heq => ?_)
  · rw [if_neg (fun (h1 : t = 1) => hne (by rw [h1]))] at hf
    have e := Option.some.inj hf
    refine wr_iconst 26 C dX7_is_26 (v := 0) rfl ?_
    exact wr_retPz 27 C dX7_is_27 rfl e ⟨Nat.le_refl _, Nat.le_refl _⟩ rfl
  · rw [if_pos (hA t 1 ht (by decide) heq)] at hf
    refine wr_aload_n 10 C dX7_is_10 0 rfl rfl ?_
    refine wr_getI 11 2 C dX7_is_11 hb rfl in_X7 (by decide) rfl q487 ?_
    refine wr_aload_n 14 C dX7_is_14 0 rfl rfl ?_
    refine wr_getI 15 3 C dX7_is_15 hb rfl in_X7 (by decide) rfl q488 ?_
    refine wr_isub 18 C dX7_is_18 ?_
    refine wr_aload_n 19 C dX7_is_19 1 rfl rfl ?_
    refine wr_OPi (kc1 := 0) (ks1 := 0) (As := []) (a := adK w) 20 [.int (μ.1 r 2 - μ.1 r 3)] C dX7_is_20 (tJ4_length l hw μ) okJ4_length q528 (fun H locs hS => vk_recv hZ.2.1 hw hS) wZs_ok hZ.2 rfl ⟨rfl, rfl, Nat.le_of_ble_eq_true rfl, Nat.le_of_ble_eq_true rfl, Nat.zero_le _, Nat.zero_le _⟩ (Nat.le_of_ble_eq_true rfl) rfl ?_
    intro _
    refine wr_icmp_eq 23 28 C dX7_is_23 (by decide) (fun he => ?_) (fun he => ?_)
    · rw [if_pos he] at hf
      refine wr_iconst 28 C dX7_is_28 (v := 0) rfl ?_
      refine wr_istore_n 29 [(2, .int 0), (0, .ref (q r)), (1, .ref (adK w))] C dX7_is_29 rfl rfl (by decide) rfl ?_
      exact tX7_isk hb hw C hZ N 0 hf
    · rw [if_neg he] at hf
      have e := Option.some.inj hf
      refine wr_iconst 26 C dX7_is_26 (v := 0) rfl ?_
      exact wr_retPz 27 C dX7_is_27 rfl e ⟨Nat.le_refl _, Nat.le_refl _⟩ rfl
/-- the reader's world: the token's address in the reader's cell -/
abbrev wW (E : List wCell) (r f a : Nat) : List wCell := spX ++ E.set (r - spX.length) (wRdr f a)
theorem wW_len {E : List wCell} {r f a : Nat} : (wW E r f a).length = (spX ++ E).length := by simp
theorem wW_get {E : List wCell} {r f a : Nat} (h1 : spX.length ≤ r) (h2 : r < (spX ++ E).length) : (wW E r f a)[r]? = some (wRdr f a) := by
  rw [wW, List.getElem?_append_right h1, List.getElem?_set_self]
  rw [List.length_append] at h2
  omega
theorem wW_set {E : List wCell} {r f a b : Nat} (h1 : spX.length ≤ r) : (wW E r f a).set r (wRdr f b) = wW E r f b := by
  rw [wW, List.set_append_right _ _ h1, List.set_set]
/-- takes: its answer, the token, the memory -/
def wTakes (len : List Nat) (byt : List (List Int32)) (N r t w : Nat) (μ : wMem) : Option (Int32 × Nat × wMem) := (wIs len byt N r t w μ).bind fun b => if b = 0 then some (0, t, μ) else (wNext N r μ).bind fun z => some (b, z.1, z.2)
abbrev cX7_takes : ByteArray := prog_6_method_6_code
def yX7_takes : MethodName := ⟨RX7, "takes", "(Ljava/lang/String;)Z"⟩
def dkwX7_takes_0 : List UInt8 := [42, 43, 182, 0, 96, 61, 28, 153, 0, 7, 42, 182, 0, 38, 28, 172]
abbrev dktX7_takes_0 : List UInt8 := dkwX7_takes_0 ++ []
theorem dksX7_takes_0 : cX7_takes.data.toList.drop 0 = dktX7_takes_0 := by decide +kernel
theorem dX7_takes_0 : decode cX7_takes 0 = .ok (.aload_n 0, 1) := dk_42 (dk_at dksX7_takes_0 0 rfl rfl)
theorem dX7_takes_1 : decode cX7_takes 1 = .ok (.aload_n 1, 1) := dk_43 (dk_at dksX7_takes_0 1 rfl rfl)
theorem dX7_takes_2 : decode cX7_takes 2 = .ok (.invokevirtual 96, 3) := dk_182 0 96 (dk_at dksX7_takes_0 2 rfl rfl)
theorem dX7_takes_5 : decode cX7_takes 5 = .ok (.istore_n 2, 1) := dk_61 (dk_at dksX7_takes_0 5 rfl rfl)
theorem dX7_takes_6 : decode cX7_takes 6 = .ok (.iload_n 2, 1) := dk_28 (dk_at dksX7_takes_0 6 rfl rfl)
theorem dX7_takes_7 : decode cX7_takes 7 = .ok (.ifCond .eq 7, 3) := dk_153 0 7 (dk_at dksX7_takes_0 7 rfl rfl)
theorem dX7_takes_10 : decode cX7_takes 10 = .ok (.aload_n 0, 1) := dk_42 (dk_at dksX7_takes_0 10 rfl rfl)
theorem dX7_takes_11 : decode cX7_takes 11 = .ok (.invokevirtual 38, 3) := dk_182 0 38 (dk_at dksX7_takes_0 11 rfl rfl)
theorem dX7_takes_14 : decode cX7_takes 14 = .ok (.iload_n 2, 1) := dk_28 (dk_at dksX7_takes_0 14 rfl rfl)
theorem dX7_takes_15 : decode cX7_takes 15 = .ok (.ireturn, 1) := dk_172 (dk_at dksX7_takes_0 15 rfl rfl)
theorem okX7_takes : wOkV yX7_takes cX7_takes 3 (some .boolean) 1 := ⟨q522, qs5, q146, q523, by decide, by decide, by decide +kernel⟩
theorem wIsk_b {len : List Nat} {byt : List (List Int32)} {r w : Nat} {μ : wMem} {v : Int32} : ∀ (N : Nat) (k : Int32), wIsk len byt r w μ N k = some v → ok_b v = true := by
  intro N
  induction N with
  | zero => intro k h; simp [wIsk] at h
  | succ N ih =>
    intro k h
    unfold wIsk at h
    split at h
    · split at h
      · split at h
        · split at h
          · cases h
          · split at h
            · exact ih _ h
            · cases h; rfl
        · cases h
      · cases h
    · cases h; rfl
theorem wIs_b {len : List Nat} {byt : List (List Int32)} {N r t w : Nat} {μ : wMem} {v : Int32} (h : wIs len byt N r t w μ = some v) : ok_b v = true := by
  unfold wIs at h
  split at h
  · split at h
    · exact wIsk_b _ _ h
    · cases h; rfl
  · cases h; rfl
theorem tX7_takes (l : Launch) {D : va_G} {E : List wCell} {q : Nat → Nat} {ca : wCA} {n : Nat} {len : List Nat} {byt : List (List Int32)} {adK adV : Nat → Nat} {fo : Option Nat} {w r f t : Nat} {ad : Nat → Nat} (h1 : spX.length ≤ r) (h2 : r < (spX ++ E).length) (hw : w < n) (hA : wAd ad) (ht : t < 5) (N : Nat) (μ μ1 : wMem) (v : Int32) (t1 : Nat) (hf : wTakes len byt N r t w μ = some (v, t1, μ1)) : wMPi (wZr ad n len byt adK adV fo) l yX7_takes cX7_takes 3 (some .boolean) ({ frames := 5, cells := 0, slots := 0, locals := 107 } : Room) D vwCl (wW E r f (ad t)) (wW E r f (ad t1)) q ca [.ref (q r), .ref (adK w)] μ μ1 v := by
  refine wMPi_intro (by decide) (Nat.le_of_ble_eq_true rfl) ?_
  intro p e s m args below meth c A C hZ
  refine wr_sub [(0, .ref (q r)), (1, .ref (adK w))] [0, 1] rfl ?_
  unfold wTakes at hf
  obtain ⟨b, hi, hf⟩ := Option.bind_eq_some_iff.mp hf
  have hb := wW_get (E := E) (f := f) (a := ad t) h1 h2
  refine wr_aload_n 0 C dX7_takes_0 0 rfl rfl ?_
  refine wr_aload_n 1 C dX7_takes_1 1 rfl rfl ?_
  refine wr_VPi (kc1 := 0) (ks1 := 0) (As := [.ref (adK w)]) (b := r) 2 [] C dX7_takes_2 (tX7_is l hb hw hA ht N μ b hi) okX7_is q524 hb rfl wZr_ok hZ rfl ⟨rfl, rfl, Nat.le_of_ble_eq_true rfl, Nat.le_of_ble_eq_true rfl, Nat.zero_le _, Nat.zero_le _⟩ (Nat.le_of_ble_eq_true rfl) rfl ?_
  intro _
  refine wr_istore_n 5 [(2, .int b), (0, .ref (q r)), (1, .ref (adK w))] C dX7_takes_5 rfl rfl (by decide) rfl ?_
  refine wr_iload_n 6 C dX7_takes_6 0 rfl rfl ?_
  refine wr_if_eq 7 14 C dX7_takes_7 (by decide) (fun h0 => ?_) (fun h0 => ?_)
  · rw [if_pos h0] at hf
    obtain ⟨rfl, e2⟩ := Prod.mk.inj (Option.some.inj hf)
    obtain ⟨rfl, rfl⟩ := Prod.mk.inj e2
    refine wr_iload_n 14 C dX7_takes_14 0 rfl rfl ?_
    exact wr_retPz 15 C dX7_takes_15 (by rw [h0]; rfl) h0 ⟨Nat.le_refl _, Nat.le_refl _⟩ rfl
  · rw [if_neg h0] at hf
    obtain ⟨z, hn, hf⟩ := Option.bind_eq_some_iff.mp hf
    obtain ⟨rfl, e2⟩ := Prod.mk.inj (Option.some.inj hf)
    obtain ⟨rfl, rfl⟩ := Prod.mk.inj e2
    refine wr_aload_n 10 C dX7_takes_10 1 rfl rfl ?_
    refine wr_VPv (kc1 := 0) (ks1 := 0) (As := []) (b := r) 11 [] C dX7_takes_11 (wW_set (E := E) (f := f) (a := ad t) (b := ad z.1) h1 ▸ tX7_next l hb N z.1 μ z.2 hn) okX7_next q464 hb rfl wZk_ok hZ.1 (by rw [wW_len, wW_len]) ⟨rfl, rfl, Nat.le_of_ble_eq_true rfl, Nat.le_of_ble_eq_true rfl, Nat.zero_le _, Nat.zero_le _⟩ (Nat.le_of_ble_eq_true rfl) rfl ?_
    intro C1
    refine wr_iload_n 14 C1 dX7_takes_14 0 rfl rfl ?_
    exact wr_retPz 15 C1 dX7_takes_15 (wIs_b hi) rfl ⟨Nat.le_refl _, Nat.le_refl _⟩ rfl
