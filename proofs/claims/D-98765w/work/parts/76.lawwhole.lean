set_option maxRecDepth 100000
/-- the kinds of the arrays of slots -/
def wKs6 : List Nat := [7881415313719326, 7599936041975837, 115792089237316195423570985008687907853269984665640564039457584007913129639941, 115792089237316195423570985008687907853269984665640564039457584007913129639965, 115792089237316195423570985008687907853269984665640564039457584007913131278365, 115792089237316195423570985008687907853269984665640564039457584008024800428061]
def wCa (cI cJ cB cZ cS cL cO : ClassId) : wCA := (fun t => if t = 0 then cI else if t = 1 then cJ else if t = 2 then cB else if t = 3 then cZ else if t = 4 then cS else if wKs6.contains t then cL else cO, [(cL, .object "OnePassport$Slot"), (cO, .object "java/lang/Object")])
theorem wCa_S {cI cJ cB cZ cS cL cO : ClassId} {t : Nat} (h : wKs6.contains t = true) : (wCa cI cJ cB cZ cS cL cO).1 t = cL := by
  have h4 : ∀ t ∈ wKs6, 4 < t := by decide +kernel
  have := h4 t (List.contains_iff_mem.mp h)
  simp only [wCa, h, if_true]
  rw [if_neg (by omega), if_neg (by omega), if_neg (by omega), if_neg (by omega), if_neg (by omega)]
theorem wCa_O {cI cJ cB cZ cS cL cO : ClassId} {t : Nat} (h4 : 4 < t) (h : wKs6.contains t = false) : (wCa cI cJ cB cZ cS cL cO).1 t = cO := by
  simp only [wCa, h]
  rw [if_neg (by omega), if_neg (by omega), if_neg (by omega), if_neg (by omega), if_neg (by omega)]
  rfl
/-- the arrays' classes, as the law's worlds have them -/
def wGood (ca : wCA) : Prop := (wTy ca)[5]? = some (ca.1 7881415313719326, .object "OnePassport$Slot") ∧ (∀ t, wKs6.contains t = true → ca.1 t = ca.1 7881415313719326) ∧ (wTy ca)[6]? = some (ca.1 5, .object "java/lang/Object") ∧ ∀ t, 4 < t → wKs6.contains t = false → ca.1 t = ca.1 5
theorem wCa_good {cI cJ cB cZ cS cL cO : ClassId} : wGood (wCa cI cJ cB cZ cS cL cO) := by
  refine ⟨?_, fun t h => ?_, ?_, fun t h4 h => ?_⟩
  · rw [wCa_S (by decide +kernel)]; rfl
  · rw [wCa_S h, wCa_S (by decide +kernel)]
  · rw [wCa_O (by decide) (by decide +kernel)]; rfl
  · rw [wCa_O h4 h, wCa_O (by decide) (by decide +kernel)]
theorem wArrO {C : String} {args : Array Value} {s : State} (h : (Cond.arrayOver (.object C)).before args s = true) : ∃ cA : ClassId, ArrOfT s cA (.object C) ∧ va_RA s cA (.object C) := by
  obtain ⟨comp, cA, kA, h1, h2, h3, h4, h5⟩ := Cond.arrayOver_spec h
  exact ⟨cA, fun n z => ⟨(fun k h => by cases h), kA, h3, comp, h4⟩, kA, comp, h3, h4, h1, h5⟩
theorem wArr_int {args : Array Value} {s : State} (h : (Cond.arrayClass .int).before args s = true) : ∃ cA : ClassId, ArrOfT s cA .int ∧ va_RA s cA .int := by
  obtain ⟨cA, kA, comp, h1, h2, h3⟩ := Cond.arrayClass_spec h
  exact ⟨cA, fun n z => ⟨(fun k h => by cases h), kA, h2, comp, h3⟩, h1⟩
theorem wArr_long {args : Array Value} {s : State} (h : (Cond.arrayClass .long).before args s = true) : ∃ cA : ClassId, ArrOfT s cA .long ∧ va_RA s cA .long := by
  obtain ⟨cA, kA, comp, h1, h2, h3⟩ := Cond.arrayClass_spec h
  exact ⟨cA, fun n z => ⟨(fun k h => by cases h), kA, h2, comp, h3⟩, h1⟩
theorem wArr_byte {args : Array Value} {s : State} (h : (Cond.arrayClass .byte).before args s = true) : ∃ cA : ClassId, ArrOfT s cA .byte ∧ va_RA s cA .byte := by
  obtain ⟨cA, kA, comp, h1, h2, h3⟩ := Cond.arrayClass_spec h
  exact ⟨cA, fun n z => ⟨(fun k h => by cases h), kA, h2, comp, h3⟩, h1⟩
theorem wArr_boolean {args : Array Value} {s : State} (h : (Cond.arrayClass .boolean).before args s = true) : ∃ cA : ClassId, ArrOfT s cA .boolean ∧ va_RA s cA .boolean := by
  obtain ⟨cA, kA, comp, h1, h2, h3⟩ := Cond.arrayClass_spec h
  exact ⟨cA, fun n z => ⟨(fun k h => by cases h), kA, h2, comp, h3⟩, h1⟩
theorem wArr_short {args : Array Value} {s : State} (h : (Cond.arrayClass .short).before args s = true) : ∃ cA : ClassId, ArrOfT s cA .short ∧ va_RA s cA .short := by
  obtain ⟨cA, kA, comp, h1, h2, h3⟩ := Cond.arrayClass_spec h
  exact ⟨cA, fun n z => ⟨(fun k h => by cases h), kA, h2, comp, h3⟩, h1⟩
theorem wl_known {args : Array Value} {s : State} (hts : ∀ w ∈ lw_all, w.before args s = true) (h0 : ∀ w ∈ lw_tbl, w.before args s = true) : ∃ (D : va_G) (ca : wCA), wGood ca ∧ va_K D vwCl (wTy ca) s := by
  have h : ∀ k : Nat, ∃ x : ClassId × (Nat → Nat), ∀ q : vw_C, vwCl[k]? = some q → u_Kn s q.1 q.2.1 q.2.2 x.1 x.2 := by
    intro k
    match k with
    | 0 =>
      obtain ⟨c, i, h⟩ := u_known (C := RX0) (T := TX0) (N := 34) (n := 34) hts in_X0 (hts _ q169)
      exact ⟨(c, i), fun q hq => by cases hq; exact h⟩
    | 1 =>
      obtain ⟨c, i, h⟩ := u_known (C := RX1) (T := TX1) (N := 14) (n := 14) hts in_X1 (hts _ q177)
      exact ⟨(c, i), fun q hq => by cases hq; exact h⟩
    | 2 =>
      obtain ⟨c, i, h⟩ := u_known (C := RX2) (T := TX2) (N := 1) (n := 1) hts in_X2 (hts _ q254)
      exact ⟨(c, i), fun q hq => by cases hq; exact h⟩
    | 3 =>
      obtain ⟨c, i, h⟩ := u_known (C := RX3) (T := TX3) (N := 2) (n := 2) hts in_X3 (hts _ q265)
      exact ⟨(c, i), fun q hq => by cases hq; exact h⟩
    | 4 =>
      obtain ⟨c, i, h⟩ := u_known (C := RX4) (T := TX4) (N := 2) (n := 2) hts in_X4 (hts _ q276)
      exact ⟨(c, i), fun q hq => by cases hq; exact h⟩
    | 5 =>
      obtain ⟨c, i, h⟩ := u_known (C := RX5) (T := TX5) (N := 1) (n := 1) hts in_X5 (hts _ q290)
      exact ⟨(c, i), fun q hq => by cases hq; exact h⟩
    | 6 =>
      obtain ⟨c, i, h⟩ := u_known (C := RX6) (T := TX6) (N := 48) (n := 48) hts in_X6 (hts _ q1392)
      exact ⟨(c, i), fun q hq => by cases hq; exact h⟩
    | 7 =>
      obtain ⟨c, i, h⟩ := u_known (C := RX7) (T := TX7) (N := 7) (n := 7) hts in_X7 (hts _ q455)
      exact ⟨(c, i), fun q hq => by cases hq; exact h⟩
    | 8 =>
      obtain ⟨c, i, h⟩ := u_known (C := RX8) (T := TX8) (N := 8) (n := 8) hts in_X8 (hts _ q581)
      exact ⟨(c, i), fun q hq => by cases hq; exact h⟩
    | 9 =>
      obtain ⟨c, i, h⟩ := u_known (C := RJ2) (T := TJ2) (N := 3) (n := 3) hts in_J2 (hts _ q303)
      exact ⟨(c, i), fun q hq => by cases hq; exact h⟩
    | k + 10 => exact ⟨(0, fun _ => 0), fun q hq => by cases hq⟩
  obtain ⟨f, hf⟩ := Classical.axiomOfChoice h
  obtain ⟨cI, i1⟩ := wArr_int (hts _ q252)
  obtain ⟨cJ, j1⟩ := wArr_long (hts _ q301)
  obtain ⟨cB, b1⟩ := wArr_byte (hts _ q263)
  obtain ⟨cZ, z1⟩ := wArr_boolean (hts _ q300)
  obtain ⟨cS, s1⟩ := wArr_short (hts _ q1343)
  obtain ⟨cL, l1⟩ := wArrO (h0 _ q289)
  obtain ⟨cO, o1⟩ := wArrO (h0 _ q1269)
  refine ⟨(fun k => (f k).1, fun k => (f k).2), wCa cI cJ cB cZ cS cL cO, wCa_good, fun k q hq => hf k q hq, fun k q hq => ?_⟩
  match k, hq with
  | 0, hq => cases hq; exact i1
  | 1, hq => cases hq; exact j1
  | 2, hq => cases hq; exact b1
  | 3, hq => cases hq; exact z1
  | 4, hq => cases hq; exact s1
  | 5, hq => cases hq; exact l1
  | 6, hq => cases hq; exact o1
  | k + 7, hq => cases hq
/-- the twelve words: lengths, bytes -/
def wLen : List Nat := [6, 4, 7, 6, 4, 4, 5, 5, 4, 6, 4, 5]
def wByt : List (List Int32) := [[102, 97, 109, 105, 108, 121], [108, 111, 97, 102], [99, 111, 109, 112, 97, 114, 101], [112, 101, 114, 115, 111, 110], [108, 105, 107, 101], [110, 111, 115, 101], [99, 104, 105, 108, 100], [115, 116, 97, 121, 115], [112, 111, 115, 116], [115, 116, 114, 105, 99, 116], [107, 101, 101, 110], [108, 111, 111, 107, 115]]
/-- the law's static premises -/
def wZa (aE : Nat) (ad adK adV : Nat → Nat) (fo : Option Nat) (A : Nat → Prop) (U : State) (H : Heap) : Prop := wZL ad 12 wLen wByt adK adV fo A U H ∧ wZl aE A U H
theorem wZa_ok {aE : Nat} {ad adK adV : Nat → Nat} {fo : Option Nat} : wZok (wZa aE ad adK adV fo) := fun A B s U H hv h hk hn => ⟨wZL_ok A B s U H hv h.1 hk hn, wZl_ok A B s U H hv h.2 hk hn⟩
def wStr (i : Nat) : Term := .string "OnePassport$Reader" (wWd i).1
def wTok (i : Nat) : Term := .static "OnePassport$Token" (wTkn i) "LOnePassport$Token;"
theorem wn_5 : (Jvm.Cond.arrayOf (Jvm.Term.static "java/util/ArrayList" "DEFAULTCAPACITY_EMPTY_ELEMENTDATA" "[Ljava/lang/Object;") (Jvm.ClassFile.FieldType.object "java/lang/Object")) ∈ flatC (Jvm.Cond.and given_1 narrow_1) := List.mem_of_getElem? (i := 5) rfl
theorem wn_7 : (Jvm.Cond.eq (Jvm.Term.length (Jvm.Term.static "java/util/ArrayList" "DEFAULTCAPACITY_EMPTY_ELEMENTDATA" "[Ljava/lang/Object;")) (Jvm.Term.int (0 : Int32))) ∈ flatC (Jvm.Cond.and given_1 narrow_1) := List.mem_of_getElem? (i := 7) rfl
theorem wn_8 : (Jvm.Cond.exactly (Jvm.Term.static "OnePassport$Token" "END" "LOnePassport$Token;") "OnePassport$Token") ∈ flatC (Jvm.Cond.and given_1 narrow_1) := List.mem_of_getElem? (i := 8) rfl
theorem wn_10 : (Jvm.Cond.exactly (Jvm.Term.static "OnePassport$Token" "WORD" "LOnePassport$Token;") "OnePassport$Token") ∈ flatC (Jvm.Cond.and given_1 narrow_1) := List.mem_of_getElem? (i := 10) rfl
theorem wn_12 : (Jvm.Cond.not (Jvm.Cond.eq (Jvm.Term.static "OnePassport$Token" "END" "LOnePassport$Token;") (Jvm.Term.static "OnePassport$Token" "WORD" "LOnePassport$Token;"))) ∈ flatC (Jvm.Cond.and given_1 narrow_1) := List.mem_of_getElem? (i := 12) rfl
theorem wn_13 : (Jvm.Cond.exactly (Jvm.Term.static "OnePassport$Token" "NUMBER" "LOnePassport$Token;") "OnePassport$Token") ∈ flatC (Jvm.Cond.and given_1 narrow_1) := List.mem_of_getElem? (i := 13) rfl
theorem wn_15 : (Jvm.Cond.not (Jvm.Cond.eq (Jvm.Term.static "OnePassport$Token" "END" "LOnePassport$Token;") (Jvm.Term.static "OnePassport$Token" "NUMBER" "LOnePassport$Token;"))) ∈ flatC (Jvm.Cond.and given_1 narrow_1) := List.mem_of_getElem? (i := 15) rfl
theorem wn_16 : (Jvm.Cond.not (Jvm.Cond.eq (Jvm.Term.static "OnePassport$Token" "WORD" "LOnePassport$Token;") (Jvm.Term.static "OnePassport$Token" "NUMBER" "LOnePassport$Token;"))) ∈ flatC (Jvm.Cond.and given_1 narrow_1) := List.mem_of_getElem? (i := 16) rfl
theorem wn_17 : (Jvm.Cond.exactly (Jvm.Term.static "OnePassport$Token" "STOP" "LOnePassport$Token;") "OnePassport$Token") ∈ flatC (Jvm.Cond.and given_1 narrow_1) := List.mem_of_getElem? (i := 17) rfl
theorem wn_19 : (Jvm.Cond.not (Jvm.Cond.eq (Jvm.Term.static "OnePassport$Token" "END" "LOnePassport$Token;") (Jvm.Term.static "OnePassport$Token" "STOP" "LOnePassport$Token;"))) ∈ flatC (Jvm.Cond.and given_1 narrow_1) := List.mem_of_getElem? (i := 19) rfl
theorem wn_20 : (Jvm.Cond.not (Jvm.Cond.eq (Jvm.Term.static "OnePassport$Token" "WORD" "LOnePassport$Token;") (Jvm.Term.static "OnePassport$Token" "STOP" "LOnePassport$Token;"))) ∈ flatC (Jvm.Cond.and given_1 narrow_1) := List.mem_of_getElem? (i := 20) rfl
theorem wn_21 : (Jvm.Cond.not (Jvm.Cond.eq (Jvm.Term.static "OnePassport$Token" "NUMBER" "LOnePassport$Token;") (Jvm.Term.static "OnePassport$Token" "STOP" "LOnePassport$Token;"))) ∈ flatC (Jvm.Cond.and given_1 narrow_1) := List.mem_of_getElem? (i := 21) rfl
theorem wn_22 : (Jvm.Cond.exactly (Jvm.Term.static "OnePassport$Token" "NONE" "LOnePassport$Token;") "OnePassport$Token") ∈ flatC (Jvm.Cond.and given_1 narrow_1) := List.mem_of_getElem? (i := 22) rfl
theorem wn_24 : (Jvm.Cond.not (Jvm.Cond.eq (Jvm.Term.static "OnePassport$Token" "END" "LOnePassport$Token;") (Jvm.Term.static "OnePassport$Token" "NONE" "LOnePassport$Token;"))) ∈ flatC (Jvm.Cond.and given_1 narrow_1) := List.mem_of_getElem? (i := 24) rfl
theorem wn_25 : (Jvm.Cond.not (Jvm.Cond.eq (Jvm.Term.static "OnePassport$Token" "WORD" "LOnePassport$Token;") (Jvm.Term.static "OnePassport$Token" "NONE" "LOnePassport$Token;"))) ∈ flatC (Jvm.Cond.and given_1 narrow_1) := List.mem_of_getElem? (i := 25) rfl
theorem wn_26 : (Jvm.Cond.not (Jvm.Cond.eq (Jvm.Term.static "OnePassport$Token" "NUMBER" "LOnePassport$Token;") (Jvm.Term.static "OnePassport$Token" "NONE" "LOnePassport$Token;"))) ∈ flatC (Jvm.Cond.and given_1 narrow_1) := List.mem_of_getElem? (i := 26) rfl
theorem wn_27 : (Jvm.Cond.not (Jvm.Cond.eq (Jvm.Term.static "OnePassport$Token" "STOP" "LOnePassport$Token;") (Jvm.Term.static "OnePassport$Token" "NONE" "LOnePassport$Token;"))) ∈ flatC (Jvm.Cond.and given_1 narrow_1) := List.mem_of_getElem? (i := 27) rfl
theorem wn_28 : (Jvm.Cond.eq (Jvm.Term.static "java/lang/String" "COMPACT_STRINGS" "Z") (Jvm.Term.int (1 : Int32))) ∈ flatC (Jvm.Cond.and given_1 narrow_1) := List.mem_of_getElem? (i := 28) rfl
theorem wn_29 : (Jvm.Cond.isRef (Jvm.Term.static "jdk/internal/util/Preconditions" "SIOOBE_FORMATTER" "Ljava/util/function/BiFunction;")) ∈ flatC (Jvm.Cond.and given_1 narrow_1) := List.mem_of_getElem? (i := 29) rfl
theorem wn_33 : (Jvm.Cond.isRef (Jvm.Term.static "java/lang/Throwable" "UNASSIGNED_STACK" "[Ljava/lang/StackTraceElement;")) ∈ flatC (Jvm.Cond.and given_1 narrow_1) := List.mem_of_getElem? (i := 33) rfl
theorem wn_34 : (Jvm.Cond.isRef (Jvm.Term.static "java/lang/Throwable" "SUPPRESSED_SENTINEL" "Ljava/util/List;")) ∈ flatC (Jvm.Cond.and given_1 narrow_1) := List.mem_of_getElem? (i := 34) rfl
theorem wn_61 : (Jvm.Cond.not (Jvm.Cond.castable "java/lang/ArrayIndexOutOfBoundsException" "java/lang/NullPointerException")) ∈ flatC (Jvm.Cond.and given_1 narrow_1) := List.mem_of_getElem? (i := 61) rfl
theorem wn_62 : (Jvm.Cond.not (Jvm.Cond.castable "java/lang/ArrayStoreException" "java/lang/NullPointerException")) ∈ flatC (Jvm.Cond.and given_1 narrow_1) := List.mem_of_getElem? (i := 62) rfl
theorem wn_104 : (Jvm.Cond.not (Jvm.Cond.castable "java/lang/ArrayIndexOutOfBoundsException" "java/lang/ArrayStoreException")) ∈ flatC (Jvm.Cond.and given_1 narrow_1) := List.mem_of_getElem? (i := 104) rfl
theorem wn_136 : (Jvm.Cond.not (Jvm.Cond.castable "[I" "[B")) ∈ flatC (Jvm.Cond.and given_1 narrow_1) := List.mem_of_getElem? (i := 136) rfl
theorem wn_139 : (Jvm.Cond.not (Jvm.Cond.castable "[J" "[B")) ∈ flatC (Jvm.Cond.and given_1 narrow_1) := List.mem_of_getElem? (i := 139) rfl
theorem wn_141 : (Jvm.Cond.not (Jvm.Cond.castable "[S" "[B")) ∈ flatC (Jvm.Cond.and given_1 narrow_1) := List.mem_of_getElem? (i := 141) rfl
theorem wn_159 : (Jvm.Cond.not (Jvm.Cond.castable "[I" "[S")) ∈ flatC (Jvm.Cond.and given_1 narrow_1) := List.mem_of_getElem? (i := 159) rfl
theorem wn_163 : (Jvm.Cond.not (Jvm.Cond.castable "[J" "[S")) ∈ flatC (Jvm.Cond.and given_1 narrow_1) := List.mem_of_getElem? (i := 163) rfl
theorem wn_185 : (Jvm.Cond.not (Jvm.Cond.castable "[J" "[I")) ∈ flatC (Jvm.Cond.and given_1 narrow_1) := List.mem_of_getElem? (i := 185) rfl
theorem wn_212 : (Jvm.Cond.exactly (Jvm.Term.string "OnePassport$Reader" (158 : Nat)) "java/lang/String") ∈ flatC (Jvm.Cond.and given_1 narrow_1) := List.mem_of_getElem? (i := 212) rfl
theorem wn_213 : (Jvm.Cond.eq (Jvm.Term.field (Jvm.Term.string "OnePassport$Reader" (158 : Nat)) "java/lang/String" "coder" "B") (Jvm.Term.int (0 : Int32))) ∈ flatC (Jvm.Cond.and given_1 narrow_1) := List.mem_of_getElem? (i := 213) rfl
theorem wn_214 : (Jvm.Cond.arrayOf (Jvm.Term.field (Jvm.Term.string "OnePassport$Reader" (158 : Nat)) "java/lang/String" "value" "[B") Jvm.ClassFile.FieldType.byte) ∈ flatC (Jvm.Cond.and given_1 narrow_1) := List.mem_of_getElem? (i := 214) rfl
theorem wn_215 : (Jvm.Cond.eq (Jvm.Term.length (Jvm.Term.field (Jvm.Term.string "OnePassport$Reader" (158 : Nat)) "java/lang/String" "value" "[B")) (Jvm.Term.int (6 : Int32))) ∈ flatC (Jvm.Cond.and given_1 narrow_1) := List.mem_of_getElem? (i := 215) rfl
theorem wn_216 : (Jvm.Cond.eq (Jvm.Term.elem (Jvm.Term.field (Jvm.Term.string "OnePassport$Reader" (158 : Nat)) "java/lang/String" "value" "[B") (Jvm.Term.int (0 : Int32))) (Jvm.Term.int (102 : Int32))) ∈ flatC (Jvm.Cond.and given_1 narrow_1) := List.mem_of_getElem? (i := 216) rfl
theorem wn_217 : (Jvm.Cond.eq (Jvm.Term.elem (Jvm.Term.field (Jvm.Term.string "OnePassport$Reader" (158 : Nat)) "java/lang/String" "value" "[B") (Jvm.Term.int (1 : Int32))) (Jvm.Term.int (97 : Int32))) ∈ flatC (Jvm.Cond.and given_1 narrow_1) := List.mem_of_getElem? (i := 217) rfl
theorem wn_218 : (Jvm.Cond.eq (Jvm.Term.elem (Jvm.Term.field (Jvm.Term.string "OnePassport$Reader" (158 : Nat)) "java/lang/String" "value" "[B") (Jvm.Term.int (2 : Int32))) (Jvm.Term.int (109 : Int32))) ∈ flatC (Jvm.Cond.and given_1 narrow_1) := List.mem_of_getElem? (i := 218) rfl
theorem wn_219 : (Jvm.Cond.eq (Jvm.Term.elem (Jvm.Term.field (Jvm.Term.string "OnePassport$Reader" (158 : Nat)) "java/lang/String" "value" "[B") (Jvm.Term.int (3 : Int32))) (Jvm.Term.int (105 : Int32))) ∈ flatC (Jvm.Cond.and given_1 narrow_1) := List.mem_of_getElem? (i := 219) rfl
theorem wn_220 : (Jvm.Cond.eq (Jvm.Term.elem (Jvm.Term.field (Jvm.Term.string "OnePassport$Reader" (158 : Nat)) "java/lang/String" "value" "[B") (Jvm.Term.int (4 : Int32))) (Jvm.Term.int (108 : Int32))) ∈ flatC (Jvm.Cond.and given_1 narrow_1) := List.mem_of_getElem? (i := 220) rfl
theorem wn_221 : (Jvm.Cond.eq (Jvm.Term.elem (Jvm.Term.field (Jvm.Term.string "OnePassport$Reader" (158 : Nat)) "java/lang/String" "value" "[B") (Jvm.Term.int (5 : Int32))) (Jvm.Term.int (121 : Int32))) ∈ flatC (Jvm.Cond.and given_1 narrow_1) := List.mem_of_getElem? (i := 221) rfl
theorem wn_222 : (Jvm.Cond.exactly (Jvm.Term.string "OnePassport$Reader" (159 : Nat)) "java/lang/String") ∈ flatC (Jvm.Cond.and given_1 narrow_1) := List.mem_of_getElem? (i := 222) rfl
theorem wn_223 : (Jvm.Cond.eq (Jvm.Term.field (Jvm.Term.string "OnePassport$Reader" (159 : Nat)) "java/lang/String" "coder" "B") (Jvm.Term.int (0 : Int32))) ∈ flatC (Jvm.Cond.and given_1 narrow_1) := List.mem_of_getElem? (i := 223) rfl
theorem wn_224 : (Jvm.Cond.arrayOf (Jvm.Term.field (Jvm.Term.string "OnePassport$Reader" (159 : Nat)) "java/lang/String" "value" "[B") Jvm.ClassFile.FieldType.byte) ∈ flatC (Jvm.Cond.and given_1 narrow_1) := List.mem_of_getElem? (i := 224) rfl
theorem wn_225 : (Jvm.Cond.eq (Jvm.Term.length (Jvm.Term.field (Jvm.Term.string "OnePassport$Reader" (159 : Nat)) "java/lang/String" "value" "[B")) (Jvm.Term.int (4 : Int32))) ∈ flatC (Jvm.Cond.and given_1 narrow_1) := List.mem_of_getElem? (i := 225) rfl
theorem wn_226 : (Jvm.Cond.eq (Jvm.Term.elem (Jvm.Term.field (Jvm.Term.string "OnePassport$Reader" (159 : Nat)) "java/lang/String" "value" "[B") (Jvm.Term.int (0 : Int32))) (Jvm.Term.int (108 : Int32))) ∈ flatC (Jvm.Cond.and given_1 narrow_1) := List.mem_of_getElem? (i := 226) rfl
theorem wn_227 : (Jvm.Cond.eq (Jvm.Term.elem (Jvm.Term.field (Jvm.Term.string "OnePassport$Reader" (159 : Nat)) "java/lang/String" "value" "[B") (Jvm.Term.int (1 : Int32))) (Jvm.Term.int (111 : Int32))) ∈ flatC (Jvm.Cond.and given_1 narrow_1) := List.mem_of_getElem? (i := 227) rfl
theorem wn_228 : (Jvm.Cond.eq (Jvm.Term.elem (Jvm.Term.field (Jvm.Term.string "OnePassport$Reader" (159 : Nat)) "java/lang/String" "value" "[B") (Jvm.Term.int (2 : Int32))) (Jvm.Term.int (97 : Int32))) ∈ flatC (Jvm.Cond.and given_1 narrow_1) := List.mem_of_getElem? (i := 228) rfl
theorem wn_229 : (Jvm.Cond.eq (Jvm.Term.elem (Jvm.Term.field (Jvm.Term.string "OnePassport$Reader" (159 : Nat)) "java/lang/String" "value" "[B") (Jvm.Term.int (3 : Int32))) (Jvm.Term.int (102 : Int32))) ∈ flatC (Jvm.Cond.and given_1 narrow_1) := List.mem_of_getElem? (i := 229) rfl
theorem wn_230 : (Jvm.Cond.not (Jvm.Cond.eq (Jvm.Term.string "OnePassport$Reader" (158 : Nat)) (Jvm.Term.string "OnePassport$Reader" (159 : Nat)))) ∈ flatC (Jvm.Cond.and given_1 narrow_1) := List.mem_of_getElem? (i := 230) rfl
theorem wn_231 : (Jvm.Cond.exactly (Jvm.Term.string "OnePassport$Reader" (163 : Nat)) "java/lang/String") ∈ flatC (Jvm.Cond.and given_1 narrow_1) := List.mem_of_getElem? (i := 231) rfl
theorem wn_232 : (Jvm.Cond.eq (Jvm.Term.field (Jvm.Term.string "OnePassport$Reader" (163 : Nat)) "java/lang/String" "coder" "B") (Jvm.Term.int (0 : Int32))) ∈ flatC (Jvm.Cond.and given_1 narrow_1) := List.mem_of_getElem? (i := 232) rfl
theorem wn_233 : (Jvm.Cond.arrayOf (Jvm.Term.field (Jvm.Term.string "OnePassport$Reader" (163 : Nat)) "java/lang/String" "value" "[B") Jvm.ClassFile.FieldType.byte) ∈ flatC (Jvm.Cond.and given_1 narrow_1) := List.mem_of_getElem? (i := 233) rfl
theorem wn_234 : (Jvm.Cond.eq (Jvm.Term.length (Jvm.Term.field (Jvm.Term.string "OnePassport$Reader" (163 : Nat)) "java/lang/String" "value" "[B")) (Jvm.Term.int (7 : Int32))) ∈ flatC (Jvm.Cond.and given_1 narrow_1) := List.mem_of_getElem? (i := 234) rfl
theorem wn_235 : (Jvm.Cond.eq (Jvm.Term.elem (Jvm.Term.field (Jvm.Term.string "OnePassport$Reader" (163 : Nat)) "java/lang/String" "value" "[B") (Jvm.Term.int (0 : Int32))) (Jvm.Term.int (99 : Int32))) ∈ flatC (Jvm.Cond.and given_1 narrow_1) := List.mem_of_getElem? (i := 235) rfl
theorem wn_236 : (Jvm.Cond.eq (Jvm.Term.elem (Jvm.Term.field (Jvm.Term.string "OnePassport$Reader" (163 : Nat)) "java/lang/String" "value" "[B") (Jvm.Term.int (1 : Int32))) (Jvm.Term.int (111 : Int32))) ∈ flatC (Jvm.Cond.and given_1 narrow_1) := List.mem_of_getElem? (i := 236) rfl
theorem wn_237 : (Jvm.Cond.eq (Jvm.Term.elem (Jvm.Term.field (Jvm.Term.string "OnePassport$Reader" (163 : Nat)) "java/lang/String" "value" "[B") (Jvm.Term.int (2 : Int32))) (Jvm.Term.int (109 : Int32))) ∈ flatC (Jvm.Cond.and given_1 narrow_1) := List.mem_of_getElem? (i := 237) rfl
theorem wn_238 : (Jvm.Cond.eq (Jvm.Term.elem (Jvm.Term.field (Jvm.Term.string "OnePassport$Reader" (163 : Nat)) "java/lang/String" "value" "[B") (Jvm.Term.int (3 : Int32))) (Jvm.Term.int (112 : Int32))) ∈ flatC (Jvm.Cond.and given_1 narrow_1) := List.mem_of_getElem? (i := 238) rfl
theorem wn_239 : (Jvm.Cond.eq (Jvm.Term.elem (Jvm.Term.field (Jvm.Term.string "OnePassport$Reader" (163 : Nat)) "java/lang/String" "value" "[B") (Jvm.Term.int (4 : Int32))) (Jvm.Term.int (97 : Int32))) ∈ flatC (Jvm.Cond.and given_1 narrow_1) := List.mem_of_getElem? (i := 239) rfl
theorem wn_240 : (Jvm.Cond.eq (Jvm.Term.elem (Jvm.Term.field (Jvm.Term.string "OnePassport$Reader" (163 : Nat)) "java/lang/String" "value" "[B") (Jvm.Term.int (5 : Int32))) (Jvm.Term.int (114 : Int32))) ∈ flatC (Jvm.Cond.and given_1 narrow_1) := List.mem_of_getElem? (i := 240) rfl
theorem wn_241 : (Jvm.Cond.eq (Jvm.Term.elem (Jvm.Term.field (Jvm.Term.string "OnePassport$Reader" (163 : Nat)) "java/lang/String" "value" "[B") (Jvm.Term.int (6 : Int32))) (Jvm.Term.int (101 : Int32))) ∈ flatC (Jvm.Cond.and given_1 narrow_1) := List.mem_of_getElem? (i := 241) rfl
theorem wn_242 : (Jvm.Cond.not (Jvm.Cond.eq (Jvm.Term.string "OnePassport$Reader" (158 : Nat)) (Jvm.Term.string "OnePassport$Reader" (163 : Nat)))) ∈ flatC (Jvm.Cond.and given_1 narrow_1) := List.mem_of_getElem? (i := 242) rfl
theorem wn_243 : (Jvm.Cond.not (Jvm.Cond.eq (Jvm.Term.string "OnePassport$Reader" (159 : Nat)) (Jvm.Term.string "OnePassport$Reader" (163 : Nat)))) ∈ flatC (Jvm.Cond.and given_1 narrow_1) := List.mem_of_getElem? (i := 243) rfl
theorem wn_244 : (Jvm.Cond.exactly (Jvm.Term.string "OnePassport$Reader" (169 : Nat)) "java/lang/String") ∈ flatC (Jvm.Cond.and given_1 narrow_1) := List.mem_of_getElem? (i := 244) rfl
theorem wn_245 : (Jvm.Cond.eq (Jvm.Term.field (Jvm.Term.string "OnePassport$Reader" (169 : Nat)) "java/lang/String" "coder" "B") (Jvm.Term.int (0 : Int32))) ∈ flatC (Jvm.Cond.and given_1 narrow_1) := List.mem_of_getElem? (i := 245) rfl
theorem wn_246 : (Jvm.Cond.arrayOf (Jvm.Term.field (Jvm.Term.string "OnePassport$Reader" (169 : Nat)) "java/lang/String" "value" "[B") Jvm.ClassFile.FieldType.byte) ∈ flatC (Jvm.Cond.and given_1 narrow_1) := List.mem_of_getElem? (i := 246) rfl
theorem wn_247 : (Jvm.Cond.eq (Jvm.Term.length (Jvm.Term.field (Jvm.Term.string "OnePassport$Reader" (169 : Nat)) "java/lang/String" "value" "[B")) (Jvm.Term.int (6 : Int32))) ∈ flatC (Jvm.Cond.and given_1 narrow_1) := List.mem_of_getElem? (i := 247) rfl
theorem wn_248 : (Jvm.Cond.eq (Jvm.Term.elem (Jvm.Term.field (Jvm.Term.string "OnePassport$Reader" (169 : Nat)) "java/lang/String" "value" "[B") (Jvm.Term.int (0 : Int32))) (Jvm.Term.int (112 : Int32))) ∈ flatC (Jvm.Cond.and given_1 narrow_1) := List.mem_of_getElem? (i := 248) rfl
theorem wn_249 : (Jvm.Cond.eq (Jvm.Term.elem (Jvm.Term.field (Jvm.Term.string "OnePassport$Reader" (169 : Nat)) "java/lang/String" "value" "[B") (Jvm.Term.int (1 : Int32))) (Jvm.Term.int (101 : Int32))) ∈ flatC (Jvm.Cond.and given_1 narrow_1) := List.mem_of_getElem? (i := 249) rfl
theorem wn_250 : (Jvm.Cond.eq (Jvm.Term.elem (Jvm.Term.field (Jvm.Term.string "OnePassport$Reader" (169 : Nat)) "java/lang/String" "value" "[B") (Jvm.Term.int (2 : Int32))) (Jvm.Term.int (114 : Int32))) ∈ flatC (Jvm.Cond.and given_1 narrow_1) := List.mem_of_getElem? (i := 250) rfl
theorem wn_251 : (Jvm.Cond.eq (Jvm.Term.elem (Jvm.Term.field (Jvm.Term.string "OnePassport$Reader" (169 : Nat)) "java/lang/String" "value" "[B") (Jvm.Term.int (3 : Int32))) (Jvm.Term.int (115 : Int32))) ∈ flatC (Jvm.Cond.and given_1 narrow_1) := List.mem_of_getElem? (i := 251) rfl
theorem wn_252 : (Jvm.Cond.eq (Jvm.Term.elem (Jvm.Term.field (Jvm.Term.string "OnePassport$Reader" (169 : Nat)) "java/lang/String" "value" "[B") (Jvm.Term.int (4 : Int32))) (Jvm.Term.int (111 : Int32))) ∈ flatC (Jvm.Cond.and given_1 narrow_1) := List.mem_of_getElem? (i := 252) rfl
theorem wn_253 : (Jvm.Cond.eq (Jvm.Term.elem (Jvm.Term.field (Jvm.Term.string "OnePassport$Reader" (169 : Nat)) "java/lang/String" "value" "[B") (Jvm.Term.int (5 : Int32))) (Jvm.Term.int (110 : Int32))) ∈ flatC (Jvm.Cond.and given_1 narrow_1) := List.mem_of_getElem? (i := 253) rfl
theorem wn_254 : (Jvm.Cond.not (Jvm.Cond.eq (Jvm.Term.string "OnePassport$Reader" (158 : Nat)) (Jvm.Term.string "OnePassport$Reader" (169 : Nat)))) ∈ flatC (Jvm.Cond.and given_1 narrow_1) := List.mem_of_getElem? (i := 254) rfl
theorem wn_255 : (Jvm.Cond.not (Jvm.Cond.eq (Jvm.Term.string "OnePassport$Reader" (159 : Nat)) (Jvm.Term.string "OnePassport$Reader" (169 : Nat)))) ∈ flatC (Jvm.Cond.and given_1 narrow_1) := List.mem_of_getElem? (i := 255) rfl
theorem wn_256 : (Jvm.Cond.not (Jvm.Cond.eq (Jvm.Term.string "OnePassport$Reader" (163 : Nat)) (Jvm.Term.string "OnePassport$Reader" (169 : Nat)))) ∈ flatC (Jvm.Cond.and given_1 narrow_1) := List.mem_of_getElem? (i := 256) rfl
theorem wn_257 : (Jvm.Cond.exactly (Jvm.Term.string "OnePassport$Reader" (118 : Nat)) "java/lang/String") ∈ flatC (Jvm.Cond.and given_1 narrow_1) := List.mem_of_getElem? (i := 257) rfl
theorem wn_258 : (Jvm.Cond.eq (Jvm.Term.field (Jvm.Term.string "OnePassport$Reader" (118 : Nat)) "java/lang/String" "coder" "B") (Jvm.Term.int (0 : Int32))) ∈ flatC (Jvm.Cond.and given_1 narrow_1) := List.mem_of_getElem? (i := 258) rfl
theorem wn_259 : (Jvm.Cond.arrayOf (Jvm.Term.field (Jvm.Term.string "OnePassport$Reader" (118 : Nat)) "java/lang/String" "value" "[B") Jvm.ClassFile.FieldType.byte) ∈ flatC (Jvm.Cond.and given_1 narrow_1) := List.mem_of_getElem? (i := 259) rfl
theorem wn_260 : (Jvm.Cond.eq (Jvm.Term.length (Jvm.Term.field (Jvm.Term.string "OnePassport$Reader" (118 : Nat)) "java/lang/String" "value" "[B")) (Jvm.Term.int (4 : Int32))) ∈ flatC (Jvm.Cond.and given_1 narrow_1) := List.mem_of_getElem? (i := 260) rfl
theorem wn_261 : (Jvm.Cond.eq (Jvm.Term.elem (Jvm.Term.field (Jvm.Term.string "OnePassport$Reader" (118 : Nat)) "java/lang/String" "value" "[B") (Jvm.Term.int (0 : Int32))) (Jvm.Term.int (108 : Int32))) ∈ flatC (Jvm.Cond.and given_1 narrow_1) := List.mem_of_getElem? (i := 261) rfl
theorem wn_262 : (Jvm.Cond.eq (Jvm.Term.elem (Jvm.Term.field (Jvm.Term.string "OnePassport$Reader" (118 : Nat)) "java/lang/String" "value" "[B") (Jvm.Term.int (1 : Int32))) (Jvm.Term.int (105 : Int32))) ∈ flatC (Jvm.Cond.and given_1 narrow_1) := List.mem_of_getElem? (i := 262) rfl
theorem wn_263 : (Jvm.Cond.eq (Jvm.Term.elem (Jvm.Term.field (Jvm.Term.string "OnePassport$Reader" (118 : Nat)) "java/lang/String" "value" "[B") (Jvm.Term.int (2 : Int32))) (Jvm.Term.int (107 : Int32))) ∈ flatC (Jvm.Cond.and given_1 narrow_1) := List.mem_of_getElem? (i := 263) rfl
theorem wn_264 : (Jvm.Cond.eq (Jvm.Term.elem (Jvm.Term.field (Jvm.Term.string "OnePassport$Reader" (118 : Nat)) "java/lang/String" "value" "[B") (Jvm.Term.int (3 : Int32))) (Jvm.Term.int (101 : Int32))) ∈ flatC (Jvm.Cond.and given_1 narrow_1) := List.mem_of_getElem? (i := 264) rfl
theorem wn_265 : (Jvm.Cond.not (Jvm.Cond.eq (Jvm.Term.string "OnePassport$Reader" (158 : Nat)) (Jvm.Term.string "OnePassport$Reader" (118 : Nat)))) ∈ flatC (Jvm.Cond.and given_1 narrow_1) := List.mem_of_getElem? (i := 265) rfl
theorem wn_266 : (Jvm.Cond.not (Jvm.Cond.eq (Jvm.Term.string "OnePassport$Reader" (159 : Nat)) (Jvm.Term.string "OnePassport$Reader" (118 : Nat)))) ∈ flatC (Jvm.Cond.and given_1 narrow_1) := List.mem_of_getElem? (i := 266) rfl
theorem wn_267 : (Jvm.Cond.not (Jvm.Cond.eq (Jvm.Term.string "OnePassport$Reader" (163 : Nat)) (Jvm.Term.string "OnePassport$Reader" (118 : Nat)))) ∈ flatC (Jvm.Cond.and given_1 narrow_1) := List.mem_of_getElem? (i := 267) rfl
theorem wn_268 : (Jvm.Cond.not (Jvm.Cond.eq (Jvm.Term.string "OnePassport$Reader" (169 : Nat)) (Jvm.Term.string "OnePassport$Reader" (118 : Nat)))) ∈ flatC (Jvm.Cond.and given_1 narrow_1) := List.mem_of_getElem? (i := 268) rfl
theorem wn_269 : (Jvm.Cond.exactly (Jvm.Term.string "OnePassport$Reader" (126 : Nat)) "java/lang/String") ∈ flatC (Jvm.Cond.and given_1 narrow_1) := List.mem_of_getElem? (i := 269) rfl
theorem wn_270 : (Jvm.Cond.eq (Jvm.Term.field (Jvm.Term.string "OnePassport$Reader" (126 : Nat)) "java/lang/String" "coder" "B") (Jvm.Term.int (0 : Int32))) ∈ flatC (Jvm.Cond.and given_1 narrow_1) := List.mem_of_getElem? (i := 270) rfl
theorem wn_271 : (Jvm.Cond.arrayOf (Jvm.Term.field (Jvm.Term.string "OnePassport$Reader" (126 : Nat)) "java/lang/String" "value" "[B") Jvm.ClassFile.FieldType.byte) ∈ flatC (Jvm.Cond.and given_1 narrow_1) := List.mem_of_getElem? (i := 271) rfl
theorem wn_272 : (Jvm.Cond.eq (Jvm.Term.length (Jvm.Term.field (Jvm.Term.string "OnePassport$Reader" (126 : Nat)) "java/lang/String" "value" "[B")) (Jvm.Term.int (4 : Int32))) ∈ flatC (Jvm.Cond.and given_1 narrow_1) := List.mem_of_getElem? (i := 272) rfl
theorem wn_273 : (Jvm.Cond.eq (Jvm.Term.elem (Jvm.Term.field (Jvm.Term.string "OnePassport$Reader" (126 : Nat)) "java/lang/String" "value" "[B") (Jvm.Term.int (0 : Int32))) (Jvm.Term.int (110 : Int32))) ∈ flatC (Jvm.Cond.and given_1 narrow_1) := List.mem_of_getElem? (i := 273) rfl
theorem wn_274 : (Jvm.Cond.eq (Jvm.Term.elem (Jvm.Term.field (Jvm.Term.string "OnePassport$Reader" (126 : Nat)) "java/lang/String" "value" "[B") (Jvm.Term.int (1 : Int32))) (Jvm.Term.int (111 : Int32))) ∈ flatC (Jvm.Cond.and given_1 narrow_1) := List.mem_of_getElem? (i := 274) rfl
theorem wn_275 : (Jvm.Cond.eq (Jvm.Term.elem (Jvm.Term.field (Jvm.Term.string "OnePassport$Reader" (126 : Nat)) "java/lang/String" "value" "[B") (Jvm.Term.int (2 : Int32))) (Jvm.Term.int (115 : Int32))) ∈ flatC (Jvm.Cond.and given_1 narrow_1) := List.mem_of_getElem? (i := 275) rfl
theorem wn_276 : (Jvm.Cond.eq (Jvm.Term.elem (Jvm.Term.field (Jvm.Term.string "OnePassport$Reader" (126 : Nat)) "java/lang/String" "value" "[B") (Jvm.Term.int (3 : Int32))) (Jvm.Term.int (101 : Int32))) ∈ flatC (Jvm.Cond.and given_1 narrow_1) := List.mem_of_getElem? (i := 276) rfl
theorem wn_277 : (Jvm.Cond.not (Jvm.Cond.eq (Jvm.Term.string "OnePassport$Reader" (158 : Nat)) (Jvm.Term.string "OnePassport$Reader" (126 : Nat)))) ∈ flatC (Jvm.Cond.and given_1 narrow_1) := List.mem_of_getElem? (i := 277) rfl
theorem wn_278 : (Jvm.Cond.not (Jvm.Cond.eq (Jvm.Term.string "OnePassport$Reader" (159 : Nat)) (Jvm.Term.string "OnePassport$Reader" (126 : Nat)))) ∈ flatC (Jvm.Cond.and given_1 narrow_1) := List.mem_of_getElem? (i := 278) rfl
theorem wn_279 : (Jvm.Cond.not (Jvm.Cond.eq (Jvm.Term.string "OnePassport$Reader" (163 : Nat)) (Jvm.Term.string "OnePassport$Reader" (126 : Nat)))) ∈ flatC (Jvm.Cond.and given_1 narrow_1) := List.mem_of_getElem? (i := 279) rfl
theorem wn_280 : (Jvm.Cond.not (Jvm.Cond.eq (Jvm.Term.string "OnePassport$Reader" (169 : Nat)) (Jvm.Term.string "OnePassport$Reader" (126 : Nat)))) ∈ flatC (Jvm.Cond.and given_1 narrow_1) := List.mem_of_getElem? (i := 280) rfl
theorem wn_281 : (Jvm.Cond.not (Jvm.Cond.eq (Jvm.Term.string "OnePassport$Reader" (118 : Nat)) (Jvm.Term.string "OnePassport$Reader" (126 : Nat)))) ∈ flatC (Jvm.Cond.and given_1 narrow_1) := List.mem_of_getElem? (i := 281) rfl
theorem wn_282 : (Jvm.Cond.exactly (Jvm.Term.string "OnePassport$Reader" (133 : Nat)) "java/lang/String") ∈ flatC (Jvm.Cond.and given_1 narrow_1) := List.mem_of_getElem? (i := 282) rfl
theorem wn_283 : (Jvm.Cond.eq (Jvm.Term.field (Jvm.Term.string "OnePassport$Reader" (133 : Nat)) "java/lang/String" "coder" "B") (Jvm.Term.int (0 : Int32))) ∈ flatC (Jvm.Cond.and given_1 narrow_1) := List.mem_of_getElem? (i := 283) rfl
theorem wn_284 : (Jvm.Cond.arrayOf (Jvm.Term.field (Jvm.Term.string "OnePassport$Reader" (133 : Nat)) "java/lang/String" "value" "[B") Jvm.ClassFile.FieldType.byte) ∈ flatC (Jvm.Cond.and given_1 narrow_1) := List.mem_of_getElem? (i := 284) rfl
theorem wn_285 : (Jvm.Cond.eq (Jvm.Term.length (Jvm.Term.field (Jvm.Term.string "OnePassport$Reader" (133 : Nat)) "java/lang/String" "value" "[B")) (Jvm.Term.int (5 : Int32))) ∈ flatC (Jvm.Cond.and given_1 narrow_1) := List.mem_of_getElem? (i := 285) rfl
theorem wn_286 : (Jvm.Cond.eq (Jvm.Term.elem (Jvm.Term.field (Jvm.Term.string "OnePassport$Reader" (133 : Nat)) "java/lang/String" "value" "[B") (Jvm.Term.int (0 : Int32))) (Jvm.Term.int (99 : Int32))) ∈ flatC (Jvm.Cond.and given_1 narrow_1) := List.mem_of_getElem? (i := 286) rfl
theorem wn_287 : (Jvm.Cond.eq (Jvm.Term.elem (Jvm.Term.field (Jvm.Term.string "OnePassport$Reader" (133 : Nat)) "java/lang/String" "value" "[B") (Jvm.Term.int (1 : Int32))) (Jvm.Term.int (104 : Int32))) ∈ flatC (Jvm.Cond.and given_1 narrow_1) := List.mem_of_getElem? (i := 287) rfl
theorem wn_288 : (Jvm.Cond.eq (Jvm.Term.elem (Jvm.Term.field (Jvm.Term.string "OnePassport$Reader" (133 : Nat)) "java/lang/String" "value" "[B") (Jvm.Term.int (2 : Int32))) (Jvm.Term.int (105 : Int32))) ∈ flatC (Jvm.Cond.and given_1 narrow_1) := List.mem_of_getElem? (i := 288) rfl
theorem wn_289 : (Jvm.Cond.eq (Jvm.Term.elem (Jvm.Term.field (Jvm.Term.string "OnePassport$Reader" (133 : Nat)) "java/lang/String" "value" "[B") (Jvm.Term.int (3 : Int32))) (Jvm.Term.int (108 : Int32))) ∈ flatC (Jvm.Cond.and given_1 narrow_1) := List.mem_of_getElem? (i := 289) rfl
theorem wn_290 : (Jvm.Cond.eq (Jvm.Term.elem (Jvm.Term.field (Jvm.Term.string "OnePassport$Reader" (133 : Nat)) "java/lang/String" "value" "[B") (Jvm.Term.int (4 : Int32))) (Jvm.Term.int (100 : Int32))) ∈ flatC (Jvm.Cond.and given_1 narrow_1) := List.mem_of_getElem? (i := 290) rfl
theorem wn_291 : (Jvm.Cond.not (Jvm.Cond.eq (Jvm.Term.string "OnePassport$Reader" (158 : Nat)) (Jvm.Term.string "OnePassport$Reader" (133 : Nat)))) ∈ flatC (Jvm.Cond.and given_1 narrow_1) := List.mem_of_getElem? (i := 291) rfl
theorem wn_292 : (Jvm.Cond.not (Jvm.Cond.eq (Jvm.Term.string "OnePassport$Reader" (159 : Nat)) (Jvm.Term.string "OnePassport$Reader" (133 : Nat)))) ∈ flatC (Jvm.Cond.and given_1 narrow_1) := List.mem_of_getElem? (i := 292) rfl
theorem wn_293 : (Jvm.Cond.not (Jvm.Cond.eq (Jvm.Term.string "OnePassport$Reader" (163 : Nat)) (Jvm.Term.string "OnePassport$Reader" (133 : Nat)))) ∈ flatC (Jvm.Cond.and given_1 narrow_1) := List.mem_of_getElem? (i := 293) rfl
theorem wn_294 : (Jvm.Cond.not (Jvm.Cond.eq (Jvm.Term.string "OnePassport$Reader" (169 : Nat)) (Jvm.Term.string "OnePassport$Reader" (133 : Nat)))) ∈ flatC (Jvm.Cond.and given_1 narrow_1) := List.mem_of_getElem? (i := 294) rfl
theorem wn_295 : (Jvm.Cond.not (Jvm.Cond.eq (Jvm.Term.string "OnePassport$Reader" (118 : Nat)) (Jvm.Term.string "OnePassport$Reader" (133 : Nat)))) ∈ flatC (Jvm.Cond.and given_1 narrow_1) := List.mem_of_getElem? (i := 295) rfl
theorem wn_296 : (Jvm.Cond.not (Jvm.Cond.eq (Jvm.Term.string "OnePassport$Reader" (126 : Nat)) (Jvm.Term.string "OnePassport$Reader" (133 : Nat)))) ∈ flatC (Jvm.Cond.and given_1 narrow_1) := List.mem_of_getElem? (i := 296) rfl
theorem wn_297 : (Jvm.Cond.exactly (Jvm.Term.string "OnePassport$Reader" (138 : Nat)) "java/lang/String") ∈ flatC (Jvm.Cond.and given_1 narrow_1) := List.mem_of_getElem? (i := 297) rfl
theorem wn_298 : (Jvm.Cond.eq (Jvm.Term.field (Jvm.Term.string "OnePassport$Reader" (138 : Nat)) "java/lang/String" "coder" "B") (Jvm.Term.int (0 : Int32))) ∈ flatC (Jvm.Cond.and given_1 narrow_1) := List.mem_of_getElem? (i := 298) rfl
theorem wn_299 : (Jvm.Cond.arrayOf (Jvm.Term.field (Jvm.Term.string "OnePassport$Reader" (138 : Nat)) "java/lang/String" "value" "[B") Jvm.ClassFile.FieldType.byte) ∈ flatC (Jvm.Cond.and given_1 narrow_1) := List.mem_of_getElem? (i := 299) rfl
theorem wn_300 : (Jvm.Cond.eq (Jvm.Term.length (Jvm.Term.field (Jvm.Term.string "OnePassport$Reader" (138 : Nat)) "java/lang/String" "value" "[B")) (Jvm.Term.int (5 : Int32))) ∈ flatC (Jvm.Cond.and given_1 narrow_1) := List.mem_of_getElem? (i := 300) rfl
theorem wn_301 : (Jvm.Cond.eq (Jvm.Term.elem (Jvm.Term.field (Jvm.Term.string "OnePassport$Reader" (138 : Nat)) "java/lang/String" "value" "[B") (Jvm.Term.int (0 : Int32))) (Jvm.Term.int (115 : Int32))) ∈ flatC (Jvm.Cond.and given_1 narrow_1) := List.mem_of_getElem? (i := 301) rfl
theorem wn_302 : (Jvm.Cond.eq (Jvm.Term.elem (Jvm.Term.field (Jvm.Term.string "OnePassport$Reader" (138 : Nat)) "java/lang/String" "value" "[B") (Jvm.Term.int (1 : Int32))) (Jvm.Term.int (116 : Int32))) ∈ flatC (Jvm.Cond.and given_1 narrow_1) := List.mem_of_getElem? (i := 302) rfl
theorem wn_303 : (Jvm.Cond.eq (Jvm.Term.elem (Jvm.Term.field (Jvm.Term.string "OnePassport$Reader" (138 : Nat)) "java/lang/String" "value" "[B") (Jvm.Term.int (2 : Int32))) (Jvm.Term.int (97 : Int32))) ∈ flatC (Jvm.Cond.and given_1 narrow_1) := List.mem_of_getElem? (i := 303) rfl
theorem wn_304 : (Jvm.Cond.eq (Jvm.Term.elem (Jvm.Term.field (Jvm.Term.string "OnePassport$Reader" (138 : Nat)) "java/lang/String" "value" "[B") (Jvm.Term.int (3 : Int32))) (Jvm.Term.int (121 : Int32))) ∈ flatC (Jvm.Cond.and given_1 narrow_1) := List.mem_of_getElem? (i := 304) rfl
theorem wn_305 : (Jvm.Cond.eq (Jvm.Term.elem (Jvm.Term.field (Jvm.Term.string "OnePassport$Reader" (138 : Nat)) "java/lang/String" "value" "[B") (Jvm.Term.int (4 : Int32))) (Jvm.Term.int (115 : Int32))) ∈ flatC (Jvm.Cond.and given_1 narrow_1) := List.mem_of_getElem? (i := 305) rfl
theorem wn_306 : (Jvm.Cond.not (Jvm.Cond.eq (Jvm.Term.string "OnePassport$Reader" (158 : Nat)) (Jvm.Term.string "OnePassport$Reader" (138 : Nat)))) ∈ flatC (Jvm.Cond.and given_1 narrow_1) := List.mem_of_getElem? (i := 306) rfl
theorem wn_307 : (Jvm.Cond.not (Jvm.Cond.eq (Jvm.Term.string "OnePassport$Reader" (159 : Nat)) (Jvm.Term.string "OnePassport$Reader" (138 : Nat)))) ∈ flatC (Jvm.Cond.and given_1 narrow_1) := List.mem_of_getElem? (i := 307) rfl
theorem wn_308 : (Jvm.Cond.not (Jvm.Cond.eq (Jvm.Term.string "OnePassport$Reader" (163 : Nat)) (Jvm.Term.string "OnePassport$Reader" (138 : Nat)))) ∈ flatC (Jvm.Cond.and given_1 narrow_1) := List.mem_of_getElem? (i := 308) rfl
theorem wn_309 : (Jvm.Cond.not (Jvm.Cond.eq (Jvm.Term.string "OnePassport$Reader" (169 : Nat)) (Jvm.Term.string "OnePassport$Reader" (138 : Nat)))) ∈ flatC (Jvm.Cond.and given_1 narrow_1) := List.mem_of_getElem? (i := 309) rfl
theorem wn_310 : (Jvm.Cond.not (Jvm.Cond.eq (Jvm.Term.string "OnePassport$Reader" (118 : Nat)) (Jvm.Term.string "OnePassport$Reader" (138 : Nat)))) ∈ flatC (Jvm.Cond.and given_1 narrow_1) := List.mem_of_getElem? (i := 310) rfl
theorem wn_311 : (Jvm.Cond.not (Jvm.Cond.eq (Jvm.Term.string "OnePassport$Reader" (126 : Nat)) (Jvm.Term.string "OnePassport$Reader" (138 : Nat)))) ∈ flatC (Jvm.Cond.and given_1 narrow_1) := List.mem_of_getElem? (i := 311) rfl
theorem wn_312 : (Jvm.Cond.not (Jvm.Cond.eq (Jvm.Term.string "OnePassport$Reader" (133 : Nat)) (Jvm.Term.string "OnePassport$Reader" (138 : Nat)))) ∈ flatC (Jvm.Cond.and given_1 narrow_1) := List.mem_of_getElem? (i := 312) rfl
theorem wn_313 : (Jvm.Cond.exactly (Jvm.Term.string "OnePassport$Reader" (177 : Nat)) "java/lang/String") ∈ flatC (Jvm.Cond.and given_1 narrow_1) := List.mem_of_getElem? (i := 313) rfl
theorem wn_314 : (Jvm.Cond.eq (Jvm.Term.field (Jvm.Term.string "OnePassport$Reader" (177 : Nat)) "java/lang/String" "coder" "B") (Jvm.Term.int (0 : Int32))) ∈ flatC (Jvm.Cond.and given_1 narrow_1) := List.mem_of_getElem? (i := 314) rfl
theorem wn_315 : (Jvm.Cond.arrayOf (Jvm.Term.field (Jvm.Term.string "OnePassport$Reader" (177 : Nat)) "java/lang/String" "value" "[B") Jvm.ClassFile.FieldType.byte) ∈ flatC (Jvm.Cond.and given_1 narrow_1) := List.mem_of_getElem? (i := 315) rfl
theorem wn_316 : (Jvm.Cond.eq (Jvm.Term.length (Jvm.Term.field (Jvm.Term.string "OnePassport$Reader" (177 : Nat)) "java/lang/String" "value" "[B")) (Jvm.Term.int (4 : Int32))) ∈ flatC (Jvm.Cond.and given_1 narrow_1) := List.mem_of_getElem? (i := 316) rfl
theorem wn_317 : (Jvm.Cond.eq (Jvm.Term.elem (Jvm.Term.field (Jvm.Term.string "OnePassport$Reader" (177 : Nat)) "java/lang/String" "value" "[B") (Jvm.Term.int (0 : Int32))) (Jvm.Term.int (112 : Int32))) ∈ flatC (Jvm.Cond.and given_1 narrow_1) := List.mem_of_getElem? (i := 317) rfl
theorem wn_318 : (Jvm.Cond.eq (Jvm.Term.elem (Jvm.Term.field (Jvm.Term.string "OnePassport$Reader" (177 : Nat)) "java/lang/String" "value" "[B") (Jvm.Term.int (1 : Int32))) (Jvm.Term.int (111 : Int32))) ∈ flatC (Jvm.Cond.and given_1 narrow_1) := List.mem_of_getElem? (i := 318) rfl
theorem wn_319 : (Jvm.Cond.eq (Jvm.Term.elem (Jvm.Term.field (Jvm.Term.string "OnePassport$Reader" (177 : Nat)) "java/lang/String" "value" "[B") (Jvm.Term.int (2 : Int32))) (Jvm.Term.int (115 : Int32))) ∈ flatC (Jvm.Cond.and given_1 narrow_1) := List.mem_of_getElem? (i := 319) rfl
theorem wn_320 : (Jvm.Cond.eq (Jvm.Term.elem (Jvm.Term.field (Jvm.Term.string "OnePassport$Reader" (177 : Nat)) "java/lang/String" "value" "[B") (Jvm.Term.int (3 : Int32))) (Jvm.Term.int (116 : Int32))) ∈ flatC (Jvm.Cond.and given_1 narrow_1) := List.mem_of_getElem? (i := 320) rfl
theorem wn_321 : (Jvm.Cond.not (Jvm.Cond.eq (Jvm.Term.string "OnePassport$Reader" (158 : Nat)) (Jvm.Term.string "OnePassport$Reader" (177 : Nat)))) ∈ flatC (Jvm.Cond.and given_1 narrow_1) := List.mem_of_getElem? (i := 321) rfl
theorem wn_322 : (Jvm.Cond.not (Jvm.Cond.eq (Jvm.Term.string "OnePassport$Reader" (159 : Nat)) (Jvm.Term.string "OnePassport$Reader" (177 : Nat)))) ∈ flatC (Jvm.Cond.and given_1 narrow_1) := List.mem_of_getElem? (i := 322) rfl
theorem wn_323 : (Jvm.Cond.not (Jvm.Cond.eq (Jvm.Term.string "OnePassport$Reader" (163 : Nat)) (Jvm.Term.string "OnePassport$Reader" (177 : Nat)))) ∈ flatC (Jvm.Cond.and given_1 narrow_1) := List.mem_of_getElem? (i := 323) rfl
theorem wn_324 : (Jvm.Cond.not (Jvm.Cond.eq (Jvm.Term.string "OnePassport$Reader" (169 : Nat)) (Jvm.Term.string "OnePassport$Reader" (177 : Nat)))) ∈ flatC (Jvm.Cond.and given_1 narrow_1) := List.mem_of_getElem? (i := 324) rfl
theorem wn_325 : (Jvm.Cond.not (Jvm.Cond.eq (Jvm.Term.string "OnePassport$Reader" (118 : Nat)) (Jvm.Term.string "OnePassport$Reader" (177 : Nat)))) ∈ flatC (Jvm.Cond.and given_1 narrow_1) := List.mem_of_getElem? (i := 325) rfl
theorem wn_326 : (Jvm.Cond.not (Jvm.Cond.eq (Jvm.Term.string "OnePassport$Reader" (126 : Nat)) (Jvm.Term.string "OnePassport$Reader" (177 : Nat)))) ∈ flatC (Jvm.Cond.and given_1 narrow_1) := List.mem_of_getElem? (i := 326) rfl
theorem wn_327 : (Jvm.Cond.not (Jvm.Cond.eq (Jvm.Term.string "OnePassport$Reader" (133 : Nat)) (Jvm.Term.string "OnePassport$Reader" (177 : Nat)))) ∈ flatC (Jvm.Cond.and given_1 narrow_1) := List.mem_of_getElem? (i := 327) rfl
theorem wn_328 : (Jvm.Cond.not (Jvm.Cond.eq (Jvm.Term.string "OnePassport$Reader" (138 : Nat)) (Jvm.Term.string "OnePassport$Reader" (177 : Nat)))) ∈ flatC (Jvm.Cond.and given_1 narrow_1) := List.mem_of_getElem? (i := 328) rfl
theorem wn_329 : (Jvm.Cond.exactly (Jvm.Term.string "OnePassport$Reader" (146 : Nat)) "java/lang/String") ∈ flatC (Jvm.Cond.and given_1 narrow_1) := List.mem_of_getElem? (i := 329) rfl
theorem wn_330 : (Jvm.Cond.eq (Jvm.Term.field (Jvm.Term.string "OnePassport$Reader" (146 : Nat)) "java/lang/String" "coder" "B") (Jvm.Term.int (0 : Int32))) ∈ flatC (Jvm.Cond.and given_1 narrow_1) := List.mem_of_getElem? (i := 330) rfl
theorem wn_331 : (Jvm.Cond.arrayOf (Jvm.Term.field (Jvm.Term.string "OnePassport$Reader" (146 : Nat)) "java/lang/String" "value" "[B") Jvm.ClassFile.FieldType.byte) ∈ flatC (Jvm.Cond.and given_1 narrow_1) := List.mem_of_getElem? (i := 331) rfl
theorem wn_332 : (Jvm.Cond.eq (Jvm.Term.length (Jvm.Term.field (Jvm.Term.string "OnePassport$Reader" (146 : Nat)) "java/lang/String" "value" "[B")) (Jvm.Term.int (6 : Int32))) ∈ flatC (Jvm.Cond.and given_1 narrow_1) := List.mem_of_getElem? (i := 332) rfl
theorem wn_333 : (Jvm.Cond.eq (Jvm.Term.elem (Jvm.Term.field (Jvm.Term.string "OnePassport$Reader" (146 : Nat)) "java/lang/String" "value" "[B") (Jvm.Term.int (0 : Int32))) (Jvm.Term.int (115 : Int32))) ∈ flatC (Jvm.Cond.and given_1 narrow_1) := List.mem_of_getElem? (i := 333) rfl
theorem wn_334 : (Jvm.Cond.eq (Jvm.Term.elem (Jvm.Term.field (Jvm.Term.string "OnePassport$Reader" (146 : Nat)) "java/lang/String" "value" "[B") (Jvm.Term.int (1 : Int32))) (Jvm.Term.int (116 : Int32))) ∈ flatC (Jvm.Cond.and given_1 narrow_1) := List.mem_of_getElem? (i := 334) rfl
theorem wn_335 : (Jvm.Cond.eq (Jvm.Term.elem (Jvm.Term.field (Jvm.Term.string "OnePassport$Reader" (146 : Nat)) "java/lang/String" "value" "[B") (Jvm.Term.int (2 : Int32))) (Jvm.Term.int (114 : Int32))) ∈ flatC (Jvm.Cond.and given_1 narrow_1) := List.mem_of_getElem? (i := 335) rfl
theorem wn_336 : (Jvm.Cond.eq (Jvm.Term.elem (Jvm.Term.field (Jvm.Term.string "OnePassport$Reader" (146 : Nat)) "java/lang/String" "value" "[B") (Jvm.Term.int (3 : Int32))) (Jvm.Term.int (105 : Int32))) ∈ flatC (Jvm.Cond.and given_1 narrow_1) := List.mem_of_getElem? (i := 336) rfl
theorem wn_337 : (Jvm.Cond.eq (Jvm.Term.elem (Jvm.Term.field (Jvm.Term.string "OnePassport$Reader" (146 : Nat)) "java/lang/String" "value" "[B") (Jvm.Term.int (4 : Int32))) (Jvm.Term.int (99 : Int32))) ∈ flatC (Jvm.Cond.and given_1 narrow_1) := List.mem_of_getElem? (i := 337) rfl
theorem wn_338 : (Jvm.Cond.eq (Jvm.Term.elem (Jvm.Term.field (Jvm.Term.string "OnePassport$Reader" (146 : Nat)) "java/lang/String" "value" "[B") (Jvm.Term.int (5 : Int32))) (Jvm.Term.int (116 : Int32))) ∈ flatC (Jvm.Cond.and given_1 narrow_1) := List.mem_of_getElem? (i := 338) rfl
theorem wn_339 : (Jvm.Cond.not (Jvm.Cond.eq (Jvm.Term.string "OnePassport$Reader" (158 : Nat)) (Jvm.Term.string "OnePassport$Reader" (146 : Nat)))) ∈ flatC (Jvm.Cond.and given_1 narrow_1) := List.mem_of_getElem? (i := 339) rfl
theorem wn_340 : (Jvm.Cond.not (Jvm.Cond.eq (Jvm.Term.string "OnePassport$Reader" (159 : Nat)) (Jvm.Term.string "OnePassport$Reader" (146 : Nat)))) ∈ flatC (Jvm.Cond.and given_1 narrow_1) := List.mem_of_getElem? (i := 340) rfl
theorem wn_341 : (Jvm.Cond.not (Jvm.Cond.eq (Jvm.Term.string "OnePassport$Reader" (163 : Nat)) (Jvm.Term.string "OnePassport$Reader" (146 : Nat)))) ∈ flatC (Jvm.Cond.and given_1 narrow_1) := List.mem_of_getElem? (i := 341) rfl
theorem wn_342 : (Jvm.Cond.not (Jvm.Cond.eq (Jvm.Term.string "OnePassport$Reader" (169 : Nat)) (Jvm.Term.string "OnePassport$Reader" (146 : Nat)))) ∈ flatC (Jvm.Cond.and given_1 narrow_1) := List.mem_of_getElem? (i := 342) rfl
theorem wn_343 : (Jvm.Cond.not (Jvm.Cond.eq (Jvm.Term.string "OnePassport$Reader" (118 : Nat)) (Jvm.Term.string "OnePassport$Reader" (146 : Nat)))) ∈ flatC (Jvm.Cond.and given_1 narrow_1) := List.mem_of_getElem? (i := 343) rfl
theorem wn_344 : (Jvm.Cond.not (Jvm.Cond.eq (Jvm.Term.string "OnePassport$Reader" (126 : Nat)) (Jvm.Term.string "OnePassport$Reader" (146 : Nat)))) ∈ flatC (Jvm.Cond.and given_1 narrow_1) := List.mem_of_getElem? (i := 344) rfl
theorem wn_345 : (Jvm.Cond.not (Jvm.Cond.eq (Jvm.Term.string "OnePassport$Reader" (133 : Nat)) (Jvm.Term.string "OnePassport$Reader" (146 : Nat)))) ∈ flatC (Jvm.Cond.and given_1 narrow_1) := List.mem_of_getElem? (i := 345) rfl
theorem wn_346 : (Jvm.Cond.not (Jvm.Cond.eq (Jvm.Term.string "OnePassport$Reader" (138 : Nat)) (Jvm.Term.string "OnePassport$Reader" (146 : Nat)))) ∈ flatC (Jvm.Cond.and given_1 narrow_1) := List.mem_of_getElem? (i := 346) rfl
theorem wn_347 : (Jvm.Cond.not (Jvm.Cond.eq (Jvm.Term.string "OnePassport$Reader" (177 : Nat)) (Jvm.Term.string "OnePassport$Reader" (146 : Nat)))) ∈ flatC (Jvm.Cond.and given_1 narrow_1) := List.mem_of_getElem? (i := 347) rfl
theorem wn_348 : (Jvm.Cond.exactly (Jvm.Term.string "OnePassport$Reader" (150 : Nat)) "java/lang/String") ∈ flatC (Jvm.Cond.and given_1 narrow_1) := List.mem_of_getElem? (i := 348) rfl
theorem wn_349 : (Jvm.Cond.eq (Jvm.Term.field (Jvm.Term.string "OnePassport$Reader" (150 : Nat)) "java/lang/String" "coder" "B") (Jvm.Term.int (0 : Int32))) ∈ flatC (Jvm.Cond.and given_1 narrow_1) := List.mem_of_getElem? (i := 349) rfl
theorem wn_350 : (Jvm.Cond.arrayOf (Jvm.Term.field (Jvm.Term.string "OnePassport$Reader" (150 : Nat)) "java/lang/String" "value" "[B") Jvm.ClassFile.FieldType.byte) ∈ flatC (Jvm.Cond.and given_1 narrow_1) := List.mem_of_getElem? (i := 350) rfl
theorem wn_351 : (Jvm.Cond.eq (Jvm.Term.length (Jvm.Term.field (Jvm.Term.string "OnePassport$Reader" (150 : Nat)) "java/lang/String" "value" "[B")) (Jvm.Term.int (4 : Int32))) ∈ flatC (Jvm.Cond.and given_1 narrow_1) := List.mem_of_getElem? (i := 351) rfl
theorem wn_352 : (Jvm.Cond.eq (Jvm.Term.elem (Jvm.Term.field (Jvm.Term.string "OnePassport$Reader" (150 : Nat)) "java/lang/String" "value" "[B") (Jvm.Term.int (0 : Int32))) (Jvm.Term.int (107 : Int32))) ∈ flatC (Jvm.Cond.and given_1 narrow_1) := List.mem_of_getElem? (i := 352) rfl
theorem wn_353 : (Jvm.Cond.eq (Jvm.Term.elem (Jvm.Term.field (Jvm.Term.string "OnePassport$Reader" (150 : Nat)) "java/lang/String" "value" "[B") (Jvm.Term.int (1 : Int32))) (Jvm.Term.int (101 : Int32))) ∈ flatC (Jvm.Cond.and given_1 narrow_1) := List.mem_of_getElem? (i := 353) rfl
theorem wn_354 : (Jvm.Cond.eq (Jvm.Term.elem (Jvm.Term.field (Jvm.Term.string "OnePassport$Reader" (150 : Nat)) "java/lang/String" "value" "[B") (Jvm.Term.int (2 : Int32))) (Jvm.Term.int (101 : Int32))) ∈ flatC (Jvm.Cond.and given_1 narrow_1) := List.mem_of_getElem? (i := 354) rfl
theorem wn_355 : (Jvm.Cond.eq (Jvm.Term.elem (Jvm.Term.field (Jvm.Term.string "OnePassport$Reader" (150 : Nat)) "java/lang/String" "value" "[B") (Jvm.Term.int (3 : Int32))) (Jvm.Term.int (110 : Int32))) ∈ flatC (Jvm.Cond.and given_1 narrow_1) := List.mem_of_getElem? (i := 355) rfl
theorem wn_356 : (Jvm.Cond.not (Jvm.Cond.eq (Jvm.Term.string "OnePassport$Reader" (158 : Nat)) (Jvm.Term.string "OnePassport$Reader" (150 : Nat)))) ∈ flatC (Jvm.Cond.and given_1 narrow_1) := List.mem_of_getElem? (i := 356) rfl
theorem wn_357 : (Jvm.Cond.not (Jvm.Cond.eq (Jvm.Term.string "OnePassport$Reader" (159 : Nat)) (Jvm.Term.string "OnePassport$Reader" (150 : Nat)))) ∈ flatC (Jvm.Cond.and given_1 narrow_1) := List.mem_of_getElem? (i := 357) rfl
theorem wn_358 : (Jvm.Cond.not (Jvm.Cond.eq (Jvm.Term.string "OnePassport$Reader" (163 : Nat)) (Jvm.Term.string "OnePassport$Reader" (150 : Nat)))) ∈ flatC (Jvm.Cond.and given_1 narrow_1) := List.mem_of_getElem? (i := 358) rfl
theorem wn_359 : (Jvm.Cond.not (Jvm.Cond.eq (Jvm.Term.string "OnePassport$Reader" (169 : Nat)) (Jvm.Term.string "OnePassport$Reader" (150 : Nat)))) ∈ flatC (Jvm.Cond.and given_1 narrow_1) := List.mem_of_getElem? (i := 359) rfl
theorem wn_360 : (Jvm.Cond.not (Jvm.Cond.eq (Jvm.Term.string "OnePassport$Reader" (118 : Nat)) (Jvm.Term.string "OnePassport$Reader" (150 : Nat)))) ∈ flatC (Jvm.Cond.and given_1 narrow_1) := List.mem_of_getElem? (i := 360) rfl
theorem wn_361 : (Jvm.Cond.not (Jvm.Cond.eq (Jvm.Term.string "OnePassport$Reader" (126 : Nat)) (Jvm.Term.string "OnePassport$Reader" (150 : Nat)))) ∈ flatC (Jvm.Cond.and given_1 narrow_1) := List.mem_of_getElem? (i := 361) rfl
theorem wn_362 : (Jvm.Cond.not (Jvm.Cond.eq (Jvm.Term.string "OnePassport$Reader" (133 : Nat)) (Jvm.Term.string "OnePassport$Reader" (150 : Nat)))) ∈ flatC (Jvm.Cond.and given_1 narrow_1) := List.mem_of_getElem? (i := 362) rfl
theorem wn_363 : (Jvm.Cond.not (Jvm.Cond.eq (Jvm.Term.string "OnePassport$Reader" (138 : Nat)) (Jvm.Term.string "OnePassport$Reader" (150 : Nat)))) ∈ flatC (Jvm.Cond.and given_1 narrow_1) := List.mem_of_getElem? (i := 363) rfl
theorem wn_364 : (Jvm.Cond.not (Jvm.Cond.eq (Jvm.Term.string "OnePassport$Reader" (177 : Nat)) (Jvm.Term.string "OnePassport$Reader" (150 : Nat)))) ∈ flatC (Jvm.Cond.and given_1 narrow_1) := List.mem_of_getElem? (i := 364) rfl
theorem wn_365 : (Jvm.Cond.not (Jvm.Cond.eq (Jvm.Term.string "OnePassport$Reader" (146 : Nat)) (Jvm.Term.string "OnePassport$Reader" (150 : Nat)))) ∈ flatC (Jvm.Cond.and given_1 narrow_1) := List.mem_of_getElem? (i := 365) rfl
theorem wn_366 : (Jvm.Cond.exactly (Jvm.Term.string "OnePassport$Reader" (154 : Nat)) "java/lang/String") ∈ flatC (Jvm.Cond.and given_1 narrow_1) := List.mem_of_getElem? (i := 366) rfl
theorem wn_367 : (Jvm.Cond.eq (Jvm.Term.field (Jvm.Term.string "OnePassport$Reader" (154 : Nat)) "java/lang/String" "coder" "B") (Jvm.Term.int (0 : Int32))) ∈ flatC (Jvm.Cond.and given_1 narrow_1) := List.mem_of_getElem? (i := 367) rfl
theorem wn_368 : (Jvm.Cond.arrayOf (Jvm.Term.field (Jvm.Term.string "OnePassport$Reader" (154 : Nat)) "java/lang/String" "value" "[B") Jvm.ClassFile.FieldType.byte) ∈ flatC (Jvm.Cond.and given_1 narrow_1) := List.mem_of_getElem? (i := 368) rfl
theorem wn_369 : (Jvm.Cond.eq (Jvm.Term.length (Jvm.Term.field (Jvm.Term.string "OnePassport$Reader" (154 : Nat)) "java/lang/String" "value" "[B")) (Jvm.Term.int (5 : Int32))) ∈ flatC (Jvm.Cond.and given_1 narrow_1) := List.mem_of_getElem? (i := 369) rfl
theorem wn_370 : (Jvm.Cond.eq (Jvm.Term.elem (Jvm.Term.field (Jvm.Term.string "OnePassport$Reader" (154 : Nat)) "java/lang/String" "value" "[B") (Jvm.Term.int (0 : Int32))) (Jvm.Term.int (108 : Int32))) ∈ flatC (Jvm.Cond.and given_1 narrow_1) := List.mem_of_getElem? (i := 370) rfl
theorem wn_371 : (Jvm.Cond.eq (Jvm.Term.elem (Jvm.Term.field (Jvm.Term.string "OnePassport$Reader" (154 : Nat)) "java/lang/String" "value" "[B") (Jvm.Term.int (1 : Int32))) (Jvm.Term.int (111 : Int32))) ∈ flatC (Jvm.Cond.and given_1 narrow_1) := List.mem_of_getElem? (i := 371) rfl
theorem wn_372 : (Jvm.Cond.eq (Jvm.Term.elem (Jvm.Term.field (Jvm.Term.string "OnePassport$Reader" (154 : Nat)) "java/lang/String" "value" "[B") (Jvm.Term.int (2 : Int32))) (Jvm.Term.int (111 : Int32))) ∈ flatC (Jvm.Cond.and given_1 narrow_1) := List.mem_of_getElem? (i := 372) rfl
theorem wn_373 : (Jvm.Cond.eq (Jvm.Term.elem (Jvm.Term.field (Jvm.Term.string "OnePassport$Reader" (154 : Nat)) "java/lang/String" "value" "[B") (Jvm.Term.int (3 : Int32))) (Jvm.Term.int (107 : Int32))) ∈ flatC (Jvm.Cond.and given_1 narrow_1) := List.mem_of_getElem? (i := 373) rfl
theorem wn_374 : (Jvm.Cond.eq (Jvm.Term.elem (Jvm.Term.field (Jvm.Term.string "OnePassport$Reader" (154 : Nat)) "java/lang/String" "value" "[B") (Jvm.Term.int (4 : Int32))) (Jvm.Term.int (115 : Int32))) ∈ flatC (Jvm.Cond.and given_1 narrow_1) := List.mem_of_getElem? (i := 374) rfl
theorem wn_375 : (Jvm.Cond.not (Jvm.Cond.eq (Jvm.Term.string "OnePassport$Reader" (158 : Nat)) (Jvm.Term.string "OnePassport$Reader" (154 : Nat)))) ∈ flatC (Jvm.Cond.and given_1 narrow_1) := List.mem_of_getElem? (i := 375) rfl
theorem wn_376 : (Jvm.Cond.not (Jvm.Cond.eq (Jvm.Term.string "OnePassport$Reader" (159 : Nat)) (Jvm.Term.string "OnePassport$Reader" (154 : Nat)))) ∈ flatC (Jvm.Cond.and given_1 narrow_1) := List.mem_of_getElem? (i := 376) rfl
theorem wn_377 : (Jvm.Cond.not (Jvm.Cond.eq (Jvm.Term.string "OnePassport$Reader" (163 : Nat)) (Jvm.Term.string "OnePassport$Reader" (154 : Nat)))) ∈ flatC (Jvm.Cond.and given_1 narrow_1) := List.mem_of_getElem? (i := 377) rfl
theorem wn_378 : (Jvm.Cond.not (Jvm.Cond.eq (Jvm.Term.string "OnePassport$Reader" (169 : Nat)) (Jvm.Term.string "OnePassport$Reader" (154 : Nat)))) ∈ flatC (Jvm.Cond.and given_1 narrow_1) := List.mem_of_getElem? (i := 378) rfl
theorem wn_379 : (Jvm.Cond.not (Jvm.Cond.eq (Jvm.Term.string "OnePassport$Reader" (118 : Nat)) (Jvm.Term.string "OnePassport$Reader" (154 : Nat)))) ∈ flatC (Jvm.Cond.and given_1 narrow_1) := List.mem_of_getElem? (i := 379) rfl
theorem wn_380 : (Jvm.Cond.not (Jvm.Cond.eq (Jvm.Term.string "OnePassport$Reader" (126 : Nat)) (Jvm.Term.string "OnePassport$Reader" (154 : Nat)))) ∈ flatC (Jvm.Cond.and given_1 narrow_1) := List.mem_of_getElem? (i := 380) rfl
theorem wn_381 : (Jvm.Cond.not (Jvm.Cond.eq (Jvm.Term.string "OnePassport$Reader" (133 : Nat)) (Jvm.Term.string "OnePassport$Reader" (154 : Nat)))) ∈ flatC (Jvm.Cond.and given_1 narrow_1) := List.mem_of_getElem? (i := 381) rfl
theorem wn_382 : (Jvm.Cond.not (Jvm.Cond.eq (Jvm.Term.string "OnePassport$Reader" (138 : Nat)) (Jvm.Term.string "OnePassport$Reader" (154 : Nat)))) ∈ flatC (Jvm.Cond.and given_1 narrow_1) := List.mem_of_getElem? (i := 382) rfl
theorem wn_383 : (Jvm.Cond.not (Jvm.Cond.eq (Jvm.Term.string "OnePassport$Reader" (177 : Nat)) (Jvm.Term.string "OnePassport$Reader" (154 : Nat)))) ∈ flatC (Jvm.Cond.and given_1 narrow_1) := List.mem_of_getElem? (i := 383) rfl
theorem wn_384 : (Jvm.Cond.not (Jvm.Cond.eq (Jvm.Term.string "OnePassport$Reader" (146 : Nat)) (Jvm.Term.string "OnePassport$Reader" (154 : Nat)))) ∈ flatC (Jvm.Cond.and given_1 narrow_1) := List.mem_of_getElem? (i := 384) rfl
theorem wn_385 : (Jvm.Cond.not (Jvm.Cond.eq (Jvm.Term.string "OnePassport$Reader" (150 : Nat)) (Jvm.Term.string "OnePassport$Reader" (154 : Nat)))) ∈ flatC (Jvm.Cond.and given_1 narrow_1) := List.mem_of_getElem? (i := 385) rfl
theorem wl_prem {args : Array Value} {s : State} (h0 : ∀ w ∈ lw_tbl, w.before args s = true) (hts : ∀ w ∈ lw_all, w.before args s = true) (hn : (Jvm.Cond.and given_1 narrow_1).before args s = true) : wNest s ∧ ∃ (aE : Nat) (ad adK adV : Nat → Nat) (fo : Option Nat), wAd ad ∧ wZa aE ad adK adV fo (fun a => s.heap.size ≤ a) s s.heap := by
  have hs := flat_of_before _ hn
  refine ⟨wNest_of h0 ?_ ?_, ?_⟩
  · intro x hx
    simp only [wNcs, List.mem_cons, List.not_mem_nil, or_false] at hx
    rcases hx with rfl | rfl | rfl | rfl | rfl | rfl | rfl | rfl | rfl
    · exact va_Nc.of (hs _ wn_141)
    · exact va_Nc.of (hs _ wn_136)
    · exact va_Nc.of (hs _ wn_159)
    · exact va_Nc.of (hs _ wn_139)
    · exact va_Nc.of (hs _ wn_163)
    · exact va_Nc.of (hs _ wn_185)
    · exact va_Nc.of (hs _ wn_61)
    · exact va_Nc.of (hs _ wn_104)
    · exact va_Nc.of (hs _ wn_62)
  · intro C hC
    simp only [wAOs, List.mem_cons, List.not_mem_nil, or_false] at hC
    rcases hC with rfl | rfl
    · exact q1269
    · exact q289
  have hA : ∀ a : Nat, a < s.heap.size → ¬ (fun a => s.heap.size ≤ a) a := fun _ h => Nat.not_le.mpr h
  -- the tokens
  have htk : ∀ i : Nat, i < 5 → (Cond.exactly (wTok i) "OnePassport$Token").before args s = true := by
    intro i hi
    match i, hi with
    | 0, _ => exact hs _ wn_8
    | 1, _ => exact hs _ wn_10
    | 2, _ => exact hs _ wn_13
    | 3, _ => exact hs _ wn_17
    | 4, _ => exact hs _ wn_22
    | i + 5, hi => exact absurd hi (by omega)
  have htl : ∀ i : Nat, i < 5 → (Cond.laysStatic "OnePassport$Token" (wTkn i) "LOnePassport$Token;").before args s = true := by
    intro i hi
    match i, hi with
    | 0, _ => exact h0 _ q463
    | 1, _ => exact h0 _ q474
    | 2, _ => exact h0 _ q480
    | 3, _ => exact h0 _ q482
    | 4, _ => exact h0 _ q484
    | i + 5, hi => exact absurd hi (by omega)
  have hta : ∀ i : Nat, ∃ a : Nat, i < 5 → (wTok i).eval args s none [] s = some (.ref a) := by
    intro i
    by_cases hi : i < 5
    · obtain ⟨a, c, cell, k, q1, -⟩ := Cond.exactly_spec (htk i hi)
      exact ⟨a, fun _ => q1⟩
    · exact ⟨0, fun h => absurd h hi⟩
  obtain ⟨ad, had⟩ := Classical.axiomOfChoice hta
  have hne : ∀ i j : Nat, i < 5 → j < 5 → i ≠ j → (Cond.not (.eq (wTok i) (wTok j))).before args s = true ∨ (Cond.not (.eq (wTok j) (wTok i))).before args s = true := by
      intro i j hi hj hij
      match i, j with
      | 0, 0 => exact absurd rfl hij
      | 0, 1 => exact Or.inl (hs _ wn_12)
      | 0, 2 => exact Or.inl (hs _ wn_15)
      | 0, 3 => exact Or.inl (hs _ wn_19)
      | 0, 4 => exact Or.inl (hs _ wn_24)
      | 1, 0 => exact Or.inr (hs _ wn_12)
      | 1, 1 => exact absurd rfl hij
      | 1, 2 => exact Or.inl (hs _ wn_16)
      | 1, 3 => exact Or.inl (hs _ wn_20)
      | 1, 4 => exact Or.inl (hs _ wn_25)
      | 2, 0 => exact Or.inr (hs _ wn_15)
      | 2, 1 => exact Or.inr (hs _ wn_16)
      | 2, 2 => exact absurd rfl hij
      | 2, 3 => exact Or.inl (hs _ wn_21)
      | 2, 4 => exact Or.inl (hs _ wn_26)
      | 3, 0 => exact Or.inr (hs _ wn_19)
      | 3, 1 => exact Or.inr (hs _ wn_20)
      | 3, 2 => exact Or.inr (hs _ wn_21)
      | 3, 3 => exact absurd rfl hij
      | 3, 4 => exact Or.inl (hs _ wn_27)
      | 4, 0 => exact Or.inr (hs _ wn_24)
      | 4, 1 => exact Or.inr (hs _ wn_25)
      | 4, 2 => exact Or.inr (hs _ wn_26)
      | 4, 3 => exact Or.inr (hs _ wn_27)
      | 4, 4 => exact absurd rfl hij
      | i + 5, _ => exact absurd hi (by omega)
      | _, j + 5 => exact absurd hj (by omega)
  have hAd : wAd ad := by
    intro i j hi hj e
    by_cases hij : i = j
    · exact hij
    · rcases hne i j hi hj hij with h | h
      · exact absurd e (va_neR h (had i hi) (had j hj))
      · exact absurd e.symm (va_neR h (had j hj) (had i hi))
  -- the strings
  obtain ⟨adK, adV, hS, hSe⟩ := vk_Sof (args := args) (s := s) (N := 12) (tm := wStr) (len := wLen) (byt := wByt) (A := (fun a => s.heap.size ≤ a)) (fun i hi => by
    match i, hi with
    | 0, _ => decide
    | 1, _ => decide
    | 2, _ => decide
    | 3, _ => decide
    | 4, _ => decide
    | 5, _ => decide
    | 6, _ => decide
    | 7, _ => decide
    | 8, _ => decide
    | 9, _ => decide
    | 10, _ => decide
    | 11, _ => decide
    | i + 12, hi => exact absurd hi (by omega)) (fun i hi => by
    match i, hi with
    | 0, _ => exact hs _ wn_212
    | 1, _ => exact hs _ wn_222
    | 2, _ => exact hs _ wn_231
    | 3, _ => exact hs _ wn_244
    | 4, _ => exact hs _ wn_257
    | 5, _ => exact hs _ wn_269
    | 6, _ => exact hs _ wn_282
    | 7, _ => exact hs _ wn_297
    | 8, _ => exact hs _ wn_313
    | 9, _ => exact hs _ wn_329
    | 10, _ => exact hs _ wn_348
    | 11, _ => exact hs _ wn_366
    | i + 12, hi => exact absurd hi (by omega)) (fun i hi => by
    match i, hi with
    | 0, _ => exact hs _ wn_213
    | 1, _ => exact hs _ wn_223
    | 2, _ => exact hs _ wn_232
    | 3, _ => exact hs _ wn_245
    | 4, _ => exact hs _ wn_258
    | 5, _ => exact hs _ wn_270
    | 6, _ => exact hs _ wn_283
    | 7, _ => exact hs _ wn_298
    | 8, _ => exact hs _ wn_314
    | 9, _ => exact hs _ wn_330
    | 10, _ => exact hs _ wn_349
    | 11, _ => exact hs _ wn_367
    | i + 12, hi => exact absurd hi (by omega)) (fun i hi => by
    match i, hi with
    | 0, _ => exact hs _ wn_214
    | 1, _ => exact hs _ wn_224
    | 2, _ => exact hs _ wn_233
    | 3, _ => exact hs _ wn_246
    | 4, _ => exact hs _ wn_259
    | 5, _ => exact hs _ wn_271
    | 6, _ => exact hs _ wn_284
    | 7, _ => exact hs _ wn_299
    | 8, _ => exact hs _ wn_315
    | 9, _ => exact hs _ wn_331
    | 10, _ => exact hs _ wn_350
    | 11, _ => exact hs _ wn_368
    | i + 12, hi => exact absurd hi (by omega)) (fun i hi => by
    match i, hi with
    | 0, _ => exact hs _ wn_215
    | 1, _ => exact hs _ wn_225
    | 2, _ => exact hs _ wn_234
    | 3, _ => exact hs _ wn_247
    | 4, _ => exact hs _ wn_260
    | 5, _ => exact hs _ wn_272
    | 6, _ => exact hs _ wn_285
    | 7, _ => exact hs _ wn_300
    | 8, _ => exact hs _ wn_316
    | 9, _ => exact hs _ wn_332
    | 10, _ => exact hs _ wn_351
    | 11, _ => exact hs _ wn_369
    | i + 12, hi => exact absurd hi (by omega)) (fun i hi j hj => by
    match i, j, hj with
    | 0, 0, _ => exact hs _ wn_216
    | 0, 1, _ => exact hs _ wn_217
    | 0, 2, _ => exact hs _ wn_218
    | 0, 3, _ => exact hs _ wn_219
    | 0, 4, _ => exact hs _ wn_220
    | 0, 5, _ => exact hs _ wn_221
    | 0, j + 6, hj => exact absurd hj (by simp [wLen])
    | 1, 0, _ => exact hs _ wn_226
    | 1, 1, _ => exact hs _ wn_227
    | 1, 2, _ => exact hs _ wn_228
    | 1, 3, _ => exact hs _ wn_229
    | 1, j + 4, hj => exact absurd hj (by simp [wLen])
    | 2, 0, _ => exact hs _ wn_235
    | 2, 1, _ => exact hs _ wn_236
    | 2, 2, _ => exact hs _ wn_237
    | 2, 3, _ => exact hs _ wn_238
    | 2, 4, _ => exact hs _ wn_239
    | 2, 5, _ => exact hs _ wn_240
    | 2, 6, _ => exact hs _ wn_241
    | 2, j + 7, hj => exact absurd hj (by simp [wLen])
    | 3, 0, _ => exact hs _ wn_248
    | 3, 1, _ => exact hs _ wn_249
    | 3, 2, _ => exact hs _ wn_250
    | 3, 3, _ => exact hs _ wn_251
    | 3, 4, _ => exact hs _ wn_252
    | 3, 5, _ => exact hs _ wn_253
    | 3, j + 6, hj => exact absurd hj (by simp [wLen])
    | 4, 0, _ => exact hs _ wn_261
    | 4, 1, _ => exact hs _ wn_262
    | 4, 2, _ => exact hs _ wn_263
    | 4, 3, _ => exact hs _ wn_264
    | 4, j + 4, hj => exact absurd hj (by simp [wLen])
    | 5, 0, _ => exact hs _ wn_273
    | 5, 1, _ => exact hs _ wn_274
    | 5, 2, _ => exact hs _ wn_275
    | 5, 3, _ => exact hs _ wn_276
    | 5, j + 4, hj => exact absurd hj (by simp [wLen])
    | 6, 0, _ => exact hs _ wn_286
    | 6, 1, _ => exact hs _ wn_287
    | 6, 2, _ => exact hs _ wn_288
    | 6, 3, _ => exact hs _ wn_289
    | 6, 4, _ => exact hs _ wn_290
    | 6, j + 5, hj => exact absurd hj (by simp [wLen])
    | 7, 0, _ => exact hs _ wn_301
    | 7, 1, _ => exact hs _ wn_302
    | 7, 2, _ => exact hs _ wn_303
    | 7, 3, _ => exact hs _ wn_304
    | 7, 4, _ => exact hs _ wn_305
    | 7, j + 5, hj => exact absurd hj (by simp [wLen])
    | 8, 0, _ => exact hs _ wn_317
    | 8, 1, _ => exact hs _ wn_318
    | 8, 2, _ => exact hs _ wn_319
    | 8, 3, _ => exact hs _ wn_320
    | 8, j + 4, hj => exact absurd hj (by simp [wLen])
    | 9, 0, _ => exact hs _ wn_333
    | 9, 1, _ => exact hs _ wn_334
    | 9, 2, _ => exact hs _ wn_335
    | 9, 3, _ => exact hs _ wn_336
    | 9, 4, _ => exact hs _ wn_337
    | 9, 5, _ => exact hs _ wn_338
    | 9, j + 6, hj => exact absurd hj (by simp [wLen])
    | 10, 0, _ => exact hs _ wn_352
    | 10, 1, _ => exact hs _ wn_353
    | 10, 2, _ => exact hs _ wn_354
    | 10, 3, _ => exact hs _ wn_355
    | 10, j + 4, hj => exact absurd hj (by simp [wLen])
    | 11, 0, _ => exact hs _ wn_370
    | 11, 1, _ => exact hs _ wn_371
    | 11, 2, _ => exact hs _ wn_372
    | 11, 3, _ => exact hs _ wn_373
    | 11, 4, _ => exact hs _ wn_374
    | 11, j + 5, hj => exact absurd hj (by simp [wLen])
    | i + 12, _, _ => exact absurd hi (by omega)) (fun i j hi hj hij => by
    match i, j with
    | 0, 0 => exact absurd rfl hij
    | 0, 1 => exact Or.inl (hs _ wn_230)
    | 0, 2 => exact Or.inl (hs _ wn_242)
    | 0, 3 => exact Or.inl (hs _ wn_254)
    | 0, 4 => exact Or.inl (hs _ wn_265)
    | 0, 5 => exact Or.inl (hs _ wn_277)
    | 0, 6 => exact Or.inl (hs _ wn_291)
    | 0, 7 => exact Or.inl (hs _ wn_306)
    | 0, 8 => exact Or.inl (hs _ wn_321)
    | 0, 9 => exact Or.inl (hs _ wn_339)
    | 0, 10 => exact Or.inl (hs _ wn_356)
    | 0, 11 => exact Or.inl (hs _ wn_375)
    | 1, 0 => exact Or.inr (hs _ wn_230)
    | 1, 1 => exact absurd rfl hij
    | 1, 2 => exact Or.inl (hs _ wn_243)
    | 1, 3 => exact Or.inl (hs _ wn_255)
    | 1, 4 => exact Or.inl (hs _ wn_266)
    | 1, 5 => exact Or.inl (hs _ wn_278)
    | 1, 6 => exact Or.inl (hs _ wn_292)
    | 1, 7 => exact Or.inl (hs _ wn_307)
    | 1, 8 => exact Or.inl (hs _ wn_322)
    | 1, 9 => exact Or.inl (hs _ wn_340)
    | 1, 10 => exact Or.inl (hs _ wn_357)
    | 1, 11 => exact Or.inl (hs _ wn_376)
    | 2, 0 => exact Or.inr (hs _ wn_242)
    | 2, 1 => exact Or.inr (hs _ wn_243)
    | 2, 2 => exact absurd rfl hij
    | 2, 3 => exact Or.inl (hs _ wn_256)
    | 2, 4 => exact Or.inl (hs _ wn_267)
    | 2, 5 => exact Or.inl (hs _ wn_279)
    | 2, 6 => exact Or.inl (hs _ wn_293)
    | 2, 7 => exact Or.inl (hs _ wn_308)
    | 2, 8 => exact Or.inl (hs _ wn_323)
    | 2, 9 => exact Or.inl (hs _ wn_341)
    | 2, 10 => exact Or.inl (hs _ wn_358)
    | 2, 11 => exact Or.inl (hs _ wn_377)
    | 3, 0 => exact Or.inr (hs _ wn_254)
    | 3, 1 => exact Or.inr (hs _ wn_255)
    | 3, 2 => exact Or.inr (hs _ wn_256)
    | 3, 3 => exact absurd rfl hij
    | 3, 4 => exact Or.inl (hs _ wn_268)
    | 3, 5 => exact Or.inl (hs _ wn_280)
    | 3, 6 => exact Or.inl (hs _ wn_294)
    | 3, 7 => exact Or.inl (hs _ wn_309)
    | 3, 8 => exact Or.inl (hs _ wn_324)
    | 3, 9 => exact Or.inl (hs _ wn_342)
    | 3, 10 => exact Or.inl (hs _ wn_359)
    | 3, 11 => exact Or.inl (hs _ wn_378)
    | 4, 0 => exact Or.inr (hs _ wn_265)
    | 4, 1 => exact Or.inr (hs _ wn_266)
    | 4, 2 => exact Or.inr (hs _ wn_267)
    | 4, 3 => exact Or.inr (hs _ wn_268)
    | 4, 4 => exact absurd rfl hij
    | 4, 5 => exact Or.inl (hs _ wn_281)
    | 4, 6 => exact Or.inl (hs _ wn_295)
    | 4, 7 => exact Or.inl (hs _ wn_310)
    | 4, 8 => exact Or.inl (hs _ wn_325)
    | 4, 9 => exact Or.inl (hs _ wn_343)
    | 4, 10 => exact Or.inl (hs _ wn_360)
    | 4, 11 => exact Or.inl (hs _ wn_379)
    | 5, 0 => exact Or.inr (hs _ wn_277)
    | 5, 1 => exact Or.inr (hs _ wn_278)
    | 5, 2 => exact Or.inr (hs _ wn_279)
    | 5, 3 => exact Or.inr (hs _ wn_280)
    | 5, 4 => exact Or.inr (hs _ wn_281)
    | 5, 5 => exact absurd rfl hij
    | 5, 6 => exact Or.inl (hs _ wn_296)
    | 5, 7 => exact Or.inl (hs _ wn_311)
    | 5, 8 => exact Or.inl (hs _ wn_326)
    | 5, 9 => exact Or.inl (hs _ wn_344)
    | 5, 10 => exact Or.inl (hs _ wn_361)
    | 5, 11 => exact Or.inl (hs _ wn_380)
    | 6, 0 => exact Or.inr (hs _ wn_291)
    | 6, 1 => exact Or.inr (hs _ wn_292)
    | 6, 2 => exact Or.inr (hs _ wn_293)
    | 6, 3 => exact Or.inr (hs _ wn_294)
    | 6, 4 => exact Or.inr (hs _ wn_295)
    | 6, 5 => exact Or.inr (hs _ wn_296)
    | 6, 6 => exact absurd rfl hij
    | 6, 7 => exact Or.inl (hs _ wn_312)
    | 6, 8 => exact Or.inl (hs _ wn_327)
    | 6, 9 => exact Or.inl (hs _ wn_345)
    | 6, 10 => exact Or.inl (hs _ wn_362)
    | 6, 11 => exact Or.inl (hs _ wn_381)
    | 7, 0 => exact Or.inr (hs _ wn_306)
    | 7, 1 => exact Or.inr (hs _ wn_307)
    | 7, 2 => exact Or.inr (hs _ wn_308)
    | 7, 3 => exact Or.inr (hs _ wn_309)
    | 7, 4 => exact Or.inr (hs _ wn_310)
    | 7, 5 => exact Or.inr (hs _ wn_311)
    | 7, 6 => exact Or.inr (hs _ wn_312)
    | 7, 7 => exact absurd rfl hij
    | 7, 8 => exact Or.inl (hs _ wn_328)
    | 7, 9 => exact Or.inl (hs _ wn_346)
    | 7, 10 => exact Or.inl (hs _ wn_363)
    | 7, 11 => exact Or.inl (hs _ wn_382)
    | 8, 0 => exact Or.inr (hs _ wn_321)
    | 8, 1 => exact Or.inr (hs _ wn_322)
    | 8, 2 => exact Or.inr (hs _ wn_323)
    | 8, 3 => exact Or.inr (hs _ wn_324)
    | 8, 4 => exact Or.inr (hs _ wn_325)
    | 8, 5 => exact Or.inr (hs _ wn_326)
    | 8, 6 => exact Or.inr (hs _ wn_327)
    | 8, 7 => exact Or.inr (hs _ wn_328)
    | 8, 8 => exact absurd rfl hij
    | 8, 9 => exact Or.inl (hs _ wn_347)
    | 8, 10 => exact Or.inl (hs _ wn_364)
    | 8, 11 => exact Or.inl (hs _ wn_383)
    | 9, 0 => exact Or.inr (hs _ wn_339)
    | 9, 1 => exact Or.inr (hs _ wn_340)
    | 9, 2 => exact Or.inr (hs _ wn_341)
    | 9, 3 => exact Or.inr (hs _ wn_342)
    | 9, 4 => exact Or.inr (hs _ wn_343)
    | 9, 5 => exact Or.inr (hs _ wn_344)
    | 9, 6 => exact Or.inr (hs _ wn_345)
    | 9, 7 => exact Or.inr (hs _ wn_346)
    | 9, 8 => exact Or.inr (hs _ wn_347)
    | 9, 9 => exact absurd rfl hij
    | 9, 10 => exact Or.inl (hs _ wn_365)
    | 9, 11 => exact Or.inl (hs _ wn_384)
    | 10, 0 => exact Or.inr (hs _ wn_356)
    | 10, 1 => exact Or.inr (hs _ wn_357)
    | 10, 2 => exact Or.inr (hs _ wn_358)
    | 10, 3 => exact Or.inr (hs _ wn_359)
    | 10, 4 => exact Or.inr (hs _ wn_360)
    | 10, 5 => exact Or.inr (hs _ wn_361)
    | 10, 6 => exact Or.inr (hs _ wn_362)
    | 10, 7 => exact Or.inr (hs _ wn_363)
    | 10, 8 => exact Or.inr (hs _ wn_364)
    | 10, 9 => exact Or.inr (hs _ wn_365)
    | 10, 10 => exact absurd rfl hij
    | 10, 11 => exact Or.inl (hs _ wn_385)
    | 11, 0 => exact Or.inr (hs _ wn_375)
    | 11, 1 => exact Or.inr (hs _ wn_376)
    | 11, 2 => exact Or.inr (hs _ wn_377)
    | 11, 3 => exact Or.inr (hs _ wn_378)
    | 11, 4 => exact Or.inr (hs _ wn_379)
    | 11, 5 => exact Or.inr (hs _ wn_380)
    | 11, 6 => exact Or.inr (hs _ wn_381)
    | 11, 7 => exact Or.inr (hs _ wn_382)
    | 11, 8 => exact Or.inr (hs _ wn_383)
    | 11, 9 => exact Or.inr (hs _ wn_384)
    | 11, 10 => exact Or.inr (hs _ wn_385)
    | 11, 11 => exact absurd rfl hij
    | i + 12, _ => exact absurd hi (by omega)
    | _, j + 12 => exact absurd hj (by omega)) hA
  have hw : ∀ i, i < 12 → vk_R "OnePassport$Reader" (wWd i).1 (wWd i).2 (adK i) s := by
    intro i hi
    match i, hi with
    | 0, hi => exact vk_R.of (h0 _ q515) (hSe 0 hi)
    | 1, hi => exact vk_R.of (h0 _ q664) (hSe 1 hi)
    | 2, hi => exact vk_R.of (h0 _ q669) (hSe 2 hi)
    | 3, hi => exact vk_R.of (h0 _ q670) (hSe 3 hi)
    | 4, hi => exact vk_R.of (h0 _ q679) (hSe 4 hi)
    | 5, hi => exact vk_R.of (h0 _ q680) (hSe 5 hi)
    | 6, hi => exact vk_R.of (h0 _ q684) (hSe 6 hi)
    | 7, hi => exact vk_R.of (h0 _ q685) (hSe 7 hi)
    | 8, hi => exact vk_R.of (h0 _ q686) (hSe 8 hi)
    | 9, hi => exact vk_R.of (h0 _ q691) (hSe 9 hi)
    | 10, hi => exact vk_R.of (h0 _ q692) (hSe 10 hi)
    | 11, hi => exact vk_R.of (h0 _ q693) (hSe 11 hi)
    | i + 12, hi => exact absurd hi (by omega)
  have hfo : ∃ fo : Option Nat, va_Z "jdk/internal/util/Preconditions" "SIOOBE_FORMATTER" "Ljava/util/function/BiFunction;" (va_rf fo) (fun a => s.heap.size ≤ a) s s.heap := by
    rcases va_Zqof (A := (fun a => s.heap.size ≤ a)) (h0 _ q553) (hts _ q152) (hs _ wn_29) hA with h | ⟨t, h⟩
    · exact ⟨none, h⟩
    · exact ⟨some t, h⟩
  obtain ⟨fo, hfo⟩ := hfo
  -- the list's array
  obtain ⟨aE, hE, hET⟩ := va_Tof (args := args) (s := s) (tm := .static "java/util/ArrayList" "DEFAULTCAPACITY_EMPTY_ELEMENTDATA" "[Ljava/lang/Object;") (ty := .object "java/lang/Object") (N := 0) (f := fun _ => .null) (A := (fun a => s.heap.size ≤ a)) (by decide) (hs _ wn_5) (va_eqt (hs _ wn_7)) (fun j hj => absurd hj (Nat.not_lt_zero j)) hA
  refine ⟨aE, ad, adK, adV, fo, hAd, ⟨⟨⟨fun i hi => va_Zof (htl i hi) (hts _ q148) (had i hi) hA, hS, va_Zof (h0 _ q537) (hts _ q150) (va_eqi (hs _ wn_28)) hA, hfo⟩, ?_⟩, hw⟩, va_Zof (h0 _ q315) (hts _ q144) hE hA, hET⟩
  exact ⟨vx_Zqof (h0 _ q605) (hts _ q154) (hs _ wn_33) hA, vx_Zqof (h0 _ q607) (hts _ q154) (hs _ wn_34) hA⟩
/-- WHAT IS LEFT: in plain Lean, a relation between the component's world and memory and the reference's memory, kept by every call, with equal answers -/
def wPlain (l : Launch) : Prop := ∀ (D : va_G) (ca : wCA) (aE : Nat) (ad adK adV : Nat → Nat) (fo : Option Nat), wGood ca → wAd ad → ∃ Rel : Nat → List wCell → wMem → wMem → Prop, (∀ n sp μ μm, Rel n sp μ μm → ∃ fs, sp[0]? = some (.inl (0, fs))) ∧ (∀ n k a1 a2 a3 a4 a5 sp μ μm, Rel (n + 1) sp μ μm → ∃ sp1 μ1 μm1, Rel n sp1 μ1 μm1 ∧ wOK (wZa aE ad adK adV fo) l D ca a1 a2 a3 a4 a5 sp μ μm sp1 μ1 μm1 k) ∧ ∀ μ : wMem, ∃ (N : Nat) (r0 : wMem), fX6_init N (wMp (fun _ => 28) (wZ (wMp wPiC (fX0_init μ)) 28)) = some r0 ∧ Rel 64 (spX1 aE) (wZ (wMp wPiC (fX0_init μ)) 28) r0
theorem wl_whole {p : Program} {e : Env} {s : State} {m : MethodId} {below : List Frame} {meth : Method} {c : Code} (l : Launch) (hflags : l.flags = flags0) {b L : Nat} {xs : Nat → Int32} (hL : L ≤ 384) (hp : l.stackTraces = false → wPlain l) (C0 : lw_At p s m meth c b L xs) : W p l e room_1 s m #[Value.ref b] below meth c s.heap [] 0 0 (lw_Z below #[Value.ref b] s) (entryFrame m ([Value.ref b] : List Value).toArray 4) := by
  obtain ⟨hx, hb, hr, hml, hown, h0, hX, hbl, hlocks, hgv⟩ := C0
  have hts : ∀ w ∈ lw_all, w.before #[Value.ref b] s = true := fun w h => h0 w (lw_all_tbl h)
  obtain ⟨D, ca, hg, hK⟩ := wl_known hts h0
  obtain ⟨hN, aE, ad, adK, adV, fo, hAd, hZ⟩ := wl_prem h0 hts hgv
  have hst : l.stackTraces = false := by
    unfold Launch.stackTraces
    rw [hflags]
    decide
  obtain ⟨Rel, r1, r2, r3⟩ := hp hst D ca aE ad adK adV fo hg hAd
  have K : wLc p s m meth c b D ca (fun a => s.heap.size ≤ a) (wZa aE ad adK adV fo) := ⟨hx, hb, hml, hown, hts, hK, hlocks, hr, fun _ h => h, hN, wZa_ok, hZ⟩
  obtain ⟨g1, g2, g3, g4⟩ := hg
  exact wl_start K ⟨hX, hbl, Nat.not_le.mpr hbl, by omega⟩ hL hr (fun a h => Or.inl h) (fun B U H h => h.2) (g2 _ (by decide +kernel)).symm (by rw [g2 _ (by decide +kernel)]; exact g1) (by rw [g2 115792089237316195423570985008687907853269984665640564039457584007913129639941 (by decide +kernel), g2 7599936041975837 (by decide +kernel)]) (by rw [g2 115792089237316195423570985008687907853269984665640564039457584007913129639965 (by decide +kernel), g2 7599936041975837 (by decide +kernel)]) (by rw [g2 115792089237316195423570985008687907853269984665640564039457584007913131278365 (by decide +kernel), g2 7599936041975837 (by decide +kernel)]) (by rw [g2 115792089237316195423570985008687907853269984665640564039457584008024800428061 (by decide +kernel), g2 7599936041975837 (by decide +kernel)]) Rel r1 r2 r3
