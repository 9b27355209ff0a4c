set_option maxRecDepth 100000
def RJ4 : String := "java/lang/String"
def RJ5 : String := "java/lang/StringLatin1"
theorem wr_retPn {p : Program} {R : Room} {s : State} {m : MethodId} {args : Array Value} {meth : Method} {c : Code} {cc : ByteArray} {own : String} {nL : Nat} {D : va_G} {cl : List vw_C} {sp : List wCell} {q : Nat → Nat} {ca : wCA} {A : Nat → Prop} {l : Launch} {e : Env} {below : List Frame} {kc ks : Nat} {μ μ1 : wMem} {lv : List (Nat × Value)} {r0 v : Int32} {ty : FieldType} (pc : Nat) (C : wC p R s m args meth c cc own nL (some ty) D cl sp q ca A) (hd : decode cc pc = .ok (.ireturn, 1)) (hb : narrow ty (.int v) = .int v) (hv : v = r0) (hk : kc ≤ R.cells ∧ ks ≤ R.slots) (h : μ = μ1) : wJ p l e R s m args below meth c nL D cl sp q ca A (MQ below (va_Qi (fun (r : Int32) (_ : Unit) => r = r0) (fun (_ : Unit) t => va_P D cl (wWs sp q ca μ1) t.heap) A) args s R.cells R.slots A) kc ks μ pc lv [.int v] :=
  fun H locs ls h1 h2 h3 => W.widen hk.1 hk.2 (W.zret C.1 C.2.1 C.2.2.2.2.2.2.2.1 hb (fun t ht hW => ⟨⟨v, (), rfl, hv, by rw [← h]; show va_P D cl (wWs sp q ca μ) t.heap; rw [ht]; exact h1⟩, h2.F ht⟩) h2.2.2 hd C.2.2.2.2.2.2.1)
theorem wr_i2c {p : Program} {l : Launch} {e : Env} {R : Room} {s : State} {m : MethodId} {args : Array Value} {below : List Frame} {meth : Method} {c : Code} {cc : ByteArray} {own : String} {nL : Nat} {ret : Option FieldType} {D : va_G} {cl : List vw_C} {sp : List wCell} {q : Nat → Nat} {ca : wCA} {A : Nat → Prop} {Q : State → Prop} {kc ks : Nat} {μ : wMem} {lv : List (Nat × Value)} {st : List Value} {x : Int32} (pc : Nat) (C : wC p R s m args meth c cc own nL ret D cl sp q ca A) (hd : decode cc pc = .ok (.i2c, 1)) (k : wJ p l e R s m args below meth c nL D cl sp q ca A Q kc ks μ (pc + 1) lv (.int (x.toUInt32 % 65536).toInt32 :: st)) : wJ p l e R s m args below meth c nL D cl sp q ca A Q kc ks μ pc lv (.int x :: st) :=
  fun H locs ls h1 h2 h3 => lv_i2c C.1 C.2.1 hd rfl (k H locs ls h1 h2 h3)
theorem wr_getsI {p : Program} {l : Launch} {e : Env} {R : Room} {s : State} {m : MethodId} {args : Array Value} {below : List Frame} {meth : Method} {c : Code} {cc : ByteArray} {own : String} {nL : Nat} {ret : Option FieldType} {D : va_G} {cl : List vw_C} {sp : List wCell} {q : Nat → Nat} {ca : wCA} {A : Nat → Prop} {Q : State → Prop} {kc ks : Nat} {μ : wMem} {lv : List (Nat × Value)} {st : List Value} {v : Int32} {ix : Nat} {Cn n0 d0 : String} (pc : Nat) (C : wC p R s m args meth c cc own nL ret D cl sp q ca A) (hd : decode cc pc = .ok (.getstatic ix, 3)) (hZ : va_Z Cn n0 d0 (.int v) A s s.heap) (hl : Cond.fieldLink own ix Cn n0 d0 ∈ lw_all) (k : wJ p l e R s m args below meth c nL D cl sp q ca A Q kc ks μ (pc + 3) lv (.int v :: st)) : wJ p l e R s m args below meth c nL D cl sp q ca A Q kc ks μ pc lv st :=
  fun H locs ls h1 h2 h3 => va_gets C.1 C.2.1 hZ h2 C.2.2.2.1 (C.2.2.2.2.1 _ hl) (fun _ h9 => h9) hd (k H locs ls h1 h2 h3)
theorem wr_getfO {p : Program} {l : Launch} {e : Env} {R : Room} {s : State} {m : MethodId} {args : Array Value} {below : List Frame} {meth : Method} {c : Code} {cc : ByteArray} {own : String} {nL : Nat} {ret : Option FieldType} {D : va_G} {cl : List vw_C} {sp : List wCell} {q : Nat → Nat} {ca : wCA} {A : Nat → Prop} {Q : State → Prop} {kc ks : Nat} {μ : wMem} {lv : List (Nat × Value)} {st : List Value} {o n0 d0 : String} {ix a : Nat} {v : Value} (pc : Nat) (C : wC p R s m args meth c cc own nL ret D cl sp q ca A) (hd : decode cc pc = .ok (.getfield ix, 3)) (hE : va_OF o n0 d0 v a A s s.heap) (hl : Cond.fieldLink own ix o n0 d0 ∈ lw_all) (k : wJ p l e R s m args below meth c nL D cl sp q ca A Q kc ks μ (pc + 3) lv (v :: st)) : wJ p l e R s m args below meth c nL D cl sp q ca A Q kc ks μ pc lv (.ref a :: st) :=
  fun H locs ls h1 h2 h3 => vk_getf C.1 C.2.1 hE h2 C.2.2.2.1 (C.2.2.2.2.1 _ hl) (fun _ h9 => h9) hd (k H locs ls h1 h2 h3)
theorem wr_baldO {p : Program} {l : Launch} {e : Env} {R : Room} {s : State} {m : MethodId} {args : Array Value} {below : List Frame} {meth : Method} {c : Code} {cc : ByteArray} {own : String} {nL : Nat} {ret : Option FieldType} {D : va_G} {cl : List vw_C} {sp : List wCell} {q : Nat → Nat} {ca : wCA} {A : Nat → Prop} {Q : State → Prop} {kc ks : Nat} {μ : wMem} {lv : List (Nat × Value)} {st : List Value} {a n : Nat} {f : Nat → Value} {i : Int32} {v : Value} (pc : Nat) (C : wC p R s m args meth c cc own nL ret D cl sp q ca A) (hd : decode cc pc = .ok (.baload, 1)) (hT : va_T .byte a n f A s s.heap) (hin : ok_in i n = true) (hv : f i.toNatClampNeg = v) (k : wJ p l e R s m args below meth c nL D cl sp q ca A Q kc ks μ (pc + 1) lv (v :: st)) : wJ p l e R s m args below meth c nL D cl sp q ca A Q kc ks μ pc lv (.int i :: .ref a :: st) :=
  fun H locs ls h1 h2 h3 => va_tb C.1 C.2.1 hT h2 (ok_in_vp hin) hv hd (k H locs ls h1 h2 h3)
/-- a call through an old object -/
theorem wr_OPi {p : Program} {l : Launch} {e : Env} {R : Room} {s : State} {m : MethodId} {args : Array Value} {below : List Frame} {meth : Method} {c : Code} {cc : ByteArray} {own : String} {nL : Nat} {ret : Option FieldType} {D : va_G} {cl : List vw_C} {sp : List wCell} {q : Nat → Nat} {ca : wCA} {A : Nat → Prop} {Q : State → Prop} {kc ks : Nat} {μ : wMem} {lv : List (Nat × Value)} {st : List Value} {Z : (Nat → Prop) → State → Heap → Prop} {y : MethodName} {cc1 : ByteArray} {nL1 ix a : Nat} {ret1 : Option FieldType} {rm : Room} {As : List Value} {sp1 : List wCell} {μ1 : wMem} {kc1 ks1 : Nat} {r0 : Int32} (pc : Nat) (rest : List Value) (C : wC p R s m args meth c cc own nL ret D cl sp q ca A) (hd : decode cc pc = .ok (.invokevirtual ix, 3)) (hM : wMPi Z l y cc1 nL1 ret1 rm D cl sp sp1 q ca (.ref a :: As) μ μ1 r0) (hO : wOkV y cc1 nL1 ret1 As.length) (hl : Cond.methodLink own ix y ∈ lw_all) (hr : ∀ (H : Heap) (locs : List Loc), va_S A s.heap H locs → ∃ cell : Cell, H[a]? = some cell ∧ cell.vm.isStatics = false ∧ s.vm.findClass y.cls = some cell.cls) (hok : wZok Z) (hZ : Z A s s.heap) (hlen : sp1.length = sp.length) (hF : wFit rm nL1 R kc ks kc1 ks1) (hw : (rest.map fun v => v.category).sum ≤ 8) (hst : st = As.reverse ++ .ref a :: rest) (k : wC p R s m args meth c cc own nL ret D cl sp1 q ca A → wJ p l e R s m args below meth c nL D cl sp1 q ca A Q kc1 ks1 μ1 (pc + 3) lv (.int r0 :: rest)) : wJ p l e R s m args below meth c nL D cl sp q ca A Q kc ks μ pc lv st := by
  intro H locs ls h1 h2 h3
  subst hst
  obtain ⟨f1, f2, f3, f4, f5, f6⟩ := hF
  subst f1; subst f2
  obtain ⟨o1, o2, o3, o4, o5⟩ := hO
  have hA := wA_in h2 C.2.2.2.2.2.2.2.2.2.1 C.2.2.2.2.2.2.2.2.2.2.1
  exact va_calli (va_runV (rest := rest) (As := As) ⟨C.1, C.2.1, C.2.2.1, C.2.2.2.1, C.2.2.2.2.1⟩ (hM H.size) (cwV As.length C.2.2.2.2.1 (lw_V hl o1 o2 o3 o4) rfl rfl rfl ⟨rfl, o5⟩ ⟨f3, f4⟩) ⟨w_blindK hok, hr H locs h2, fun U hU hW => ⟨rfl, by rw [hU], by rw [hU]; exact h1, va_K.moved hW.alike C.2.2.2.2.2.1, C.2.2.2.2.2.2.2.2.1, wNest_warm hW C.2.2.2.2.2.2.2.2.2.2.2, by rw [hU]; exact hok A (wA sp q H.size) s U H (Or.inl hW) hZ h2.2.1 hA⟩⟩ rfl rfl h3.1 rfl (lv_room hw) hd ⟨f5, f6⟩) h2 (fun a _ h => hA a h) hA (fun r u t H1 locs1 ht hvm hpost hB hz hk hS => by
    rw [ht] at hB
    rw [hpost]
    exact k (wC_len C hlen) H1 locs1 ls hB hS h3)
theorem wr_SPi {p : Program} {l : Launch} {e : Env} {R : Room} {s : State} {m : MethodId} {args : Array Value} {below : List Frame} {meth : Method} {c : Code} {cc : ByteArray} {own : String} {nL : Nat} {ret : Option FieldType} {D : va_G} {cl : List vw_C} {sp : List wCell} {q : Nat → Nat} {ca : wCA} {A : Nat → Prop} {Q : State → Prop} {kc ks : Nat} {μ : wMem} {lv : List (Nat × Value)} {st : List Value} {Z : (Nat → Prop) → State → Heap → Prop} {y : MethodName} {cc1 : ByteArray} {nL1 ix : Nat} {ret1 : Option FieldType} {rm : Room} {As : List Value} {sp1 : List wCell} {μ1 : wMem} {kc1 ks1 : Nat} {r0 : Int32} (pc : Nat) (rest : List Value) (C : wC p R s m args meth c cc own nL ret D cl sp q ca A) (hd : decode cc pc = .ok (.invokestatic ix, 3)) (hM : wMPi Z l y cc1 nL1 ret1 rm D cl sp sp1 q ca As μ μ1 r0) (hO : wOkS y cc1 nL1 ret1 As.length) (hl : Cond.methodLink own ix y ∈ lw_all) (hok : wZok Z) (hZ : Z A s s.heap) (hlen : sp1.length = sp.length) (hF : wFit rm nL1 R kc ks kc1 ks1) (hw : (rest.map fun v => v.category).sum ≤ 8) (hst : st = As.reverse ++ rest) (k : wC p R s m args meth c cc own nL ret D cl sp1 q ca A → wJ p l e R s m args below meth c nL D cl sp1 q ca A Q kc1 ks1 μ1 (pc + 3) lv (.int r0 :: rest)) : wJ p l e R s m args below meth c nL D cl sp q ca A Q kc ks μ pc lv st := by
  intro H locs ls h1 h2 h3
  subst hst
  obtain ⟨f1, f2, f3, f4, f5, f6⟩ := hF
  subst f1; subst f2
  obtain ⟨o1, o2, o3, o4⟩ := hO
  have hA := wA_in h2 C.2.2.2.2.2.2.2.2.2.1 C.2.2.2.2.2.2.2.2.2.2.1
  exact va_calli (va_runS (rest := rest) (As := As) ⟨C.1, C.2.1, C.2.2.1, C.2.2.2.1, C.2.2.2.2.1⟩ (hM H.size) (va_cwS As.length C.2.2.2.2.1 (lw_S hl o1 o2 o3) rfl rfl rfl o4 ⟨f3, f4⟩) ⟨w_blindK hok, fun U hU hW => ⟨rfl, by rw [hU], by rw [hU]; exact h1, va_K.moved hW.alike C.2.2.2.2.2.1, C.2.2.2.2.2.2.2.2.1, wNest_warm hW C.2.2.2.2.2.2.2.2.2.2.2, by rw [hU]; exact hok A (wA sp q H.size) s U H (Or.inl hW) hZ h2.2.1 hA⟩⟩ rfl rfl h3.1 rfl (lv_room hw) hd ⟨f5, f6⟩) h2 (fun a _ h => hA a h) hA (fun r u t H1 locs1 ht hvm hpost hB hz hk hS => by
    rw [ht] at hB
    rw [hpost]
    exact k (wC_len C hlen) H1 locs1 ls hB hS h3)
theorem wr_SPv {p : Program} {l : Launch} {e : Env} {R : Room} {s : State} {m : MethodId} {args : Array Value} {below : List Frame} {meth : Method} {c : Code} {cc : ByteArray} {own : String} {nL : Nat} {ret : Option FieldType} {D : va_G} {cl : List vw_C} {sp : List wCell} {q : Nat → Nat} {ca : wCA} {A : Nat → Prop} {Q : State → Prop} {kc ks : Nat} {μ : wMem} {lv : List (Nat × Value)} {st : List Value} {Z : (Nat → Prop) → State → Heap → Prop} {y : MethodName} {cc1 : ByteArray} {nL1 ix : Nat} {ret1 : Option FieldType} {rm : Room} {As : List Value} {sp1 : List wCell} {μ1 : wMem} {kc1 ks1 : Nat}  (pc : Nat) (rest : List Value) (C : wC p R s m args meth c cc own nL ret D cl sp q ca A) (hd : decode cc pc = .ok (.invokestatic ix, 3)) (hM : wMPv Z l y cc1 nL1 ret1 rm D cl sp sp1 q ca As μ μ1 ) (hO : wOkS y cc1 nL1 ret1 As.length) (hl : Cond.methodLink own ix y ∈ lw_all) (hok : wZok Z) (hZ : Z A s s.heap) (hlen : sp1.length = sp.length) (hF : wFit rm nL1 R kc ks kc1 ks1) (hw : (rest.map fun v => v.category).sum ≤ 8) (hst : st = As.reverse ++ rest) (k : wC p R s m args meth c cc own nL ret D cl sp1 q ca A → wJ p l e R s m args below meth c nL D cl sp1 q ca A Q kc1 ks1 μ1 (pc + 3) lv rest) : wJ p l e R s m args below meth c nL D cl sp q ca A Q kc ks μ pc lv st := by
  intro H locs ls h1 h2 h3
  subst hst
  obtain ⟨f1, f2, f3, f4, f5, f6⟩ := hF
  subst f1; subst f2
  obtain ⟨o1, o2, o3, o4⟩ := hO
  have hA := wA_in h2 C.2.2.2.2.2.2.2.2.2.1 C.2.2.2.2.2.2.2.2.2.2.1
  exact va_callv (va_runS (rest := rest) (As := As) ⟨C.1, C.2.1, C.2.2.1, C.2.2.2.1, C.2.2.2.2.1⟩ (hM H.size) (va_cwS As.length C.2.2.2.2.1 (lw_S hl o1 o2 o3) rfl rfl rfl o4 ⟨f3, f4⟩) ⟨w_blindK hok, fun U hU hW => ⟨rfl, by rw [hU], by rw [hU]; exact h1, va_K.moved hW.alike C.2.2.2.2.2.1, C.2.2.2.2.2.2.2.2.1, wNest_warm hW C.2.2.2.2.2.2.2.2.2.2.2, by rw [hU]; exact hok A (wA sp q H.size) s U H (Or.inl hW) hZ h2.2.1 hA⟩⟩ rfl rfl h3.1 rfl (lv_room hw) hd ⟨f5, f6⟩) h2 (fun a _ h => hA a h) hA (fun u t H1 locs1 ht hvm hpost hB hz hk hS => by
    rw [ht] at hB
    exact k (wC_len C hlen) H1 locs1 ls hB hS h3)
/-- the old strings: their objects, their bytes; what the JDK asks of its own statics -/
def wZs (n : Nat) (len : List Nat) (byt : List (List Int32)) (adK adV : Nat → Nat) (fo : Option Nat) (A : Nat → Prop) (U : State) (H : Heap) : Prop := vk_S n len byt adK adV A U H ∧ va_Z "java/lang/String" "COMPACT_STRINGS" "Z" (.int 1) A U H ∧ va_Z "jdk/internal/util/Preconditions" "SIOOBE_FORMATTER" "Ljava/util/function/BiFunction;" (va_rf fo) A U H
theorem wZs_ok {n : Nat} {len : List Nat} {byt : List (List Int32)} {adK adV : Nat → Nat} {fo : Option Nat} : wZok (wZs n len byt adK adV fo) := fun A B s U H hv h hk hn => ⟨vk_S.narrow (vk_S.moved hv.alike (vk_S.kept h.1 hk)) hn, va_Z.narrow (va_Z.moved hv.alike (va_Z.kept h.2.1 hk)) hn, va_Z.narrow (va_Z.moved hv.alike (va_Z.kept h.2.2 hk)) hn⟩
theorem shr0 (x : Int32) : x >>> ((0 : Int32) &&& 31) = x := by
  have h : ((0 : Int32) &&& 31) = 0 := by decide
  rw [h]
  exact Int32.shiftRight_zero
/-- the char of a byte -/
def wCh (b : Int32) : Int32 := ((b &&& 255).toUInt32 % 65536).toInt32
abbrev cJ4_coder : ByteArray := prog_27_method_152_code
def yJ4_coder : MethodName := ⟨RJ4, "coder", "()B"⟩
def dkwJ4_coder_0 : List UInt8 := [178, 0, 38, 153, 0, 10, 42, 180, 0, 15, 167, 0, 4, 4, 172]
abbrev dktJ4_coder_0 : List UInt8 := dkwJ4_coder_0 ++ []
theorem dksJ4_coder_0 : cJ4_coder.data.toList.drop 0 = dktJ4_coder_0 := by decide +kernel
theorem dJ4_coder_0 : decode cJ4_coder 0 = .ok (.getstatic 38, 3) := dk_178 0 38 (dk_at dksJ4_coder_0 0 rfl rfl)
theorem dJ4_coder_3 : decode cJ4_coder 3 = .ok (.ifCond .eq 10, 3) := dk_153 0 10 (dk_at dksJ4_coder_0 3 rfl rfl)
theorem dJ4_coder_6 : decode cJ4_coder 6 = .ok (.aload_n 0, 1) := dk_42 (dk_at dksJ4_coder_0 6 rfl rfl)
theorem dJ4_coder_7 : decode cJ4_coder 7 = .ok (.getfield 15, 3) := dk_180 0 15 (dk_at dksJ4_coder_0 7 rfl rfl)
theorem dJ4_coder_10 : decode cJ4_coder 10 = .ok (.goto 4, 3) := dk_167 0 4 (dk_at dksJ4_coder_0 10 rfl rfl)
theorem dJ4_coder_13 : decode cJ4_coder 13 = .ok (.iconst 1, 1) := dk_4 (dk_at dksJ4_coder_0 13 rfl rfl)
theorem dJ4_coder_14 : decode cJ4_coder 14 = .ok (.ireturn, 1) := dk_172 (dk_at dksJ4_coder_0 14 rfl rfl)
theorem okJ4_coder : wOkV yJ4_coder cJ4_coder 1 (some .byte) 0 := ⟨q533, q534, q150, q535, by decide, by decide, by decide +kernel⟩
abbrev cJ4_isLatin1 : ByteArray := prog_27_method_154_code
def yJ4_isLatin1 : MethodName := ⟨RJ4, "isLatin1", "()Z"⟩
def dkwJ4_isLatin1_0 : List UInt8 := [178, 0, 38, 153, 0, 14, 42, 180, 0, 15, 154, 0, 7, 4, 167, 0, 4, 3, 172]
abbrev dktJ4_isLatin1_0 : List UInt8 := dkwJ4_isLatin1_0 ++ []
theorem dksJ4_isLatin1_0 : cJ4_isLatin1.data.toList.drop 0 = dktJ4_isLatin1_0 := by decide +kernel
theorem dJ4_isLatin1_0 : decode cJ4_isLatin1 0 = .ok (.getstatic 38, 3) := dk_178 0 38 (dk_at dksJ4_isLatin1_0 0 rfl rfl)
theorem dJ4_isLatin1_3 : decode cJ4_isLatin1 3 = .ok (.ifCond .eq 14, 3) := dk_153 0 14 (dk_at dksJ4_isLatin1_0 3 rfl rfl)
theorem dJ4_isLatin1_6 : decode cJ4_isLatin1 6 = .ok (.aload_n 0, 1) := dk_42 (dk_at dksJ4_isLatin1_0 6 rfl rfl)
theorem dJ4_isLatin1_7 : decode cJ4_isLatin1 7 = .ok (.getfield 15, 3) := dk_180 0 15 (dk_at dksJ4_isLatin1_0 7 rfl rfl)
theorem dJ4_isLatin1_10 : decode cJ4_isLatin1 10 = .ok (.ifCond .ne 7, 3) := dk_154 0 7 (dk_at dksJ4_isLatin1_0 10 rfl rfl)
theorem dJ4_isLatin1_13 : decode cJ4_isLatin1 13 = .ok (.iconst 1, 1) := dk_4 (dk_at dksJ4_isLatin1_0 13 rfl rfl)
theorem dJ4_isLatin1_14 : decode cJ4_isLatin1 14 = .ok (.goto 4, 3) := dk_167 0 4 (dk_at dksJ4_isLatin1_0 14 rfl rfl)
theorem dJ4_isLatin1_17 : decode cJ4_isLatin1 17 = .ok (.iconst 0, 1) := dk_3 (dk_at dksJ4_isLatin1_0 17 rfl rfl)
theorem dJ4_isLatin1_18 : decode cJ4_isLatin1 18 = .ok (.ireturn, 1) := dk_172 (dk_at dksJ4_isLatin1_0 18 rfl rfl)
theorem okJ4_isLatin1 : wOkV yJ4_isLatin1 cJ4_isLatin1 1 (some .boolean) 0 := ⟨q543, q544, q150, q545, by decide, by decide, by decide +kernel⟩
abbrev cJ4_length : ByteArray := prog_27_method_54_code
def yJ4_length : MethodName := ⟨RJ4, "length", "()I"⟩
def dkwJ4_length_0 : List UInt8 := [42, 180, 0, 9, 190, 42, 182, 1, 79, 122, 172]
abbrev dktJ4_length_0 : List UInt8 := dkwJ4_length_0 ++ []
theorem dksJ4_length_0 : cJ4_length.data.toList.drop 0 = dktJ4_length_0 := by decide +kernel
theorem dJ4_length_0 : decode cJ4_length 0 = .ok (.aload_n 0, 1) := dk_42 (dk_at dksJ4_length_0 0 rfl rfl)
theorem dJ4_length_1 : decode cJ4_length 1 = .ok (.getfield 9, 3) := dk_180 0 9 (dk_at dksJ4_length_0 1 rfl rfl)
theorem dJ4_length_4 : decode cJ4_length 4 = .ok (.arraylength, 1) := dk_190 (dk_at dksJ4_length_0 4 rfl rfl)
theorem dJ4_length_5 : decode cJ4_length 5 = .ok (.aload_n 0, 1) := dk_42 (dk_at dksJ4_length_0 5 rfl rfl)
theorem dJ4_length_6 : decode cJ4_length 6 = .ok (.invokevirtual 335, 3) := dk_182 1 79 (dk_at dksJ4_length_0 6 rfl rfl)
theorem dJ4_length_9 : decode cJ4_length 9 = .ok (.ishr, 1) := dk_122 (dk_at dksJ4_length_0 9 rfl rfl)
theorem dJ4_length_10 : decode cJ4_length 10 = .ok (.ireturn, 1) := dk_172 (dk_at dksJ4_length_0 10 rfl rfl)
theorem okJ4_length : wOkV yJ4_length cJ4_length 1 (some .int) 0 := ⟨q529, q530, q150, q531, by decide, by decide, by decide +kernel⟩
abbrev cJ4_checkIndex : ByteArray := prog_27_method_155_code
def yJ4_checkIndex : MethodName := ⟨RJ4, "checkIndex", "(II)V"⟩
def dkwJ4_checkIndex_0 : List UInt8 := [26, 27, 178, 4, 29, 184, 4, 35, 87, 177]
abbrev dktJ4_checkIndex_0 : List UInt8 := dkwJ4_checkIndex_0 ++ []
theorem dksJ4_checkIndex_0 : cJ4_checkIndex.data.toList.drop 0 = dktJ4_checkIndex_0 := by decide +kernel
theorem dJ4_checkIndex_0 : decode cJ4_checkIndex 0 = .ok (.iload_n 0, 1) := dk_26 (dk_at dksJ4_checkIndex_0 0 rfl rfl)
theorem dJ4_checkIndex_1 : decode cJ4_checkIndex 1 = .ok (.iload_n 1, 1) := dk_27 (dk_at dksJ4_checkIndex_0 1 rfl rfl)
theorem dJ4_checkIndex_2 : decode cJ4_checkIndex 2 = .ok (.getstatic 1053, 3) := dk_178 4 29 (dk_at dksJ4_checkIndex_0 2 rfl rfl)
theorem dJ4_checkIndex_5 : decode cJ4_checkIndex 5 = .ok (.invokestatic 1059, 3) := dk_184 4 35 (dk_at dksJ4_checkIndex_0 5 rfl rfl)
theorem dJ4_checkIndex_8 : decode cJ4_checkIndex 8 = .ok (.pop, 1) := dk_87 (dk_at dksJ4_checkIndex_0 8 rfl rfl)
theorem dJ4_checkIndex_9 : decode cJ4_checkIndex 9 = .ok (.return_, 1) := dk_177 (dk_at dksJ4_checkIndex_0 9 rfl rfl)
theorem okJ4_checkIndex : wOkS yJ4_checkIndex cJ4_checkIndex 2 none 2 := ⟨q550, q150, q551, by decide, by decide, by decide +kernel⟩
abbrev cJ5_charAt : ByteArray := prog_28_method_2_code
def yJ5_charAt : MethodName := ⟨RJ5, "charAt", "([BI)C"⟩
def dkwJ5_charAt_0 : List UInt8 := [27, 42, 190, 184, 0, 9, 42, 27, 51, 17, 0, 255, 126, 146, 172]
abbrev dktJ5_charAt_0 : List UInt8 := dkwJ5_charAt_0 ++ []
theorem dksJ5_charAt_0 : cJ5_charAt.data.toList.drop 0 = dktJ5_charAt_0 := by decide +kernel
theorem dJ5_charAt_0 : decode cJ5_charAt 0 = .ok (.iload_n 1, 1) := dk_27 (dk_at dksJ5_charAt_0 0 rfl rfl)
theorem dJ5_charAt_1 : decode cJ5_charAt 1 = .ok (.aload_n 0, 1) := dk_42 (dk_at dksJ5_charAt_0 1 rfl rfl)
theorem dJ5_charAt_2 : decode cJ5_charAt 2 = .ok (.arraylength, 1) := dk_190 (dk_at dksJ5_charAt_0 2 rfl rfl)
theorem dJ5_charAt_3 : decode cJ5_charAt 3 = .ok (.invokestatic 9, 3) := dk_184 0 9 (dk_at dksJ5_charAt_0 3 rfl rfl)
theorem dJ5_charAt_6 : decode cJ5_charAt 6 = .ok (.aload_n 0, 1) := dk_42 (dk_at dksJ5_charAt_0 6 rfl rfl)
theorem dJ5_charAt_7 : decode cJ5_charAt 7 = .ok (.iload_n 1, 1) := dk_27 (dk_at dksJ5_charAt_0 7 rfl rfl)
theorem dJ5_charAt_8 : decode cJ5_charAt 8 = .ok (.baload, 1) := dk_51 (dk_at dksJ5_charAt_0 8 rfl rfl)
theorem dJ5_charAt_9 : decode cJ5_charAt 9 = .ok (.sipush 255, 3) := dk_17 0 255 (dk_at dksJ5_charAt_0 9 rfl rfl)
theorem dJ5_charAt_12 : decode cJ5_charAt 12 = .ok (.iand, 1) := dk_126 (dk_at dksJ5_charAt_0 12 rfl rfl)
theorem dJ5_charAt_13 : decode cJ5_charAt 13 = .ok (.i2c, 1) := dk_146 (dk_at dksJ5_charAt_0 13 rfl rfl)
theorem dJ5_charAt_14 : decode cJ5_charAt 14 = .ok (.ireturn, 1) := dk_172 (dk_at dksJ5_charAt_0 14 rfl rfl)
theorem okJ5_charAt : wOkS yJ5_charAt cJ5_charAt 2 (some .char) 2 := ⟨q547, q151, q548, by decide, by decide, by decide +kernel⟩
abbrev cJ4_charAt : ByteArray := prog_27_method_56_code
def yJ4_charAt : MethodName := ⟨RJ4, "charAt", "(I)C"⟩
def dkwJ4_charAt_1 : List UInt8 := [172]
abbrev dktJ4_charAt_1 : List UInt8 := dkwJ4_charAt_1 ++ []
def dkwJ4_charAt_0 : List UInt8 := [42, 182, 1, 236, 153, 0, 12, 42, 180, 0, 9, 27, 184, 1, 239, 172, 42, 180, 0, 9, 27, 184, 1, 242]
abbrev dktJ4_charAt_0 : List UInt8 := dkwJ4_charAt_0 ++ dktJ4_charAt_1
theorem dksJ4_charAt_0 : cJ4_charAt.data.toList.drop 0 = dktJ4_charAt_0 := by decide +kernel
theorem dksJ4_charAt_1 : cJ4_charAt.data.toList.drop 24 = dktJ4_charAt_1 := dk_seg dksJ4_charAt_0 24 rfl rfl
theorem dJ4_charAt_0 : decode cJ4_charAt 0 = .ok (.aload_n 0, 1) := dk_42 (dk_at dksJ4_charAt_0 0 rfl rfl)
theorem dJ4_charAt_1 : decode cJ4_charAt 1 = .ok (.invokevirtual 492, 3) := dk_182 1 236 (dk_at dksJ4_charAt_0 1 rfl rfl)
theorem dJ4_charAt_4 : decode cJ4_charAt 4 = .ok (.ifCond .eq 12, 3) := dk_153 0 12 (dk_at dksJ4_charAt_0 4 rfl rfl)
theorem dJ4_charAt_7 : decode cJ4_charAt 7 = .ok (.aload_n 0, 1) := dk_42 (dk_at dksJ4_charAt_0 7 rfl rfl)
theorem dJ4_charAt_8 : decode cJ4_charAt 8 = .ok (.getfield 9, 3) := dk_180 0 9 (dk_at dksJ4_charAt_0 8 rfl rfl)
theorem dJ4_charAt_11 : decode cJ4_charAt 11 = .ok (.iload_n 1, 1) := dk_27 (dk_at dksJ4_charAt_0 11 rfl rfl)
theorem dJ4_charAt_12 : decode cJ4_charAt 12 = .ok (.invokestatic 495, 3) := dk_184 1 239 (dk_at dksJ4_charAt_0 12 rfl rfl)
theorem dJ4_charAt_15 : decode cJ4_charAt 15 = .ok (.ireturn, 1) := dk_172 (dk_at dksJ4_charAt_0 15 rfl rfl)
theorem dJ4_charAt_16 : decode cJ4_charAt 16 = .ok (.aload_n 0, 1) := dk_42 (dk_at dksJ4_charAt_0 16 rfl rfl)
theorem dJ4_charAt_17 : decode cJ4_charAt 17 = .ok (.getfield 9, 3) := dk_180 0 9 (dk_at dksJ4_charAt_0 17 rfl rfl)
theorem dJ4_charAt_20 : decode cJ4_charAt 20 = .ok (.iload_n 1, 1) := dk_27 (dk_at dksJ4_charAt_0 20 rfl rfl)
theorem dJ4_charAt_21 : decode cJ4_charAt 21 = .ok (.invokestatic 498, 3) := dk_184 1 242 (dk_at dksJ4_charAt_0 21 rfl rfl)
theorem dJ4_charAt_24 : decode cJ4_charAt 24 = .ok (.ireturn, 1) := dk_172 (dk_at dksJ4_charAt_1 0 rfl rfl)
theorem okJ4_charAt : wOkV yJ4_charAt cJ4_charAt 2 (some .char) 1 := ⟨q539, q540, q150, q541, by decide, by decide, by decide +kernel⟩
theorem tJ6_checkIndexR (l : Launch) {D : va_G} {q : Nat → Nat} {ca : wCA} {sp : List wCell} {i k : Int32} {a : Nat} (hi : ¬ i < 0) (hk : i < k) (μ : wMem) : wMi l yJ6_checkIndex cJ6_checkIndex 3 (some .int) ({ frames := 0, cells := 0, slots := 0, locals := 0 } : Room) D vwCl sp q ca [.int i, .int k, .ref a] μ (i, μ) := by
  refine wMi_intro (by decide) (Nat.le_of_ble_eq_true rfl) ?_
  intro p e s m args below meth c A C
  refine wr_sub [(0, .int i), (1, .int k)] [0, 1] rfl ?_
  refine wr_iload_n 0 C dJ6_checkIndex_0 0 rfl rfl ?_
  refine wr_if_lt 1 9 C dJ6_checkIndex_1 (by decide) (fun h => absurd h hi) (fun _ => ?_)
  refine wr_iload_n 4 C dJ6_checkIndex_4 0 rfl rfl ?_
  refine wr_iload_n 5 C dJ6_checkIndex_5 1 rfl rfl ?_
  refine wr_icmp_lt 6 16 C dJ6_checkIndex_6 (by decide) (fun _ => ?_) (fun h => absurd hk h)
  refine wr_iload_n 16 C dJ6_checkIndex_16 0 rfl rfl ?_
  exact wr_iret 17 C dJ6_checkIndex_17 ⟨Nat.le_refl _, Nat.le_refl _⟩ rfl
theorem tJ6_checkIndexQ (l : Launch) {D : va_G} {q : Nat → Nat} {ca : wCA} {sp : List wCell} {i k : Int32} {a : Option Nat} (hi : ¬ i < 0) (hk : i < k) (μ : wMem) : wMi l yJ6_checkIndex cJ6_checkIndex 3 (some .int) ({ frames := 0, cells := 0, slots := 0, locals := 0 } : Room) D vwCl sp q ca [.int i, .int k, va_rf a] μ (i, μ) := by
  cases a with
  | none => exact tJ6_checkIndex l hi hk μ
  | some a => exact tJ6_checkIndexR l hi hk μ
theorem tJ4_coder (l : Launch) {D : va_G} {q : Nat → Nat} {ca : wCA} {sp : List wCell} {n : Nat} {len : List Nat} {byt : List (List Int32)} {adK adV : Nat → Nat} {fo : Option Nat} {i : Nat} (hi : i < n) (μ : wMem) : wMPi (wZs n len byt adK adV fo) l yJ4_coder cJ4_coder 1 (some .byte) ({ frames := 0, cells := 0, slots := 0, locals := 0 } : Room) D vwCl sp sp q ca [.ref (adK i)] μ μ 0 := by
  refine wMPi_intro (by decide) (Nat.le_of_ble_eq_true rfl) ?_
  intro p e s m args below meth c A C hZ
  refine wr_sub [(0, .ref (adK i))] [0] rfl ?_
  refine wr_getsI 0 C dJ4_coder_0 hZ.2.1 q536 ?_
  refine wr_if_eq 3 13 C dJ4_coder_3 (by decide) (fun h => absurd h (by decide)) (fun _ => ?_)
  refine wr_aload_n 6 C dJ4_coder_6 0 rfl rfl ?_
  refine wr_getfO 7 C dJ4_coder_7 (hZ.1.1 i hi).2.1 q2134 ?_
  refine wr_goto 10 C dJ4_coder_10 (tgt := 14) (by decide) ?_
  exact wr_retPn 14 C dJ4_coder_14 rfl rfl ⟨Nat.le_refl _, Nat.le_refl _⟩ rfl
theorem tJ4_isLatin1 (l : Launch) {D : va_G} {q : Nat → Nat} {ca : wCA} {sp : List wCell} {n : Nat} {len : List Nat} {byt : List (List Int32)} {adK adV : Nat → Nat} {fo : Option Nat} {i : Nat} (hi : i < n) (μ : wMem) : wMPi (wZs n len byt adK adV fo) l yJ4_isLatin1 cJ4_isLatin1 1 (some .boolean) ({ frames := 0, cells := 0, slots := 0, locals := 0 } : Room) D vwCl sp sp q ca [.ref (adK i)] μ μ 1 := by
  refine wMPi_intro (by decide) (Nat.le_of_ble_eq_true rfl) ?_
  intro p e s m args below meth c A C hZ
  refine wr_sub [(0, .ref (adK i))] [0] rfl ?_
  refine wr_getsI 0 C dJ4_isLatin1_0 hZ.2.1 q536 ?_
  refine wr_if_eq 3 17 C dJ4_isLatin1_3 (by decide) (fun h => absurd h (by decide)) (fun _ => ?_)
  refine wr_aload_n 6 C dJ4_isLatin1_6 0 rfl rfl ?_
  refine wr_getfO 7 C dJ4_isLatin1_7 (hZ.1.1 i hi).2.1 q2134 ?_
  refine wr_if_ne 10 17 C dJ4_isLatin1_10 (by decide) (fun h => absurd rfl h) (fun _ => ?_)
  refine wr_iconst 13 C dJ4_isLatin1_13 (v := 1) rfl ?_
  refine wr_goto 14 C dJ4_isLatin1_14 (tgt := 18) (by decide) ?_
  exact wr_retPn 18 C dJ4_isLatin1_18 rfl rfl ⟨Nat.le_refl _, Nat.le_refl _⟩ rfl
theorem tJ4_length (l : Launch) {D : va_G} {q : Nat → Nat} {ca : wCA} {sp : List wCell} {n : Nat} {len : List Nat} {byt : List (List Int32)} {adK adV : Nat → Nat} {fo : Option Nat} {i : Nat} (hi : i < n) (μ : wMem) : wMPi (wZs n len byt adK adV fo) l yJ4_length cJ4_length 1 (some .int) ({ frames := 1, cells := 0, slots := 0, locals := 20 } : Room) D vwCl sp sp q ca [.ref (adK i)] μ μ (Int32.ofNat (len.getD i 0)) := by
  refine wMPi_intro (by decide) (Nat.le_of_ble_eq_true rfl) ?_
  intro p e s m args below meth c A C hZ
  refine wr_sub [(0, .ref (adK i))] [0] rfl ?_
  refine wr_aload_n 0 C dJ4_length_0 0 rfl rfl ?_
  refine wr_getfO 1 C dJ4_length_1 (hZ.1.1 i hi).2.2.1 q2133 ?_
  refine wr_lenO 4 C dJ4_length_4 (hZ.1.1 i hi).2.2.2 ?_
  refine wr_aload_n 5 C dJ4_length_5 0 rfl rfl ?_
  refine wr_OPi (kc1 := 0) (ks1 := 0) (As := []) (a := adK i) 6 [.int (Int32.ofNat (len.getD i 0))] C dJ4_length_6 (tJ4_coder l hi μ) okJ4_coder q532 (fun H locs hS => vk_recv hZ.1 hi hS) wZs_ok hZ rfl ⟨rfl, rfl, Nat.le_of_ble_eq_true rfl, Nat.le_of_ble_eq_true rfl, Nat.zero_le _, Nat.zero_le _⟩ (Nat.le_of_ble_eq_true rfl) rfl ?_
  intro C1
  refine wr_ishr 9 C1 dJ4_length_9 ?_
  rw [shr0]
  exact wr_retPi 10 C1 dJ4_length_10 ⟨Nat.le_refl _, Nat.le_refl _⟩ rfl
theorem tJ4_checkIndex (l : Launch) {D : va_G} {q : Nat → Nat} {ca : wCA} {sp : List wCell} {n : Nat} {len : List Nat} {byt : List (List Int32)} {adK adV : Nat → Nat} {fo : Option Nat} {j k : Int32} (hj : ¬ j < 0) (hk : j < k) (μ : wMem) : wMPv (wZs n len byt adK adV fo) l yJ4_checkIndex cJ4_checkIndex 2 none ({ frames := 1, cells := 0, slots := 0, locals := 22 } : Room) D vwCl sp sp q ca [.int j, .int k] μ μ := by
  refine wMPv_intro (by decide) (Nat.le_of_ble_eq_true rfl) ?_
  intro p e s m args below meth c A C hZ
  refine wr_sub [(0, .int j), (1, .int k)] [0, 1] rfl ?_
  refine wr_iload_n 0 C dJ4_checkIndex_0 0 rfl rfl ?_
  refine wr_iload_n 1 C dJ4_checkIndex_1 1 rfl rfl ?_
  refine wr_getsV 2 C dJ4_checkIndex_2 hZ.2.2 q552 ?_
  refine wr_Si (kc1 := 0) (ks1 := 0) (As := [.int j, .int k, va_rf fo]) 5 [] C dJ4_checkIndex_5 (tJ6_checkIndexQ l hj hk μ) okJ6_checkIndex q554 ⟨rfl, rfl, Nat.le_of_ble_eq_true rfl, Nat.le_of_ble_eq_true rfl, Nat.zero_le _, Nat.zero_le _⟩ (Nat.le_of_ble_eq_true rfl) rfl ?_
  refine wr_pop 8 C dJ4_checkIndex_8 rfl ?_
  exact wr_retPv 9 C dJ4_checkIndex_9 ⟨Nat.le_refl _, Nat.le_refl _⟩ rfl
theorem narrow_wCh (b : Int32) : narrow .char (.int (wCh b)) = .int (wCh b) := pk_nc _
theorem tJ5_charAt (l : Launch) {D : va_G} {q : Nat → Nat} {ca : wCA} {sp : List wCell} {n : Nat} {len : List Nat} {byt : List (List Int32)} {adK adV : Nat → Nat} {fo : Option Nat} {i : Nat} (hi : i < n) {j : Int32} (hj : ¬ j < 0) (hk : j < Int32.ofNat (len.getD i 0)) (hin : ok_in j (len.getD i 0) = true) (μ : wMem) : wMPi (wZs n len byt adK adV fo) l yJ5_charAt cJ5_charAt 2 (some .char) ({ frames := 2, cells := 0, slots := 0, locals := 43 } : Room) D vwCl sp sp q ca [.ref (adV i), .int j] μ μ (wCh ((byt.getD i []).getD j.toNatClampNeg 0)) := by
  refine wMPi_intro (by decide) (Nat.le_of_ble_eq_true rfl) ?_
  intro p e s m args below meth c A C hZ
  refine wr_sub [(0, .ref (adV i)), (1, .int j)] [0, 1] rfl ?_
  refine wr_iload_n 0 C dJ5_charAt_0 1 rfl rfl ?_
  refine wr_aload_n 1 C dJ5_charAt_1 0 rfl rfl ?_
  refine wr_lenO 2 C dJ5_charAt_2 (hZ.1.1 i hi).2.2.2 ?_
  refine wr_SPv (kc1 := 0) (ks1 := 0) (As := [.int j, .int (Int32.ofNat (len.getD i 0))]) 3 [] C dJ5_charAt_3 (tJ4_checkIndex l hj hk μ) okJ4_checkIndex q549 wZs_ok hZ rfl ⟨rfl, rfl, Nat.le_of_ble_eq_true rfl, Nat.le_of_ble_eq_true rfl, Nat.zero_le _, Nat.zero_le _⟩ (Nat.le_of_ble_eq_true rfl) rfl ?_
  intro C1
  refine wr_aload_n 6 C1 dJ5_charAt_6 0 rfl rfl ?_
  refine wr_iload_n 7 C1 dJ5_charAt_7 1 rfl rfl ?_
  refine wr_baldO 8 C1 dJ5_charAt_8 (hZ.1.1 i hi).2.2.2 hin rfl ?_
  refine wr_sipush 9 C1 dJ5_charAt_9 (v := 255) rfl ?_
  refine wr_iand 12 C1 dJ5_charAt_12 ?_
  refine wr_i2c 13 C1 dJ5_charAt_13 ?_
  exact wr_retPn 14 C1 dJ5_charAt_14 (narrow_wCh _) rfl ⟨Nat.le_refl _, Nat.le_refl _⟩ rfl
theorem tJ4_charAt (l : Launch) {D : va_G} {q : Nat → Nat} {ca : wCA} {sp : List wCell} {n : Nat} {len : List Nat} {byt : List (List Int32)} {adK adV : Nat → Nat} {fo : Option Nat} {i : Nat} (hi : i < n) {j : Int32} (hj : ¬ j < 0) (hk : j < Int32.ofNat (len.getD i 0)) (hin : ok_in j (len.getD i 0) = true) (μ : wMem) : wMPi (wZs n len byt adK adV fo) l yJ4_charAt cJ4_charAt 2 (some .char) ({ frames := 3, cells := 0, slots := 0, locals := 64 } : Room) D vwCl sp sp q ca [.ref (adK i), .int j] μ μ (wCh ((byt.getD i []).getD j.toNatClampNeg 0)) := by
  refine wMPi_intro (by decide) (Nat.le_of_ble_eq_true rfl) ?_
  intro p e s m args below meth c A C hZ
  refine wr_sub [(0, .ref (adK i)), (1, .int j)] [0, 1] rfl ?_
  refine wr_aload_n 0 C dJ4_charAt_0 0 rfl rfl ?_
  refine wr_OPi (kc1 := 0) (ks1 := 0) (As := []) (a := adK i) 1 [] C dJ4_charAt_1 (tJ4_isLatin1 l hi μ) okJ4_isLatin1 q542 (fun H locs hS => vk_recv hZ.1 hi hS) wZs_ok hZ rfl ⟨rfl, rfl, Nat.le_of_ble_eq_true rfl, Nat.le_of_ble_eq_true rfl, Nat.zero_le _, Nat.zero_le _⟩ (Nat.le_of_ble_eq_true rfl) rfl ?_
  intro C1
  refine wr_if_eq 4 16 C1 dJ4_charAt_4 (by decide) (fun h => absurd h (by decide)) (fun _ => ?_)
  refine wr_aload_n 7 C1 dJ4_charAt_7 0 rfl rfl ?_
  refine wr_getfO 8 C1 dJ4_charAt_8 (hZ.1.1 i hi).2.2.1 q2133 ?_
  refine wr_iload_n 11 C1 dJ4_charAt_11 1 rfl rfl ?_
  refine wr_SPi (kc1 := 0) (ks1 := 0) (As := [.ref (adV i), .int j]) 12 [] C1 dJ4_charAt_12 (tJ5_charAt l hi hj hk hin μ) okJ5_charAt q546 wZs_ok hZ rfl ⟨rfl, rfl, Nat.le_of_ble_eq_true rfl, Nat.le_of_ble_eq_true rfl, Nat.zero_le _, Nat.zero_le _⟩ (Nat.le_of_ble_eq_true rfl) rfl ?_
  intro C2
  exact wr_retPn 15 C2 dJ4_charAt_15 (narrow_wCh _) rfl ⟨Nat.le_refl _, Nat.le_refl _⟩ rfl
