set_option maxRecDepth 100000
abbrev cX1_copy : ByteArray := prog_4_method_2_code
def yX1_copy : MethodName := ⟨RX1, "copy", "()LOnePassport$Family;"⟩
def dkwX1_copy_6 : List UInt8 := [42, 180, 0, 27, 3, 43, 180, 0, 27, 3, 16, 40, 184, 0, 57, 43, 176]
abbrev dktX1_copy_6 : List UInt8 := dkwX1_copy_6 ++ []
def dkwX1_copy_5 : List UInt8 := [3, 43, 180, 0, 21, 3, 5, 184, 0, 57, 42, 180, 0, 24, 3, 43, 180, 0, 24, 3, 5, 184, 0, 57]
abbrev dktX1_copy_5 : List UInt8 := dkwX1_copy_5 ++ dktX1_copy_6
def dkwX1_copy_4 : List UInt8 := [3, 16, 6, 184, 0, 57, 42, 180, 0, 18, 3, 43, 180, 0, 18, 3, 5, 184, 0, 57, 42, 180, 0, 21]
abbrev dktX1_copy_4 : List UInt8 := dkwX1_copy_4 ++ dktX1_copy_5
def dkwX1_copy_3 : List UInt8 := [42, 180, 0, 9, 3, 43, 180, 0, 9, 3, 16, 6, 184, 0, 57, 42, 180, 0, 15, 3, 43, 180, 0, 15]
abbrev dktX1_copy_3 : List UInt8 := dkwX1_copy_3 ++ dktX1_copy_4
def dkwX1_copy_2 : List UInt8 := [43, 42, 180, 0, 47, 181, 0, 47, 43, 42, 180, 0, 50, 181, 0, 50, 43, 42, 180, 0, 53, 181, 0, 53]
abbrev dktX1_copy_2 : List UInt8 := dkwX1_copy_2 ++ dktX1_copy_3
def dkwX1_copy_1 : List UInt8 := [43, 42, 180, 0, 38, 181, 0, 38, 43, 42, 180, 0, 41, 181, 0, 41, 43, 42, 180, 0, 44, 181, 0, 44]
abbrev dktX1_copy_1 : List UInt8 := dkwX1_copy_1 ++ dktX1_copy_2
def dkwX1_copy_0 : List UInt8 := [187, 0, 10, 89, 183, 0, 30, 76, 43, 42, 180, 0, 31, 181, 0, 31, 43, 42, 180, 0, 35, 181, 0, 35]
abbrev dktX1_copy_0 : List UInt8 := dkwX1_copy_0 ++ dktX1_copy_1
theorem dksX1_copy_0 : cX1_copy.data.toList.drop 0 = dktX1_copy_0 := by decide +kernel
theorem dksX1_copy_1 : cX1_copy.data.toList.drop 24 = dktX1_copy_1 := dk_seg dksX1_copy_0 24 rfl rfl
theorem dksX1_copy_2 : cX1_copy.data.toList.drop 48 = dktX1_copy_2 := dk_seg dksX1_copy_1 24 rfl rfl
theorem dksX1_copy_3 : cX1_copy.data.toList.drop 72 = dktX1_copy_3 := dk_seg dksX1_copy_2 24 rfl rfl
theorem dksX1_copy_4 : cX1_copy.data.toList.drop 96 = dktX1_copy_4 := dk_seg dksX1_copy_3 24 rfl rfl
theorem dksX1_copy_5 : cX1_copy.data.toList.drop 120 = dktX1_copy_5 := dk_seg dksX1_copy_4 24 rfl rfl
theorem dksX1_copy_6 : cX1_copy.data.toList.drop 144 = dktX1_copy_6 := dk_seg dksX1_copy_5 24 rfl rfl
theorem dX1_copy_0 : decode cX1_copy 0 = .ok (.new 10, 3) := dk_187 0 10 (dk_at dksX1_copy_0 0 rfl rfl)
theorem dX1_copy_3 : decode cX1_copy 3 = .ok (.dup, 1) := dk_89 (dk_at dksX1_copy_0 3 rfl rfl)
theorem dX1_copy_4 : decode cX1_copy 4 = .ok (.invokespecial 30, 3) := dk_183 0 30 (dk_at dksX1_copy_0 4 rfl rfl)
theorem dX1_copy_7 : decode cX1_copy 7 = .ok (.astore_n 1, 1) := dk_76 (dk_at dksX1_copy_0 7 rfl rfl)
theorem dX1_copy_8 : decode cX1_copy 8 = .ok (.aload_n 1, 1) := dk_43 (dk_at dksX1_copy_0 8 rfl rfl)
theorem dX1_copy_9 : decode cX1_copy 9 = .ok (.aload_n 0, 1) := dk_42 (dk_at dksX1_copy_0 9 rfl rfl)
theorem dX1_copy_10 : decode cX1_copy 10 = .ok (.getfield 31, 3) := dk_180 0 31 (dk_at dksX1_copy_0 10 rfl rfl)
theorem dX1_copy_13 : decode cX1_copy 13 = .ok (.putfield 31, 3) := dk_181 0 31 (dk_at dksX1_copy_0 13 rfl rfl)
theorem dX1_copy_16 : decode cX1_copy 16 = .ok (.aload_n 1, 1) := dk_43 (dk_at dksX1_copy_0 16 rfl rfl)
theorem dX1_copy_17 : decode cX1_copy 17 = .ok (.aload_n 0, 1) := dk_42 (dk_at dksX1_copy_0 17 rfl rfl)
theorem dX1_copy_18 : decode cX1_copy 18 = .ok (.getfield 35, 3) := dk_180 0 35 (dk_at dksX1_copy_0 18 rfl rfl)
theorem dX1_copy_21 : decode cX1_copy 21 = .ok (.putfield 35, 3) := dk_181 0 35 (dk_at dksX1_copy_0 21 rfl rfl)
theorem dX1_copy_24 : decode cX1_copy 24 = .ok (.aload_n 1, 1) := dk_43 (dk_at dksX1_copy_1 0 rfl rfl)
theorem dX1_copy_25 : decode cX1_copy 25 = .ok (.aload_n 0, 1) := dk_42 (dk_at dksX1_copy_1 1 rfl rfl)
theorem dX1_copy_26 : decode cX1_copy 26 = .ok (.getfield 38, 3) := dk_180 0 38 (dk_at dksX1_copy_1 2 rfl rfl)
theorem dX1_copy_29 : decode cX1_copy 29 = .ok (.putfield 38, 3) := dk_181 0 38 (dk_at dksX1_copy_1 5 rfl rfl)
theorem dX1_copy_32 : decode cX1_copy 32 = .ok (.aload_n 1, 1) := dk_43 (dk_at dksX1_copy_1 8 rfl rfl)
theorem dX1_copy_33 : decode cX1_copy 33 = .ok (.aload_n 0, 1) := dk_42 (dk_at dksX1_copy_1 9 rfl rfl)
theorem dX1_copy_34 : decode cX1_copy 34 = .ok (.getfield 41, 3) := dk_180 0 41 (dk_at dksX1_copy_1 10 rfl rfl)
theorem dX1_copy_37 : decode cX1_copy 37 = .ok (.putfield 41, 3) := dk_181 0 41 (dk_at dksX1_copy_1 13 rfl rfl)
theorem dX1_copy_40 : decode cX1_copy 40 = .ok (.aload_n 1, 1) := dk_43 (dk_at dksX1_copy_1 16 rfl rfl)
theorem dX1_copy_41 : decode cX1_copy 41 = .ok (.aload_n 0, 1) := dk_42 (dk_at dksX1_copy_1 17 rfl rfl)
theorem dX1_copy_42 : decode cX1_copy 42 = .ok (.getfield 44, 3) := dk_180 0 44 (dk_at dksX1_copy_1 18 rfl rfl)
theorem dX1_copy_45 : decode cX1_copy 45 = .ok (.putfield 44, 3) := dk_181 0 44 (dk_at dksX1_copy_1 21 rfl rfl)
theorem dX1_copy_48 : decode cX1_copy 48 = .ok (.aload_n 1, 1) := dk_43 (dk_at dksX1_copy_2 0 rfl rfl)
theorem dX1_copy_49 : decode cX1_copy 49 = .ok (.aload_n 0, 1) := dk_42 (dk_at dksX1_copy_2 1 rfl rfl)
theorem dX1_copy_50 : decode cX1_copy 50 = .ok (.getfield 47, 3) := dk_180 0 47 (dk_at dksX1_copy_2 2 rfl rfl)
theorem dX1_copy_53 : decode cX1_copy 53 = .ok (.putfield 47, 3) := dk_181 0 47 (dk_at dksX1_copy_2 5 rfl rfl)
theorem dX1_copy_56 : decode cX1_copy 56 = .ok (.aload_n 1, 1) := dk_43 (dk_at dksX1_copy_2 8 rfl rfl)
theorem dX1_copy_57 : decode cX1_copy 57 = .ok (.aload_n 0, 1) := dk_42 (dk_at dksX1_copy_2 9 rfl rfl)
theorem dX1_copy_58 : decode cX1_copy 58 = .ok (.getfield 50, 3) := dk_180 0 50 (dk_at dksX1_copy_2 10 rfl rfl)
theorem dX1_copy_61 : decode cX1_copy 61 = .ok (.putfield 50, 3) := dk_181 0 50 (dk_at dksX1_copy_2 13 rfl rfl)
theorem dX1_copy_64 : decode cX1_copy 64 = .ok (.aload_n 1, 1) := dk_43 (dk_at dksX1_copy_2 16 rfl rfl)
theorem dX1_copy_65 : decode cX1_copy 65 = .ok (.aload_n 0, 1) := dk_42 (dk_at dksX1_copy_2 17 rfl rfl)
theorem dX1_copy_66 : decode cX1_copy 66 = .ok (.getfield 53, 3) := dk_180 0 53 (dk_at dksX1_copy_2 18 rfl rfl)
theorem dX1_copy_69 : decode cX1_copy 69 = .ok (.putfield 53, 3) := dk_181 0 53 (dk_at dksX1_copy_2 21 rfl rfl)
theorem dX1_copy_72 : decode cX1_copy 72 = .ok (.aload_n 0, 1) := dk_42 (dk_at dksX1_copy_3 0 rfl rfl)
theorem dX1_copy_73 : decode cX1_copy 73 = .ok (.getfield 9, 3) := dk_180 0 9 (dk_at dksX1_copy_3 1 rfl rfl)
theorem dX1_copy_76 : decode cX1_copy 76 = .ok (.iconst 0, 1) := dk_3 (dk_at dksX1_copy_3 4 rfl rfl)
theorem dX1_copy_77 : decode cX1_copy 77 = .ok (.aload_n 1, 1) := dk_43 (dk_at dksX1_copy_3 5 rfl rfl)
theorem dX1_copy_78 : decode cX1_copy 78 = .ok (.getfield 9, 3) := dk_180 0 9 (dk_at dksX1_copy_3 6 rfl rfl)
theorem dX1_copy_81 : decode cX1_copy 81 = .ok (.iconst 0, 1) := dk_3 (dk_at dksX1_copy_3 9 rfl rfl)
theorem dX1_copy_82 : decode cX1_copy 82 = .ok (.bipush 6, 2) := dk_16 6 (dk_at dksX1_copy_3 10 rfl rfl)
theorem dX1_copy_84 : decode cX1_copy 84 = .ok (.invokestatic 57, 3) := dk_184 0 57 (dk_at dksX1_copy_3 12 rfl rfl)
theorem dX1_copy_87 : decode cX1_copy 87 = .ok (.aload_n 0, 1) := dk_42 (dk_at dksX1_copy_3 15 rfl rfl)
theorem dX1_copy_88 : decode cX1_copy 88 = .ok (.getfield 15, 3) := dk_180 0 15 (dk_at dksX1_copy_3 16 rfl rfl)
theorem dX1_copy_91 : decode cX1_copy 91 = .ok (.iconst 0, 1) := dk_3 (dk_at dksX1_copy_3 19 rfl rfl)
theorem dX1_copy_92 : decode cX1_copy 92 = .ok (.aload_n 1, 1) := dk_43 (dk_at dksX1_copy_3 20 rfl rfl)
theorem dX1_copy_93 : decode cX1_copy 93 = .ok (.getfield 15, 3) := dk_180 0 15 (dk_at dksX1_copy_3 21 rfl rfl)
theorem dX1_copy_96 : decode cX1_copy 96 = .ok (.iconst 0, 1) := dk_3 (dk_at dksX1_copy_4 0 rfl rfl)
theorem dX1_copy_97 : decode cX1_copy 97 = .ok (.bipush 6, 2) := dk_16 6 (dk_at dksX1_copy_4 1 rfl rfl)
theorem dX1_copy_99 : decode cX1_copy 99 = .ok (.invokestatic 57, 3) := dk_184 0 57 (dk_at dksX1_copy_4 3 rfl rfl)
theorem dX1_copy_102 : decode cX1_copy 102 = .ok (.aload_n 0, 1) := dk_42 (dk_at dksX1_copy_4 6 rfl rfl)
theorem dX1_copy_103 : decode cX1_copy 103 = .ok (.getfield 18, 3) := dk_180 0 18 (dk_at dksX1_copy_4 7 rfl rfl)
theorem dX1_copy_106 : decode cX1_copy 106 = .ok (.iconst 0, 1) := dk_3 (dk_at dksX1_copy_4 10 rfl rfl)
theorem dX1_copy_107 : decode cX1_copy 107 = .ok (.aload_n 1, 1) := dk_43 (dk_at dksX1_copy_4 11 rfl rfl)
theorem dX1_copy_108 : decode cX1_copy 108 = .ok (.getfield 18, 3) := dk_180 0 18 (dk_at dksX1_copy_4 12 rfl rfl)
theorem dX1_copy_111 : decode cX1_copy 111 = .ok (.iconst 0, 1) := dk_3 (dk_at dksX1_copy_4 15 rfl rfl)
theorem dX1_copy_112 : decode cX1_copy 112 = .ok (.iconst 2, 1) := dk_5 (dk_at dksX1_copy_4 16 rfl rfl)
theorem dX1_copy_113 : decode cX1_copy 113 = .ok (.invokestatic 57, 3) := dk_184 0 57 (dk_at dksX1_copy_4 17 rfl rfl)
theorem dX1_copy_116 : decode cX1_copy 116 = .ok (.aload_n 0, 1) := dk_42 (dk_at dksX1_copy_4 20 rfl rfl)
theorem dX1_copy_117 : decode cX1_copy 117 = .ok (.getfield 21, 3) := dk_180 0 21 (dk_at dksX1_copy_4 21 rfl rfl)
theorem dX1_copy_120 : decode cX1_copy 120 = .ok (.iconst 0, 1) := dk_3 (dk_at dksX1_copy_5 0 rfl rfl)
theorem dX1_copy_121 : decode cX1_copy 121 = .ok (.aload_n 1, 1) := dk_43 (dk_at dksX1_copy_5 1 rfl rfl)
theorem dX1_copy_122 : decode cX1_copy 122 = .ok (.getfield 21, 3) := dk_180 0 21 (dk_at dksX1_copy_5 2 rfl rfl)
theorem dX1_copy_125 : decode cX1_copy 125 = .ok (.iconst 0, 1) := dk_3 (dk_at dksX1_copy_5 5 rfl rfl)
theorem dX1_copy_126 : decode cX1_copy 126 = .ok (.iconst 2, 1) := dk_5 (dk_at dksX1_copy_5 6 rfl rfl)
theorem dX1_copy_127 : decode cX1_copy 127 = .ok (.invokestatic 57, 3) := dk_184 0 57 (dk_at dksX1_copy_5 7 rfl rfl)
theorem dX1_copy_130 : decode cX1_copy 130 = .ok (.aload_n 0, 1) := dk_42 (dk_at dksX1_copy_5 10 rfl rfl)
theorem dX1_copy_131 : decode cX1_copy 131 = .ok (.getfield 24, 3) := dk_180 0 24 (dk_at dksX1_copy_5 11 rfl rfl)
theorem dX1_copy_134 : decode cX1_copy 134 = .ok (.iconst 0, 1) := dk_3 (dk_at dksX1_copy_5 14 rfl rfl)
theorem dX1_copy_135 : decode cX1_copy 135 = .ok (.aload_n 1, 1) := dk_43 (dk_at dksX1_copy_5 15 rfl rfl)
theorem dX1_copy_136 : decode cX1_copy 136 = .ok (.getfield 24, 3) := dk_180 0 24 (dk_at dksX1_copy_5 16 rfl rfl)
theorem dX1_copy_139 : decode cX1_copy 139 = .ok (.iconst 0, 1) := dk_3 (dk_at dksX1_copy_5 19 rfl rfl)
theorem dX1_copy_140 : decode cX1_copy 140 = .ok (.iconst 2, 1) := dk_5 (dk_at dksX1_copy_5 20 rfl rfl)
theorem dX1_copy_141 : decode cX1_copy 141 = .ok (.invokestatic 57, 3) := dk_184 0 57 (dk_at dksX1_copy_5 21 rfl rfl)
theorem dX1_copy_144 : decode cX1_copy 144 = .ok (.aload_n 0, 1) := dk_42 (dk_at dksX1_copy_6 0 rfl rfl)
theorem dX1_copy_145 : decode cX1_copy 145 = .ok (.getfield 27, 3) := dk_180 0 27 (dk_at dksX1_copy_6 1 rfl rfl)
theorem dX1_copy_148 : decode cX1_copy 148 = .ok (.iconst 0, 1) := dk_3 (dk_at dksX1_copy_6 4 rfl rfl)
theorem dX1_copy_149 : decode cX1_copy 149 = .ok (.aload_n 1, 1) := dk_43 (dk_at dksX1_copy_6 5 rfl rfl)
theorem dX1_copy_150 : decode cX1_copy 150 = .ok (.getfield 27, 3) := dk_180 0 27 (dk_at dksX1_copy_6 6 rfl rfl)
theorem dX1_copy_153 : decode cX1_copy 153 = .ok (.iconst 0, 1) := dk_3 (dk_at dksX1_copy_6 9 rfl rfl)
theorem dX1_copy_154 : decode cX1_copy 154 = .ok (.bipush 40, 2) := dk_16 40 (dk_at dksX1_copy_6 10 rfl rfl)
theorem dX1_copy_156 : decode cX1_copy 156 = .ok (.invokestatic 57, 3) := dk_184 0 57 (dk_at dksX1_copy_6 12 rfl rfl)
theorem dX1_copy_159 : decode cX1_copy 159 = .ok (.aload_n 1, 1) := dk_43 (dk_at dksX1_copy_6 15 rfl rfl)
theorem dX1_copy_160 : decode cX1_copy 160 = .ok (.areturn, 1) := dk_176 (dk_at dksX1_copy_6 16 rfl rfl)
/-- a contract of a method that returns a reference to the cell rc of the world that it has made -/
def wMgR (l : Launch) (y : MethodName) (cc : ByteArray) (nL : Nat) (ret : Option FieldType) (rm : Room) (D : va_G) (cl : List vw_C) (sp sp1 : List wCell) (rc : Nat) (q : Nat → Nat) (ca : wCA) (av : List Value) (μ μ1 : wMem) : Prop := ∀ sz : Nat, Met l y (ws_ y cc nL ret) rm (va_Pc av (fun U => U.heap.size = sz ∧ va_P D cl (wWs sp q ca μ) U.heap ∧ va_K D cl (wTy ca) U ∧ wInj sp q ∧ wNest U)) (va_Qr (fun (u : Nat → Nat) => ∀ j, j < sp.length → u j = q j) (fun (u : Nat → Nat) (a : Nat) t => a = u rc ∧ va_P D cl (wWs sp1 u ca μ1) t.heap ∧ wInj sp1 u ∧ ∀ i, i < sp1.length → (wA sp q sz) (u i)) (wA sp q sz)) rm.cells rm.slots (wA sp q sz)
theorem wMgR_intro {l : Launch} {y : MethodName} {cc : ByteArray} {nL : Nat} {ret : Option FieldType} {rm : Room} {D : va_G} {cl : List vw_C} {sp sp1 : List wCell} {rc : Nat} {q : Nat → Nat} {ca : wCA} {av : List Value} {μ μ1 : wMem} (hy : plainName y.cls = true) (hlen : (lg_sl av).length ≤ nL) (h : ∀ (p : Program) (e : Env) (s : State) (m : MethodId) (args : Array Value) (below : List Frame) (meth : Method) (c : Code) (A : Nat → Prop), wC p rm s m args meth c cc y.cls nL ret D cl sp q ca A → wJ p l e rm s m args below meth c nL D cl sp q ca A (MQ below (va_Qr (fun (u : Nat → Nat) => ∀ j, j < sp.length → u j = q j) (fun (u : Nat → Nat) (a : Nat) t => a = u rc ∧ va_P D cl (wWs sp1 u ca μ1) t.heap ∧ wInj sp1 u ∧ ∀ i, i < sp1.length → A (u i)) A) args s rm.cells rm.slots A) 0 0 μ 0 (lv_args 0 av) []) : wMgR l y cc nL ret rm D cl sp sp1 rc q ca av μ μ1 := by
  intro sz
  refine Met.ofW (cc := cc) (maxL := nL) (ret := ret) hy rfl ?_
  intro p e s m args below meth c s₁ B hml hv
  obtain ⟨rfl, hsz, hP, hK, hI, hNe⟩ := hv
  have hts0 := atoms_spec (ws := ws_ y cc nL ret) B.pre
  have hts : ∀ w ∈ lw_all, w.before _ s = true := fun w h => hts0 w (List.mem_cons_of_mem _ h)
  have hown : s.vm.findClass y.cls = some m.cls := findClass_of_methodNamed B.named
  subst hsz
  have hl := lv_entry av (n := nL) hlen
  rw [lg_entry_eq]
  exact h p e s m av.toArray below meth c (wA sp q s.heap.size) ⟨B.exec, B.bytes, hml, hown, hts, hK, B.notSynchronized, B.returns, hI, fun i hi => Or.inl ⟨i, hi, rfl⟩, fun a ha => Or.inr ha, hNe⟩ s.heap [] _ hP va_S.rf hl
theorem wr_aretG {p : Program} {R : Room} {s : State} {m : MethodId} {args : Array Value} {meth : Method} {c : Code} {cc : ByteArray} {own : String} {nL : Nat} {D : va_G} {cl : List vw_C} {sp : List wCell} {q : Nat → Nat} {ca : wCA} {A : Nat → Prop} {l : Launch} {e : Env} {below : List Frame} {kc ks : Nat} {μ μ1 : wMem} {lv : List (Nat × Value)} {sp0 : List wCell} {q0 : Nat → Nat} {rc : Nat} {Cn : String} (pc : Nat) (C : wC p R s m args meth c cc own nL (some (.object Cn)) D cl sp q ca A) (hd : decode cc pc = .ok (.areturn, 1)) (hk : kc ≤ R.cells ∧ ks ≤ R.slots) (h : μ = μ1) (hq : ∀ j, j < sp0.length → q j = q0 j) : wJ p l e R s m args below meth c nL D cl sp q ca A (MQ below (va_Qr (fun (u : Nat → Nat) => ∀ j, j < sp0.length → u j = q0 j) (fun (u : Nat → Nat) (a : Nat) t => a = u rc ∧ va_P D cl (wWs sp u ca μ1) t.heap ∧ wInj sp u ∧ ∀ i, i < sp.length → A (u i)) A) args s R.cells R.slots A) kc ks μ pc lv [.ref (q rc)] :=
  fun H locs ls h1 h2 h3 => W.widen hk.1 hk.2 (W.aret C.1 C.2.1 C.2.2.2.2.2.2.2.1 (Or.inl ⟨_, rfl⟩) (Or.inr ⟨_, rfl⟩) (fun t ht hW => ⟨⟨q, q rc, rfl, hq, rfl, by rw [← h]; show va_P D cl (wWs sp q ca μ) t.heap; rw [ht]; exact h1, C.2.2.2.2.2.2.2.2.1, C.2.2.2.2.2.2.2.2.2.1⟩, h2.F ht⟩) h2.2.2 hd C.2.2.2.2.2.2.1)
theorem wClosed.addO {sp : List wCell} {ci : Nat} {fs : List (Nat × Nat)} (h : wClosed sp) (hf : ∀ f ∈ fs, f.1 ≠ 2) : wClosed (sp ++ [Sum.inl (ci, fs)]) := fun m hm => by
  rw [wNoRef_iff]
  intro d hd
  rw [List.length_append] at hm
  rcases List.mem_append.mp hd with hd | hd
  · exact (wNoRef_iff.mp (h m (by simp at hm; omega))) d hd
  · rw [List.mem_singleton.mp hd]
    show (fs.all fun f => !(f.1 == 2 && f.2 == m)) = true
    rw [List.all_eq_true]
    intro f hfm
    have := hf f hfm
    simp [this]
theorem wSt_old {w : List wCell} {x d : wCell} {b c : Nat} (hc : c ≠ b) (hl : c < w.length) : ((w ++ [x]).set b d)[c]? = w[c]? := by
  rw [List.getElem?_set_ne (fun e => hc e.symm), List.getElem?_append_left hl]
theorem wSt_new {w : List wCell} {x d : wCell} {b c : Nat} (hc : c ≠ b) (hl : c = w.length) : ((w ++ [x]).set b d)[c]? = some x := by
  rw [List.getElem?_set_ne (fun e => hc e.symm), hl, List.getElem?_concat_length]
theorem wFw0_old {sp : List wCell} {b c : Nat} (hc : c ≠ b) (hl : c < sp.length) : (wFw0 sp b)[c]? = sp[c]? := rfl
theorem wFw1_old {sp : List wCell} {b c : Nat} (hc : c ≠ b) (hl : c < sp.length) : (wFw1 sp b)[c]? = sp[c]? := (wSt_old hc (by rw [wFw0_len]; omega)).trans (wFw0_old hc hl)
theorem wFw2_old {sp : List wCell} {b c : Nat} (hc : c ≠ b) (hl : c < sp.length) : (wFw2 sp b)[c]? = sp[c]? := (wSt_old hc (by rw [wFw1_len]; omega)).trans (wFw1_old hc hl)
theorem wFw3_old {sp : List wCell} {b c : Nat} (hc : c ≠ b) (hl : c < sp.length) : (wFw3 sp b)[c]? = sp[c]? := (wSt_old hc (by rw [wFw2_len]; omega)).trans (wFw2_old hc hl)
theorem wFw4_old {sp : List wCell} {b c : Nat} (hc : c ≠ b) (hl : c < sp.length) : (wFw4 sp b)[c]? = sp[c]? := (wSt_old hc (by rw [wFw3_len]; omega)).trans (wFw3_old hc hl)
theorem wFw5_old {sp : List wCell} {b c : Nat} (hc : c ≠ b) (hl : c < sp.length) : (wFw5 sp b)[c]? = sp[c]? := (wSt_old hc (by rw [wFw4_len]; omega)).trans (wFw4_old hc hl)
theorem wFw6_old {sp : List wCell} {b c : Nat} (hc : c ≠ b) (hl : c < sp.length) : (wFw6 sp b)[c]? = sp[c]? := (wSt_old hc (by rw [wFw5_len]; omega)).trans (wFw5_old hc hl)
theorem wFw1_n0 {sp : List wCell} {b : Nat} (hb : b < sp.length) : (wFw1 sp b)[sp.length + 0]? = some (Sum.inr (0, 6)) := wSt_new (by omega) (by rw [wFw0_len])
theorem wFw2_n0 {sp : List wCell} {b : Nat} (hb : b < sp.length) : (wFw2 sp b)[sp.length + 0]? = some (Sum.inr (0, 6)) := (wSt_old (by omega) (by rw [wFw1_len]; omega)).trans (wFw1_n0 hb)
theorem wFw3_n0 {sp : List wCell} {b : Nat} (hb : b < sp.length) : (wFw3 sp b)[sp.length + 0]? = some (Sum.inr (0, 6)) := (wSt_old (by omega) (by rw [wFw2_len]; omega)).trans (wFw2_n0 hb)
theorem wFw4_n0 {sp : List wCell} {b : Nat} (hb : b < sp.length) : (wFw4 sp b)[sp.length + 0]? = some (Sum.inr (0, 6)) := (wSt_old (by omega) (by rw [wFw3_len]; omega)).trans (wFw3_n0 hb)
theorem wFw5_n0 {sp : List wCell} {b : Nat} (hb : b < sp.length) : (wFw5 sp b)[sp.length + 0]? = some (Sum.inr (0, 6)) := (wSt_old (by omega) (by rw [wFw4_len]; omega)).trans (wFw4_n0 hb)
theorem wFw6_n0 {sp : List wCell} {b : Nat} (hb : b < sp.length) : (wFw6 sp b)[sp.length + 0]? = some (Sum.inr (0, 6)) := (wSt_old (by omega) (by rw [wFw5_len]; omega)).trans (wFw5_n0 hb)
theorem wFw2_n1 {sp : List wCell} {b : Nat} (hb : b < sp.length) : (wFw2 sp b)[sp.length + 1]? = some (Sum.inr (0, 6)) := wSt_new (by omega) (by rw [wFw1_len])
theorem wFw3_n1 {sp : List wCell} {b : Nat} (hb : b < sp.length) : (wFw3 sp b)[sp.length + 1]? = some (Sum.inr (0, 6)) := (wSt_old (by omega) (by rw [wFw2_len]; omega)).trans (wFw2_n1 hb)
theorem wFw4_n1 {sp : List wCell} {b : Nat} (hb : b < sp.length) : (wFw4 sp b)[sp.length + 1]? = some (Sum.inr (0, 6)) := (wSt_old (by omega) (by rw [wFw3_len]; omega)).trans (wFw3_n1 hb)
theorem wFw5_n1 {sp : List wCell} {b : Nat} (hb : b < sp.length) : (wFw5 sp b)[sp.length + 1]? = some (Sum.inr (0, 6)) := (wSt_old (by omega) (by rw [wFw4_len]; omega)).trans (wFw4_n1 hb)
theorem wFw6_n1 {sp : List wCell} {b : Nat} (hb : b < sp.length) : (wFw6 sp b)[sp.length + 1]? = some (Sum.inr (0, 6)) := (wSt_old (by omega) (by rw [wFw5_len]; omega)).trans (wFw5_n1 hb)
theorem wFw3_n2 {sp : List wCell} {b : Nat} (hb : b < sp.length) : (wFw3 sp b)[sp.length + 2]? = some (Sum.inr (0, 2)) := wSt_new (by omega) (by rw [wFw2_len])
theorem wFw4_n2 {sp : List wCell} {b : Nat} (hb : b < sp.length) : (wFw4 sp b)[sp.length + 2]? = some (Sum.inr (0, 2)) := (wSt_old (by omega) (by rw [wFw3_len]; omega)).trans (wFw3_n2 hb)
theorem wFw5_n2 {sp : List wCell} {b : Nat} (hb : b < sp.length) : (wFw5 sp b)[sp.length + 2]? = some (Sum.inr (0, 2)) := (wSt_old (by omega) (by rw [wFw4_len]; omega)).trans (wFw4_n2 hb)
theorem wFw6_n2 {sp : List wCell} {b : Nat} (hb : b < sp.length) : (wFw6 sp b)[sp.length + 2]? = some (Sum.inr (0, 2)) := (wSt_old (by omega) (by rw [wFw5_len]; omega)).trans (wFw5_n2 hb)
theorem wFw4_n3 {sp : List wCell} {b : Nat} (hb : b < sp.length) : (wFw4 sp b)[sp.length + 3]? = some (Sum.inr (0, 2)) := wSt_new (by omega) (by rw [wFw3_len])
theorem wFw5_n3 {sp : List wCell} {b : Nat} (hb : b < sp.length) : (wFw5 sp b)[sp.length + 3]? = some (Sum.inr (0, 2)) := (wSt_old (by omega) (by rw [wFw4_len]; omega)).trans (wFw4_n3 hb)
theorem wFw6_n3 {sp : List wCell} {b : Nat} (hb : b < sp.length) : (wFw6 sp b)[sp.length + 3]? = some (Sum.inr (0, 2)) := (wSt_old (by omega) (by rw [wFw5_len]; omega)).trans (wFw5_n3 hb)
theorem wFw5_n4 {sp : List wCell} {b : Nat} (hb : b < sp.length) : (wFw5 sp b)[sp.length + 4]? = some (Sum.inr (0, 2)) := wSt_new (by omega) (by rw [wFw4_len])
theorem wFw6_n4 {sp : List wCell} {b : Nat} (hb : b < sp.length) : (wFw6 sp b)[sp.length + 4]? = some (Sum.inr (0, 2)) := (wSt_old (by omega) (by rw [wFw5_len]; omega)).trans (wFw5_n4 hb)
theorem wFw6_n5 {sp : List wCell} {b : Nat} (hb : b < sp.length) : (wFw6 sp b)[sp.length + 5]? = some (Sum.inr (0, 40)) := wSt_new (by omega) (by rw [wFw5_len])
theorem okIX1_init : wOkI yX1_init cX1_init 1 0 := ⟨q137, q179, q180, rfl, by decide, by decide, by decide +kernel⟩
def fX1_copy (b0 i0 i1 i2 i3 i4 i5 n : Nat) (μ : wMem) : Option wMem :=
  wLet (wZ (wZ (wZ (wZ (wZ (wZ (wZ μ n) (n + 1 + 0)) (n + 1 + 1)) (n + 1 + 2)) (n + 1 + 3)) (n + 1 + 4)) (n + 1 + 5)) fun μ0_ => wLet (wSI μ0_ n 0 (μ0_.1 b0 0)) fun μ1_ => wLet (wSI μ1_ n 1 (μ1_.1 b0 1)) fun μ2_ => wLet (wSI μ2_ n 2 (μ2_.1 b0 2)) fun μ3_ => wLet (wSI μ3_ n 3 (μ3_.1 b0 3)) fun μ4_ => wLet (wSI μ4_ n 4 (μ4_.1 b0 4)) fun μ5_ => wLet (wSI μ5_ n 5 (μ5_.1 b0 5)) fun μ6_ => wLet (wSI μ6_ n 6 (μ6_.1 b0 6)) fun μ7_ => wG (ok_b (μ7_.1 b0 7)) <| wLet (wSI μ7_ n 7 (μ7_.1 b0 7)) fun μ8_ => wLet (wCpy μ8_ i0 (n + 1 + 0) 0 0 6) fun μ9_ => wLet (wCpy μ9_ i1 (n + 1 + 1) 0 0 6) fun μ10_ => wLet (wCpy μ10_ i2 (n + 1 + 2) 0 0 2) fun μ11_ => wLet (wCpy μ11_ i3 (n + 1 + 3) 0 0 2) fun μ12_ => wLet (wCpy μ12_ i4 (n + 1 + 4) 0 0 2) fun μ13_ => wLet (wCpy μ13_ i5 (n + 1 + 5) 0 0 40) fun μ14_ => some μ14_
set_option maxHeartbeats 16000000 in
theorem tX1_copy (l : Launch) {D : va_G} {q : Nat → Nat} {ca : wCA} {sp : List wCell} {b0 i0 i1 i2 i3 i4 i5 : Nat} (hb : sp[b0]? = some (.inl (1, [(0, 0), (0, 0), (0, 0), (0, 0), (0, 0), (0, 0), (0, 0), (0, 0), (2, i0), (2, i1), (2, i2), (2, i3), (2, i4), (2, i5)]))) (hi0 : sp[i0]? = some (.inr (0, 6))) (hi1 : sp[i1]? = some (.inr (0, 6))) (hi2 : sp[i2]? = some (.inr (0, 2))) (hi3 : sp[i3]? = some (.inr (0, 2))) (hi4 : sp[i4]? = some (.inr (0, 2))) (hi5 : sp[i5]? = some (.inr (0, 40))) (hcl : wClosed sp) (μ μ1 : wMem) (hf : fX1_copy b0 i0 i1 i2 i3 i4 i5 sp.length μ = some μ1) : wMgR l yX1_copy cX1_copy 2 (some (.object "OnePassport$Family")) ({ frames := 2, cells := 7, slots := 72, locals := 60 } : Room) D vwCl sp (wFw6 (sp ++ [Sum.inl (1, wFf0 0)]) sp.length) sp.length q ca [.ref (q b0)] μ μ1 := by
  have hS1 : (sp ++ [Sum.inl (1, wFf0 0)] : List wCell).length = sp.length + 1 := by simp
  have hlt : b0 < sp.length := (List.getElem?_eq_some_iff.mp hb).1
  have hB : (wFw6 (sp ++ [Sum.inl (1, wFf0 0)]) sp.length)[b0]? = some (.inl (1, [(0, 0), (0, 0), (0, 0), (0, 0), (0, 0), (0, 0), (0, 0), (0, 0), (2, i0), (2, i1), (2, i2), (2, i3), (2, i4), (2, i5)])) := (wFw6_old (by omega) (by rw [hS1]; omega)).trans ((List.getElem?_append_left hlt).trans hb)
  have hO := wFw6_at (sp := (sp ++ [Sum.inl (1, wFf0 0)])) (b := sp.length) List.getElem?_concat_length
  have hI0 : (wFw6 (sp ++ [Sum.inl (1, wFf0 0)]) sp.length)[i0]? = some (.inr (0, 6)) := by
    have hl0 : i0 < sp.length := (List.getElem?_eq_some_iff.mp hi0).1
    exact (wFw6_old (by omega) (by rw [hS1]; omega)).trans ((List.getElem?_append_left hl0).trans hi0)
  have hI1 : (wFw6 (sp ++ [Sum.inl (1, wFf0 0)]) sp.length)[i1]? = some (.inr (0, 6)) := by
    have hl1 : i1 < sp.length := (List.getElem?_eq_some_iff.mp hi1).1
    exact (wFw6_old (by omega) (by rw [hS1]; omega)).trans ((List.getElem?_append_left hl1).trans hi1)
  have hI2 : (wFw6 (sp ++ [Sum.inl (1, wFf0 0)]) sp.length)[i2]? = some (.inr (0, 2)) := by
    have hl2 : i2 < sp.length := (List.getElem?_eq_some_iff.mp hi2).1
    exact (wFw6_old (by omega) (by rw [hS1]; omega)).trans ((List.getElem?_append_left hl2).trans hi2)
  have hI3 : (wFw6 (sp ++ [Sum.inl (1, wFf0 0)]) sp.length)[i3]? = some (.inr (0, 2)) := by
    have hl3 : i3 < sp.length := (List.getElem?_eq_some_iff.mp hi3).1
    exact (wFw6_old (by omega) (by rw [hS1]; omega)).trans ((List.getElem?_append_left hl3).trans hi3)
  have hI4 : (wFw6 (sp ++ [Sum.inl (1, wFf0 0)]) sp.length)[i4]? = some (.inr (0, 2)) := by
    have hl4 : i4 < sp.length := (List.getElem?_eq_some_iff.mp hi4).1
    exact (wFw6_old (by omega) (by rw [hS1]; omega)).trans ((List.getElem?_append_left hl4).trans hi4)
  have hI5 : (wFw6 (sp ++ [Sum.inl (1, wFf0 0)]) sp.length)[i5]? = some (.inr (0, 40)) := by
    have hl5 : i5 < sp.length := (List.getElem?_eq_some_iff.mp hi5).1
    exact (wFw6_old (by omega) (by rw [hS1]; omega)).trans ((List.getElem?_append_left hl5).trans hi5)
  have hN0 := wFw6_n0 (sp := (sp ++ [Sum.inl (1, wFf0 0)])) (b := sp.length) (by rw [hS1]; omega)
  have hN1 := wFw6_n1 (sp := (sp ++ [Sum.inl (1, wFf0 0)])) (b := sp.length) (by rw [hS1]; omega)
  have hN2 := wFw6_n2 (sp := (sp ++ [Sum.inl (1, wFf0 0)])) (b := sp.length) (by rw [hS1]; omega)
  have hN3 := wFw6_n3 (sp := (sp ++ [Sum.inl (1, wFf0 0)])) (b := sp.length) (by rw [hS1]; omega)
  have hN4 := wFw6_n4 (sp := (sp ++ [Sum.inl (1, wFf0 0)])) (b := sp.length) (by rw [hS1]; omega)
  have hN5 := wFw6_n5 (sp := (sp ++ [Sum.inl (1, wFf0 0)])) (b := sp.length) (by rw [hS1]; omega)
  skip
  refine wMgR_intro (by decide) (Nat.le_of_ble_eq_true rfl) ?_
  intro p e s m args below meth c A C
  unfold fX1_copy at hf
  rw [← hS1] at hf
  refine wr_sub [(0, .ref (q b0))] [0] rfl ?_
  refine wr_newO (fs := wFf0 0) (ci := 1) (kc1 := 1) (ks1 := 14) 0 C dX1_copy_0 in_X1 tyX1 tyX1_ok q1281 q177 q137 rfl (by decide) rfl rfl ⟨Nat.le_of_ble_eq_true rfl, Nat.le_of_ble_eq_true rfl⟩ sp.length rfl (hcl.at rfl) rfl rfl (sp ++ [Sum.inl (1, wFf0 0)]) rfl ?_
  intro q1 hq1 C1
  rw [← hq1 b0 (by omega)]
  refine wr_dup 3 C1 dX1_copy_3 rfl ?_
  refine wr_Ig (kc1 := 7) (ks1 := 72) (As := []) (b := sp.length) 4 [.ref (q1 sp.length)] C1 dX1_copy_4 (tX1_init l (sp := (sp ++ [Sum.inl (1, wFf0 0)])) (b := sp.length) List.getElem?_concat_length (hcl.addO (by decide)) (wZ μ sp.length)) okIX1_init q1282 ⟨rfl, rfl, Nat.le_of_ble_eq_true rfl, Nat.le_of_ble_eq_true rfl, Nat.le_of_ble_eq_true rfl, Nat.le_of_ble_eq_true rfl⟩ (Nat.le_of_ble_eq_true rfl) rfl ?_
  intro q2 hq2 C2
  rw [← hq2 b0 (by rw [hS1]; omega), ← hq2 sp.length (by rw [hS1]; omega)]
  refine wr_astore_n 7 [(1, .ref (q2 sp.length)), (0, .ref (q2 b0))] C2 dX1_copy_7 rfl rfl (Nat.le_of_ble_eq_true rfl) rfl ?_
  obtain ⟨μ0_, eμ0_, hf⟩ := o_let hf
  rw [show (wZ (wZ (wZ (wZ (wZ (wZ (wZ μ sp.length) ((sp ++ [Sum.inl (1, wFf0 0)] : List wCell).length + 0)) ((sp ++ [Sum.inl (1, wFf0 0)] : List wCell).length + 1)) ((sp ++ [Sum.inl (1, wFf0 0)] : List wCell).length + 2)) ((sp ++ [Sum.inl (1, wFf0 0)] : List wCell).length + 3)) ((sp ++ [Sum.inl (1, wFf0 0)] : List wCell).length + 4)) ((sp ++ [Sum.inl (1, wFf0 0)] : List wCell).length + 5)) = μ0_ from eμ0_.symm]
  refine wr_aload_n 8 C2 dX1_copy_8 0 rfl rfl ?_
  refine wr_aload_n 9 C2 dX1_copy_9 1 rfl rfl ?_
  refine wr_getI 10 0 C2 dX1_copy_10 hB rfl in_X1 (by decide) rfl q182 ?_
  obtain ⟨μ1_, eμ1_, hf⟩ := o_let hf
  refine wr_putI 13 0 C2 dX1_copy_13 hO rfl in_X1 tyX1 tyX1_ok nmX1 (by decide) rfl q182 rfl rfl eμ1_ ?_
  refine wr_aload_n 16 C2 dX1_copy_16 0 rfl rfl ?_
  refine wr_aload_n 17 C2 dX1_copy_17 1 rfl rfl ?_
  refine wr_getI 18 1 C2 dX1_copy_18 hB rfl in_X1 (by decide) rfl q186 ?_
  obtain ⟨μ2_, eμ2_, hf⟩ := o_let hf
  refine wr_putI 21 1 C2 dX1_copy_21 hO rfl in_X1 tyX1 tyX1_ok nmX1 (by decide) rfl q186 rfl rfl eμ2_ ?_
  refine wr_aload_n 24 C2 dX1_copy_24 0 rfl rfl ?_
  refine wr_aload_n 25 C2 dX1_copy_25 1 rfl rfl ?_
  refine wr_getI 26 2 C2 dX1_copy_26 hB rfl in_X1 (by decide) rfl q189 ?_
  obtain ⟨μ3_, eμ3_, hf⟩ := o_let hf
  refine wr_putI 29 2 C2 dX1_copy_29 hO rfl in_X1 tyX1 tyX1_ok nmX1 (by decide) rfl q189 rfl rfl eμ3_ ?_
  refine wr_aload_n 32 C2 dX1_copy_32 0 rfl rfl ?_
  refine wr_aload_n 33 C2 dX1_copy_33 1 rfl rfl ?_
  refine wr_getI 34 3 C2 dX1_copy_34 hB rfl in_X1 (by decide) rfl q192 ?_
  obtain ⟨μ4_, eμ4_, hf⟩ := o_let hf
  refine wr_putI 37 3 C2 dX1_copy_37 hO rfl in_X1 tyX1 tyX1_ok nmX1 (by decide) rfl q192 rfl rfl eμ4_ ?_
  refine wr_aload_n 40 C2 dX1_copy_40 0 rfl rfl ?_
  refine wr_aload_n 41 C2 dX1_copy_41 1 rfl rfl ?_
  refine wr_getI 42 4 C2 dX1_copy_42 hB rfl in_X1 (by decide) rfl q195 ?_
  obtain ⟨μ5_, eμ5_, hf⟩ := o_let hf
  refine wr_putI 45 4 C2 dX1_copy_45 hO rfl in_X1 tyX1 tyX1_ok nmX1 (by decide) rfl q195 rfl rfl eμ5_ ?_
  refine wr_aload_n 48 C2 dX1_copy_48 0 rfl rfl ?_
  refine wr_aload_n 49 C2 dX1_copy_49 1 rfl rfl ?_
  refine wr_getI 50 5 C2 dX1_copy_50 hB rfl in_X1 (by decide) rfl q198 ?_
  obtain ⟨μ6_, eμ6_, hf⟩ := o_let hf
  refine wr_putI 53 5 C2 dX1_copy_53 hO rfl in_X1 tyX1 tyX1_ok nmX1 (by decide) rfl q198 rfl rfl eμ6_ ?_
  refine wr_aload_n 56 C2 dX1_copy_56 0 rfl rfl ?_
  refine wr_aload_n 57 C2 dX1_copy_57 1 rfl rfl ?_
  refine wr_getI 58 6 C2 dX1_copy_58 hB rfl in_X1 (by decide) rfl q201 ?_
  obtain ⟨μ7_, eμ7_, hf⟩ := o_let hf
  refine wr_putI 61 6 C2 dX1_copy_61 hO rfl in_X1 tyX1 tyX1_ok nmX1 (by decide) rfl q201 rfl rfl eμ7_ ?_
  refine wr_aload_n 64 C2 dX1_copy_64 0 rfl rfl ?_
  refine wr_aload_n 65 C2 dX1_copy_65 1 rfl rfl ?_
  refine wr_getI 66 7 C2 dX1_copy_66 hB rfl in_X1 (by decide) rfl q203 ?_
  obtain ⟨hz, hf⟩ := o_g hf
  obtain ⟨μ8_, eμ8_, hf⟩ := o_let hf
  refine wr_putZ 69 7 C2 dX1_copy_69 hO rfl in_X1 tyX1 tyX1_ok nmX1 (by decide) rfl q203 rfl rfl hz eμ8_ ?_
  refine wr_aload_n 72 C2 dX1_copy_72 1 rfl rfl ?_
  refine wr_getR 73 8 C2 dX1_copy_73 hB rfl in_X1 (by decide) rfl q206 ?_
  refine wr_iconst 76 C2 dX1_copy_76 (v := 0) rfl ?_
  refine wr_aload_n 77 C2 dX1_copy_77 0 rfl rfl ?_
  refine wr_getR 78 8 C2 dX1_copy_78 hO rfl in_X1 (by decide) rfl q206 ?_
  refine wr_iconst 81 C2 dX1_copy_81 (v := 0) rfl ?_
  refine wr_bipush 82 C2 dX1_copy_82 (v := 6) rfl ?_
  obtain ⟨μ9_, eμ9_, hf⟩ := o_let hf
  refine wr_copyI 84 C2 dX1_copy_84 q1283 q1274 q1273 q162 hI0 hN0 (by decide) ⟨Nat.le_of_ble_eq_true rfl, Nat.le_of_ble_eq_true rfl⟩ (eμ9_.trans rfl) ?_
  refine wr_aload_n 87 C2 dX1_copy_87 1 rfl rfl ?_
  refine wr_getR 88 9 C2 dX1_copy_88 hB rfl in_X1 (by decide) rfl q209 ?_
  refine wr_iconst 91 C2 dX1_copy_91 (v := 0) rfl ?_
  refine wr_aload_n 92 C2 dX1_copy_92 0 rfl rfl ?_
  refine wr_getR 93 9 C2 dX1_copy_93 hO rfl in_X1 (by decide) rfl q209 ?_
  refine wr_iconst 96 C2 dX1_copy_96 (v := 0) rfl ?_
  refine wr_bipush 97 C2 dX1_copy_97 (v := 6) rfl ?_
  obtain ⟨μ10_, eμ10_, hf⟩ := o_let hf
  refine wr_copyI 99 C2 dX1_copy_99 q1283 q1274 q1273 q162 hI1 hN1 (by decide) ⟨Nat.le_of_ble_eq_true rfl, Nat.le_of_ble_eq_true rfl⟩ (eμ10_.trans rfl) ?_
  refine wr_aload_n 102 C2 dX1_copy_102 1 rfl rfl ?_
  refine wr_getR 103 10 C2 dX1_copy_103 hB rfl in_X1 (by decide) rfl q212 ?_
  refine wr_iconst 106 C2 dX1_copy_106 (v := 0) rfl ?_
  refine wr_aload_n 107 C2 dX1_copy_107 0 rfl rfl ?_
  refine wr_getR 108 10 C2 dX1_copy_108 hO rfl in_X1 (by decide) rfl q212 ?_
  refine wr_iconst 111 C2 dX1_copy_111 (v := 0) rfl ?_
  refine wr_iconst 112 C2 dX1_copy_112 (v := 2) rfl ?_
  obtain ⟨μ11_, eμ11_, hf⟩ := o_let hf
  refine wr_copyI 113 C2 dX1_copy_113 q1283 q1274 q1273 q162 hI2 hN2 (by decide) ⟨Nat.le_of_ble_eq_true rfl, Nat.le_of_ble_eq_true rfl⟩ (eμ11_.trans rfl) ?_
  refine wr_aload_n 116 C2 dX1_copy_116 1 rfl rfl ?_
  refine wr_getR 117 11 C2 dX1_copy_117 hB rfl in_X1 (by decide) rfl q215 ?_
  refine wr_iconst 120 C2 dX1_copy_120 (v := 0) rfl ?_
  refine wr_aload_n 121 C2 dX1_copy_121 0 rfl rfl ?_
  refine wr_getR 122 11 C2 dX1_copy_122 hO rfl in_X1 (by decide) rfl q215 ?_
  refine wr_iconst 125 C2 dX1_copy_125 (v := 0) rfl ?_
  refine wr_iconst 126 C2 dX1_copy_126 (v := 2) rfl ?_
  obtain ⟨μ12_, eμ12_, hf⟩ := o_let hf
  refine wr_copyI 127 C2 dX1_copy_127 q1283 q1274 q1273 q162 hI3 hN3 (by decide) ⟨Nat.le_of_ble_eq_true rfl, Nat.le_of_ble_eq_true rfl⟩ (eμ12_.trans rfl) ?_
  refine wr_aload_n 130 C2 dX1_copy_130 1 rfl rfl ?_
  refine wr_getR 131 12 C2 dX1_copy_131 hB rfl in_X1 (by decide) rfl q218 ?_
  refine wr_iconst 134 C2 dX1_copy_134 (v := 0) rfl ?_
  refine wr_aload_n 135 C2 dX1_copy_135 0 rfl rfl ?_
  refine wr_getR 136 12 C2 dX1_copy_136 hO rfl in_X1 (by decide) rfl q218 ?_
  refine wr_iconst 139 C2 dX1_copy_139 (v := 0) rfl ?_
  refine wr_iconst 140 C2 dX1_copy_140 (v := 2) rfl ?_
  obtain ⟨μ13_, eμ13_, hf⟩ := o_let hf
  refine wr_copyI 141 C2 dX1_copy_141 q1283 q1274 q1273 q162 hI4 hN4 (by decide) ⟨Nat.le_of_ble_eq_true rfl, Nat.le_of_ble_eq_true rfl⟩ (eμ13_.trans rfl) ?_
  refine wr_aload_n 144 C2 dX1_copy_144 1 rfl rfl ?_
  refine wr_getR 145 13 C2 dX1_copy_145 hB rfl in_X1 (by decide) rfl q221 ?_
  refine wr_iconst 148 C2 dX1_copy_148 (v := 0) rfl ?_
  refine wr_aload_n 149 C2 dX1_copy_149 0 rfl rfl ?_
  refine wr_getR 150 13 C2 dX1_copy_150 hO rfl in_X1 (by decide) rfl q221 ?_
  refine wr_iconst 153 C2 dX1_copy_153 (v := 0) rfl ?_
  refine wr_bipush 154 C2 dX1_copy_154 (v := 40) rfl ?_
  obtain ⟨μ14_, eμ14_, hf⟩ := o_let hf
  refine wr_copyI 156 C2 dX1_copy_156 q1283 q1274 q1273 q162 hI5 hN5 (by decide) ⟨Nat.le_of_ble_eq_true rfl, Nat.le_of_ble_eq_true rfl⟩ (eμ14_.trans rfl) ?_
  refine wr_aload_n 159 C2 dX1_copy_159 0 rfl rfl ?_
  exact wr_aretG (sp0 := sp) (q0 := q) (rc := sp.length) 160 C2 dX1_copy_160 ⟨Nat.le_of_ble_eq_true rfl, Nat.le_of_ble_eq_true rfl⟩ (Option.some.inj hf) (fun j hj => (hq2 j (by rw [hS1]; omega)).trans (hq1 j (Nat.ne_of_lt hj)))
