set_option maxRecDepth 100000
set_option maxHeartbeats 4000000 in
theorem tX5_size_null (l : Launch) (hl : l.stackTraces = false) {D : va_G} {q : Nat → Nat} {ca : wCA} {sp : List wCell} {b x : Nat} (hb : sp[b]? = some (.inl (5, [(3, x)]))) (μ : wMem) : wMN l yX5_size cX5_size 1 (some .int) ({ frames := 8, cells := 1, slots := 8, locals := 10240 } : Room) D vwCl sp q ca [.ref (q b)] μ := by
  refine wMN_intro (by decide) (Nat.le_of_ble_eq_true rfl) ?_
  intro p e s m args below meth c A C hZ htb
  refine wr_sub [(0, .ref (q b))] [0] rfl ?_
  refine wr_aload_n 0 C dX5_size_0 0 rfl rfl ?_
  refine wr_getZ 1 0 C dX5_size_1 hb rfl in_X5 (by decide) rfl q295 ?_
  refine wr_instN 4 C dX5_size_4 ?_
  refine wr_if_eq 7 21 C dX5_size_7 (by decide) (fun _ => ?_) (fun h => absurd rfl h)
  refine wr_aload_n 21 C dX5_size_21 0 rfl rfl ?_
  refine wr_getZ 22 0 C dX5_size_22 hb rfl in_X5 (by decide) rfl q295 ?_
  refine wr_instN 25 C dX5_size_25 ?_
  refine wr_if_eq 28 42 C dX5_size_28 (by decide) (fun _ => ?_) (fun h => absurd rfl h)
  refine wr_aload_n 42 C dX5_size_42 0 rfl rfl ?_
  refine wr_getZ 43 0 C dX5_size_43 hb rfl in_X5 (by decide) rfl q295 ?_
  refine wr_instN 46 C dX5_size_46 ?_
  refine wr_if_eq 49 63 C dX5_size_49 (by decide) (fun _ => ?_) (fun h => absurd rfl h)
  refine wr_aload_n 63 C dX5_size_63 0 rfl rfl ?_
  refine wr_getZ 64 0 C dX5_size_64 hb rfl in_X5 (by decide) rfl q295 ?_
  refine wr_castN 67 C dX5_size_67 ?_
  exact wr_lenZ 70 C dX5_size_70 (fun H locs ls h1 h2 h3 => wr_npe 70 C hl hZ ⟨Nat.le_of_ble_eq_true rfl, Nat.le_of_ble_eq_true rfl, Nat.le_of_ble_eq_true rfl, Nat.le_of_ble_eq_true rfl⟩ (fun H1 locs1 ls1 q9 ce g1 g2 g3 g4 g5 g6 => wr_outN 70 C htb ⟨Nat.le_of_ble_eq_true rfl, Nat.le_of_ble_eq_true rfl⟩ g1 g2 g4 g5 g6) H locs ls h1 h2 h3)
theorem wr_lastZ {p : Program} {l : Launch} {e : Env} {R : Room} {s : State} {m : MethodId} {args : Array Value} {below : List Frame} {meth : Method} {c : Code} {cc : ByteArray} {own : String} {nL : Nat} {ret : Option FieldType} {D : va_G} {cl : List vw_C} {sp : List wCell} {q : Nat → Nat} {ca : wCA} {A : Nat → Prop} {Q : State → Prop} {kc ks : Nat} {μ : wMem} {lv : List (Nat × Value)} {st : List Value} {i : Int32} {x : Int64} (pc : Nat) (C : wC p R s m args meth c cc own nL ret D cl sp q ca A) (hd : decode cc pc = .ok (.lastore, 1)) (k : ∀ (H : Heap) (locs : List Loc) (ls : Array Slot), va_P D cl (wWs sp q ca μ) H → va_S A s.heap H locs → lv_has ls nL lv → vx_NoteN p l e R s m args below meth c H locs kc ks Q (F0 m pc ls st)) : wJ p l e R s m args below meth c nL D cl sp q ca A Q kc ks μ pc lv (.long x :: .int i :: .null :: st) :=
  fun H locs ls h1 h2 h3 => vx_lastoreN C.1 C.2.1 hd (k H locs ls h1 h2 h3)
set_option maxHeartbeats 4000000 in
theorem tX5_put_null (l : Launch) (hl : l.stackTraces = false) {D : va_G} {q : Nat → Nat} {ca : wCA} {sp : List wCell} {b x : Nat} (hb : sp[b]? = some (.inl (5, [(3, x)]))) {i : Int32} {v : Int64} (μ : wMem) : wMN l yX5_put cX5_put 4 none ({ frames := 8, cells := 1, slots := 8, locals := 10240 } : Room) D vwCl sp q ca [.ref (q b), .int i, .long v] μ := by
  refine wMN_intro (by decide) (Nat.le_of_ble_eq_true rfl) ?_
  intro p e s m args below meth c A C hZ htb
  refine wr_sub [(0, .ref (q b)), (1, .int i), (2, .long v)] [0, 1, 2] rfl ?_
  refine wr_aload_n 0 C dX5_put_0 0 rfl rfl ?_
  refine wr_getZ 1 0 C dX5_put_1 hb rfl in_X5 (by decide) rfl q295 ?_
  refine wr_instN 4 C dX5_put_4 ?_
  refine wr_if_eq 7 25 C dX5_put_7 (by decide) (fun _ => ?_) (fun h => absurd rfl h)
  refine wr_aload_n 25 C dX5_put_25 0 rfl rfl ?_
  refine wr_getZ 26 0 C dX5_put_26 hb rfl in_X5 (by decide) rfl q295 ?_
  refine wr_instN 29 C dX5_put_29 ?_
  refine wr_if_eq 32 50 C dX5_put_32 (by decide) (fun _ => ?_) (fun h => absurd rfl h)
  refine wr_aload_n 50 C dX5_put_50 0 rfl rfl ?_
  refine wr_getZ 51 0 C dX5_put_51 hb rfl in_X5 (by decide) rfl q295 ?_
  refine wr_instN 54 C dX5_put_54 ?_
  refine wr_if_eq 57 74 C dX5_put_57 (by decide) (fun _ => ?_) (fun h => absurd rfl h)
  refine wr_aload_n 74 C dX5_put_74 0 rfl rfl ?_
  refine wr_getZ 75 0 C dX5_put_75 hb rfl in_X5 (by decide) rfl q295 ?_
  refine wr_castN 78 C dX5_put_78 ?_
  refine wr_iload_n 81 C dX5_put_81 1 rfl rfl ?_
  refine wr_lload_n 82 C dX5_put_82 2 rfl rfl ?_
  exact wr_lastZ 83 C dX5_put_83 (fun H locs ls h1 h2 h3 => wr_npe 83 C hl hZ ⟨Nat.le_of_ble_eq_true rfl, Nat.le_of_ble_eq_true rfl, Nat.le_of_ble_eq_true rfl, Nat.le_of_ble_eq_true rfl⟩ (fun H1 locs1 ls1 q9 ce g1 g2 g3 g4 g5 g6 => wr_outN 83 C htb ⟨Nat.le_of_ble_eq_true rfl, Nat.le_of_ble_eq_true rfl⟩ g1 g2 g4 g5 g6) H locs ls h1 h2 h3)
