set_option maxRecDepth 100000
/-- a long of two ints, as the law makes it -/
def wLw (h l : Int32) : Int64 := (h.toInt64 <<< (Int32.toInt64 32 &&& 63)) ||| (l.toInt64 &&& 4294967295)
theorem spM_00 : spM[0]? = some (.inl (6, [(0, 0), (2, 1), (2, 2), (2, 3), (2, 4), (2, 5), (0, 0), (0, 0), (0, 0), (0, 0), (0, 0), (1, 0), (0, 0), (0, 0), (0, 0), (0, 0), (2, 6), (2, 7), (2, 8), (2, 9), (2, 10), (2, 11), (2, 12), (0, 0), (0, 0), (0, 0), (0, 0), (0, 0), (0, 0), (0, 0), (0, 0), (2, 13), (2, 14), (2, 15), (0, 0), (2, 16), (0, 0), (0, 0), (0, 0), (2, 17), (0, 0), (2, 18), (2, 19), (2, 20), (2, 21), (2, 22), (2, 23), (0, 0)])) := rfl
theorem okX0_image : wOkV yX0_image cX0_image 2 (some .int) 1 := ⟨q1209, q1210, q136, q1211, by decide, by decide, by decide +kernel⟩
theorem okX0_back : wOkV yX0_back cX0_back 2 (some .int) 1 := ⟨q1297, q1298, q136, q1299, by decide, by decide, by decide +kernel⟩
/-- what a call of the law needs of the script -/
def wLs (b L : Nat) (xs : Nat → Int32) (s : State) (A : Nat → Prop) : Prop := va_X b L xs s s.heap ∧ b < s.heap.size ∧ ¬ A b ∧ L < 2 ^ 31
theorem wl_c0 {p : Program} {l : Launch} {e : Env} {s : State} {m : MethodId} {below : List Frame} {meth : Method} {c : Code} {b : Nat} {D : va_G} {ca : wCA} {A : Nat → Prop} {Z : (Nat → Prop) → State → Heap → Prop} {kc ks : Nat} {sp : List wCell} {q qm : Nat → Nat} {μ μm : wMem} {L i : Nat} {xs : Nat → Int32} {sp1 : List wCell} {μ1 μm1 : wMem} {v : Int32} {rm rm2 : Room} {fs : List (Nat × Nat)} (K : wLc p s m meth c b D ca A Z) (hX : wLs b L xs s A) (hi : i + 5 < L) (hM : wXi Z l yX0_feed (ws_ yX0_feed cX0_feed 6 (some .int)) rm D vwCl sp sp1 q ca [.ref (q 0), .int (xs (i + 1)), .int (xs (i + 2)), .int (xs (i + 3)), .int (xs (i + 4)), .int (xs (i + 5))] μ μ1 v) (hM2 : wMi l yX6_feed cX6_feed 6 (some .int) rm2 D vwCl spM qm ca [.ref (qm 0), .int (xs (i + 1)), .int (xs (i + 2)), .int (xs (i + 3)), .int (xs (i + 4)), .int (xs (i + 5))] μm (v, μm1)) (hs : sp[0]? = some (.inl (0, fs))) (hF1 : rm.frames + 1 ≤ room_1.frames ∧ 8 + (6 + 11) + rm.locals ≤ room_1.locals) (hR1 : kc + rm.cells ≤ room_1.cells ∧ ks + rm.slots ≤ room_1.slots) (hF2 : rm2.frames + 1 ≤ room_1.frames ∧ 8 + (6 + 11) + rm2.locals ≤ room_1.locals) (hR2 : kc + rm.cells + rm2.cells ≤ room_1.cells ∧ ks + rm.slots + rm2.slots ≤ room_1.slots) (k : ∀ u : Nat → Nat, u 0 = q 0 → wLJ p l e s m b below meth c (wLI D ca A s sp1 u μ1 qm μm1) (kc + rm.cells + rm2.cells) (ks + rm.slots + rm2.slots) 1813 (wLv b (q 0) (qm 0) (nI i)) []) : wLJ p l e s m b below meth c (wLI D ca A s sp q μ qm μm) kc ks 284 (wLv b (q 0) (qm 0) (nI i)) [] := by
  refine wl_aload_n 284 K dL_law_284 2 rfl rfl ?_
  refine wl_arg (j := 1) 285 K hX.1 hX.2.1 hX.2.2.1 hX.2.2.2 (by omega) rfl dL_law_285 dL_law_286 dL_law_287 dL_law_288 dL_law_289 ?_
  refine wl_arg (j := 2) 290 K hX.1 hX.2.1 hX.2.2.1 hX.2.2.2 (by omega) rfl dL_law_290 dL_law_291 dL_law_292 dL_law_293 dL_law_294 ?_
  refine wl_arg (j := 3) 295 K hX.1 hX.2.1 hX.2.2.1 hX.2.2.2 (by omega) rfl dL_law_295 dL_law_296 dL_law_297 dL_law_298 dL_law_299 ?_
  refine wl_arg (j := 4) 300 K hX.1 hX.2.1 hX.2.2.1 hX.2.2.2 (by omega) rfl dL_law_300 dL_law_301 dL_law_302 dL_law_303 dL_law_304 ?_
  refine wl_arg (j := 5) 305 K hX.1 hX.2.1 hX.2.2.1 hX.2.2.2 (by omega) rfl dL_law_305 dL_law_306 dL_law_307 dL_law_308 dL_law_309 ?_
  refine wl_Xi (As := [.int (xs (i + 1)), .int (xs (i + 2)), .int (xs (i + 3)), .int (xs (i + 4)), .int (xs (i + 5))]) 310 [] K dL_law_310 hM okX0_feed q434 hs rfl hF1 hR1 (Nat.le_of_ble_eq_true rfl) rfl ?_
  intro u hu0
  rw [← hu0]
  refine wl_aload_n 313 K dL_law_313 1 rfl rfl ?_
  refine wl_arg (j := 1) 314 K hX.1 hX.2.1 hX.2.2.1 hX.2.2.2 (by omega) rfl dL_law_314 dL_law_315 dL_law_316 dL_law_317 dL_law_318 ?_
  refine wl_arg (j := 2) 319 K hX.1 hX.2.1 hX.2.2.1 hX.2.2.2 (by omega) rfl dL_law_319 dL_law_320 dL_law_321 dL_law_322 dL_law_323 ?_
  refine wl_arg (j := 3) 324 K hX.1 hX.2.1 hX.2.2.1 hX.2.2.2 (by omega) rfl dL_law_324 dL_law_325 dL_law_326 dL_law_327 dL_law_328 ?_
  refine wl_arg (j := 4) 329 K hX.1 hX.2.1 hX.2.2.1 hX.2.2.2 (by omega) rfl dL_law_329 dL_law_330 dL_law_331 dL_law_332 dL_law_333 ?_
  refine wl_arg (j := 5) 334 K hX.1 hX.2.1 hX.2.2.1 hX.2.2.2 (by omega) rfl dL_law_334 dL_law_335 dL_law_336 dL_law_337 dL_law_338 ?_
  refine wl_Mi (As := [.int (xs (i + 1)), .int (xs (i + 2)), .int (xs (i + 3)), .int (xs (i + 4)), .int (xs (i + 5))]) 339 [.int v] K dL_law_339 hM2 okX6_feed q1566 spM_00 rfl hF2 hR2 (Nat.le_of_ble_eq_true rfl) rfl ?_
  refine wl_icmp_eq (tgt := 1813) 342 K dL_law_342 (by decide) ?_
  rw [hu0]
  exact k u hu0
theorem wl_c1 {p : Program} {l : Launch} {e : Env} {s : State} {m : MethodId} {below : List Frame} {meth : Method} {c : Code} {b : Nat} {D : va_G} {ca : wCA} {A : Nat → Prop} {Z : (Nat → Prop) → State → Heap → Prop} {kc ks : Nat} {sp : List wCell} {q qm : Nat → Nat} {μ μm : wMem} {L i : Nat} {xs : Nat → Int32} {sp1 : List wCell} {μ1 μm1 : wMem} {v : Int32} {rm rm2 : Room} {fs : List (Nat × Nat)} (K : wLc p s m meth c b D ca A Z) (hX : wLs b L xs s A) (hi : i + 5 < L) (hM : wXi Z l yX0_end (ws_ yX0_end cX0_end 2 (some .int)) rm D vwCl sp sp1 q ca [.ref (q 0), .int (xs (i + 1))] μ μ1 v) (hM2 : wMi l yX6_end cX6_end 2 (some .int) rm2 D vwCl spM qm ca [.ref (qm 0), .int (xs (i + 1))] μm (v, μm1)) (hs : sp[0]? = some (.inl (0, fs))) (hF1 : rm.frames + 1 ≤ room_1.frames ∧ 8 + (2 + 11) + rm.locals ≤ room_1.locals) (hR1 : kc + rm.cells ≤ room_1.cells ∧ ks + rm.slots ≤ room_1.slots) (hF2 : rm2.frames + 1 ≤ room_1.frames ∧ 8 + (2 + 11) + rm2.locals ≤ room_1.locals) (hR2 : kc + rm.cells + rm2.cells ≤ room_1.cells ∧ ks + rm.slots + rm2.slots ≤ room_1.slots) (k : ∀ u : Nat → Nat, u 0 = q 0 → wLJ p l e s m b below meth c (wLI D ca A s sp1 u μ1 qm μm1) (kc + rm.cells + rm2.cells) (ks + rm.slots + rm2.slots) 1813 (wLv b (q 0) (qm 0) (nI i)) []) : wLJ p l e s m b below meth c (wLI D ca A s sp q μ qm μm) kc ks 347 (wLv b (q 0) (qm 0) (nI i)) [] := by
  refine wl_aload_n 347 K dL_law_347 2 rfl rfl ?_
  refine wl_arg (j := 1) 348 K hX.1 hX.2.1 hX.2.2.1 hX.2.2.2 (by omega) rfl dL_law_348 dL_law_349 dL_law_350 dL_law_351 dL_law_352 ?_
  refine wl_Xi (As := [.int (xs (i + 1))]) 353 [] K dL_law_353 hM okX0_end q442 hs rfl hF1 hR1 (Nat.le_of_ble_eq_true rfl) rfl ?_
  intro u hu0
  rw [← hu0]
  refine wl_aload_n 356 K dL_law_356 1 rfl rfl ?_
  refine wl_arg (j := 1) 357 K hX.1 hX.2.1 hX.2.2.1 hX.2.2.2 (by omega) rfl dL_law_357 dL_law_358 dL_law_359 dL_law_360 dL_law_361 ?_
  refine wl_Mi (As := [.int (xs (i + 1))]) 362 [.int v] K dL_law_362 hM2 okX6_end q1574 spM_00 rfl hF2 hR2 (Nat.le_of_ble_eq_true rfl) rfl ?_
  refine wl_icmp_eq (tgt := 1813) 365 K dL_law_365 (by decide) ?_
  rw [hu0]
  exact k u hu0
theorem wl_c2 {p : Program} {l : Launch} {e : Env} {s : State} {m : MethodId} {below : List Frame} {meth : Method} {c : Code} {b : Nat} {D : va_G} {ca : wCA} {A : Nat → Prop} {Z : (Nat → Prop) → State → Heap → Prop} {kc ks : Nat} {sp : List wCell} {q qm : Nat → Nat} {μ μm : wMem} {L i : Nat} {xs : Nat → Int32} {sp1 : List wCell} {μ1 μm1 : wMem} {v : Int32} {rm rm2 : Room} {fs : List (Nat × Nat)} (K : wLc p s m meth c b D ca A Z) (hX : wLs b L xs s A) (hi : i + 5 < L) (hM : wXi Z l yX0_family (wsW_ yX0_family cX0_family 4 (some .int) [(0, 33, 40, 120), (0, 33, 67, 0), (40, 60, 67, 0)]) rm D vwCl sp sp1 q ca [.ref (q 0)] μ μ1 v) (hM2 : wMi l yX6_family cX6_family 1 (some .int) rm2 D vwCl spM qm ca [.ref (qm 0)] μm (v, μm1)) (hs : sp[0]? = some (.inl (0, fs))) (hF1 : rm.frames + 1 ≤ room_1.frames ∧ 8 + (4 + 11) + rm.locals ≤ room_1.locals) (hR1 : kc + rm.cells ≤ room_1.cells ∧ ks + rm.slots ≤ room_1.slots) (hF2 : rm2.frames + 1 ≤ room_1.frames ∧ 8 + (1 + 11) + rm2.locals ≤ room_1.locals) (hR2 : kc + rm.cells + rm2.cells ≤ room_1.cells ∧ ks + rm.slots + rm2.slots ≤ room_1.slots) (k : ∀ u : Nat → Nat, u 0 = q 0 → wLJ p l e s m b below meth c (wLI D ca A s sp1 u μ1 qm μm1) (kc + rm.cells + rm2.cells) (ks + rm.slots + rm2.slots) 1813 (wLv b (q 0) (qm 0) (nI i)) []) : wLJ p l e s m b below meth c (wLI D ca A s sp q μ qm μm) kc ks 370 (wLv b (q 0) (qm 0) (nI i)) [] := by
  refine wl_aload_n 370 K dL_law_370 2 rfl rfl ?_
  refine wl_XiW (As := []) 371 [] K dL_law_371 hM okX0_family q449 hs rfl hF1 hR1 (Nat.le_of_ble_eq_true rfl) rfl ?_
  intro u hu0
  rw [← hu0]
  refine wl_aload_n 374 K dL_law_374 1 rfl rfl ?_
  refine wl_Mi (As := []) 375 [.int v] K dL_law_375 hM2 okX6_family q1582 spM_00 rfl hF2 hR2 (Nat.le_of_ble_eq_true rfl) rfl ?_
  refine wl_icmp_eq (tgt := 1813) 378 K dL_law_378 (by decide) ?_
  rw [hu0]
  exact k u hu0
theorem wl_c3 {p : Program} {l : Launch} {e : Env} {s : State} {m : MethodId} {below : List Frame} {meth : Method} {c : Code} {b : Nat} {D : va_G} {ca : wCA} {A : Nat → Prop} {Z : (Nat → Prop) → State → Heap → Prop} {kc ks : Nat} {sp : List wCell} {q qm : Nat → Nat} {μ μm : wMem} {L i : Nat} {xs : Nat → Int32} {sp1 : List wCell} {μ1 μm1 : wMem} {v : Int32} {rm rm2 : Room} {fs : List (Nat × Nat)} (K : wLc p s m meth c b D ca A Z) (hX : wLs b L xs s A) (hi : i + 5 < L) (hM : wXi Z l yX0_fault (ws_ yX0_fault cX0_fault 2 (some .int)) rm D vwCl sp sp1 q ca [.ref (q 0), .int (xs (i + 1))] μ μ1 v) (hM2 : wMi l yX6_fault cX6_fault 2 (some .int) rm2 D vwCl spM qm ca [.ref (qm 0), .int (xs (i + 1))] μm (v, μm1)) (hs : sp[0]? = some (.inl (0, fs))) (hF1 : rm.frames + 1 ≤ room_1.frames ∧ 8 + (2 + 11) + rm.locals ≤ room_1.locals) (hR1 : kc + rm.cells ≤ room_1.cells ∧ ks + rm.slots ≤ room_1.slots) (hF2 : rm2.frames + 1 ≤ room_1.frames ∧ 8 + (2 + 11) + rm2.locals ≤ room_1.locals) (hR2 : kc + rm.cells + rm2.cells ≤ room_1.cells ∧ ks + rm.slots + rm2.slots ≤ room_1.slots) (k : ∀ u : Nat → Nat, u 0 = q 0 → wLJ p l e s m b below meth c (wLI D ca A s sp1 u μ1 qm μm1) (kc + rm.cells + rm2.cells) (ks + rm.slots + rm2.slots) 1813 (wLv b (q 0) (qm 0) (nI i)) []) : wLJ p l e s m b below meth c (wLI D ca A s sp q μ qm μm) kc ks 383 (wLv b (q 0) (qm 0) (nI i)) [] := by
  refine wl_aload_n 383 K dL_law_383 2 rfl rfl ?_
  refine wl_arg (j := 1) 384 K hX.1 hX.2.1 hX.2.2.1 hX.2.2.2 (by omega) rfl dL_law_384 dL_law_385 dL_law_386 dL_law_387 dL_law_388 ?_
  refine wl_Xi (As := [.int (xs (i + 1))]) 389 [] K dL_law_389 hM okX0_fault q694 hs rfl hF1 hR1 (Nat.le_of_ble_eq_true rfl) rfl ?_
  intro u hu0
  rw [← hu0]
  refine wl_aload_n 392 K dL_law_392 1 rfl rfl ?_
  refine wl_arg (j := 1) 393 K hX.1 hX.2.1 hX.2.2.1 hX.2.2.2 (by omega) rfl dL_law_393 dL_law_394 dL_law_395 dL_law_396 dL_law_397 ?_
  refine wl_Mi (As := [.int (xs (i + 1))]) 398 [.int v] K dL_law_398 hM2 okX6_fault q1578 spM_00 rfl hF2 hR2 (Nat.le_of_ble_eq_true rfl) rfl ?_
  refine wl_icmp_eq (tgt := 1813) 401 K dL_law_401 (by decide) ?_
  rw [hu0]
  exact k u hu0
theorem wl_c4 {p : Program} {l : Launch} {e : Env} {s : State} {m : MethodId} {below : List Frame} {meth : Method} {c : Code} {b : Nat} {D : va_G} {ca : wCA} {A : Nat → Prop} {Z : (Nat → Prop) → State → Heap → Prop} {kc ks : Nat} {sp : List wCell} {q qm : Nat → Nat} {μ μm : wMem} {L i : Nat} {xs : Nat → Int32} {sp1 : List wCell} {μ1 μm1 : wMem} {v : Int32} {rm rm2 : Room} {fs : List (Nat × Nat)} (K : wLc p s m meth c b D ca A Z) (hX : wLs b L xs s A) (hi : i + 5 < L) (hM : wXi Z l yX0_person (ws_ yX0_person cX0_person 3 (some .int)) rm D vwCl sp sp1 q ca [.ref (q 0), .int (xs (i + 1)), .int (xs (i + 2))] μ μ1 v) (hM2 : wMi l yX6_person cX6_person 3 (some .int) rm2 D vwCl spM qm ca [.ref (qm 0), .int (xs (i + 1)), .int (xs (i + 2))] μm (v, μm1)) (hs : sp[0]? = some (.inl (0, fs))) (hF1 : rm.frames + 1 ≤ room_1.frames ∧ 8 + (3 + 11) + rm.locals ≤ room_1.locals) (hR1 : kc + rm.cells ≤ room_1.cells ∧ ks + rm.slots ≤ room_1.slots) (hF2 : rm2.frames + 1 ≤ room_1.frames ∧ 8 + (3 + 11) + rm2.locals ≤ room_1.locals) (hR2 : kc + rm.cells + rm2.cells ≤ room_1.cells ∧ ks + rm.slots + rm2.slots ≤ room_1.slots) (k : ∀ u : Nat → Nat, u 0 = q 0 → wLJ p l e s m b below meth c (wLI D ca A s sp1 u μ1 qm μm1) (kc + rm.cells + rm2.cells) (ks + rm.slots + rm2.slots) 1813 (wLv b (q 0) (qm 0) (nI i)) []) : wLJ p l e s m b below meth c (wLI D ca A s sp q μ qm μm) kc ks 406 (wLv b (q 0) (qm 0) (nI i)) [] := by
  refine wl_aload_n 406 K dL_law_406 2 rfl rfl ?_
  refine wl_arg (j := 1) 407 K hX.1 hX.2.1 hX.2.2.1 hX.2.2.2 (by omega) rfl dL_law_407 dL_law_408 dL_law_409 dL_law_410 dL_law_411 ?_
  refine wl_arg (j := 2) 412 K hX.1 hX.2.1 hX.2.2.1 hX.2.2.2 (by omega) rfl dL_law_412 dL_law_413 dL_law_414 dL_law_415 dL_law_416 ?_
  refine wl_Xi (As := [.int (xs (i + 1)), .int (xs (i + 2))]) 417 [] K dL_law_417 hM okX0_person q730 hs rfl hF1 hR1 (Nat.le_of_ble_eq_true rfl) rfl ?_
  intro u hu0
  rw [← hu0]
  refine wl_aload_n 420 K dL_law_420 1 rfl rfl ?_
  refine wl_arg (j := 1) 421 K hX.1 hX.2.1 hX.2.2.1 hX.2.2.2 (by omega) rfl dL_law_421 dL_law_422 dL_law_423 dL_law_424 dL_law_425 ?_
  refine wl_arg (j := 2) 426 K hX.1 hX.2.1 hX.2.2.1 hX.2.2.2 (by omega) rfl dL_law_426 dL_law_427 dL_law_428 dL_law_429 dL_law_430 ?_
  refine wl_Mi (As := [.int (xs (i + 1)), .int (xs (i + 2))]) 431 [.int v] K dL_law_431 hM2 okX6_person q1681 spM_00 rfl hF2 hR2 (Nat.le_of_ble_eq_true rfl) rfl ?_
  refine wl_icmp_eq (tgt := 1813) 434 K dL_law_434 (by decide) ?_
  rw [hu0]
  exact k u hu0
theorem wl_c5 {p : Program} {l : Launch} {e : Env} {s : State} {m : MethodId} {below : List Frame} {meth : Method} {c : Code} {b : Nat} {D : va_G} {ca : wCA} {A : Nat → Prop} {Z : (Nat → Prop) → State → Heap → Prop} {kc ks : Nat} {sp : List wCell} {q qm : Nat → Nat} {μ μm : wMem} {L i : Nat} {xs : Nat → Int32} {sp1 : List wCell} {μ1 μm1 : wMem} {v : Int32} {rm rm2 : Room} {fs : List (Nat × Nat)} (K : wLc p s m meth c b D ca A Z) (hX : wLs b L xs s A) (hi : i + 5 < L) (hM : wXi Z l yX0_post (ws_ yX0_post cX0_post 3 (some .int)) rm D vwCl sp sp1 q ca [.ref (q 0), .int (xs (i + 1)), .int (xs (i + 2))] μ μ1 v) (hM2 : wMi l yX6_post cX6_post 3 (some .int) rm2 D vwCl spM qm ca [.ref (qm 0), .int (xs (i + 1)), .int (xs (i + 2))] μm (v, μm1)) (hs : sp[0]? = some (.inl (0, fs))) (hF1 : rm.frames + 1 ≤ room_1.frames ∧ 8 + (3 + 11) + rm.locals ≤ room_1.locals) (hR1 : kc + rm.cells ≤ room_1.cells ∧ ks + rm.slots ≤ room_1.slots) (hF2 : rm2.frames + 1 ≤ room_1.frames ∧ 8 + (3 + 11) + rm2.locals ≤ room_1.locals) (hR2 : kc + rm.cells + rm2.cells ≤ room_1.cells ∧ ks + rm.slots + rm2.slots ≤ room_1.slots) (k : ∀ u : Nat → Nat, u 0 = q 0 → wLJ p l e s m b below meth c (wLI D ca A s sp1 u μ1 qm μm1) (kc + rm.cells + rm2.cells) (ks + rm.slots + rm2.slots) 1813 (wLv b (q 0) (qm 0) (nI i)) []) : wLJ p l e s m b below meth c (wLI D ca A s sp q μ qm μm) kc ks 439 (wLv b (q 0) (qm 0) (nI i)) [] := by
  refine wl_aload_n 439 K dL_law_439 2 rfl rfl ?_
  refine wl_arg (j := 1) 440 K hX.1 hX.2.1 hX.2.2.1 hX.2.2.2 (by omega) rfl dL_law_440 dL_law_441 dL_law_442 dL_law_443 dL_law_444 ?_
  refine wl_arg (j := 2) 445 K hX.1 hX.2.1 hX.2.2.1 hX.2.2.2 (by omega) rfl dL_law_445 dL_law_446 dL_law_447 dL_law_448 dL_law_449 ?_
  refine wl_Xi (As := [.int (xs (i + 1)), .int (xs (i + 2))]) 450 [] K dL_law_450 hM okX0_post q762 hs rfl hF1 hR1 (Nat.le_of_ble_eq_true rfl) rfl ?_
  intro u hu0
  rw [← hu0]
  refine wl_aload_n 453 K dL_law_453 1 rfl rfl ?_
  refine wl_arg (j := 1) 454 K hX.1 hX.2.1 hX.2.2.1 hX.2.2.2 (by omega) rfl dL_law_454 dL_law_455 dL_law_456 dL_law_457 dL_law_458 ?_
  refine wl_arg (j := 2) 459 K hX.1 hX.2.1 hX.2.2.1 hX.2.2.2 (by omega) rfl dL_law_459 dL_law_460 dL_law_461 dL_law_462 dL_law_463 ?_
  refine wl_Mi (As := [.int (xs (i + 1)), .int (xs (i + 2))]) 464 [.int v] K dL_law_464 hM2 okX6_post q1726 spM_00 rfl hF2 hR2 (Nat.le_of_ble_eq_true rfl) rfl ?_
  refine wl_icmp_eq (tgt := 1813) 467 K dL_law_467 (by decide) ?_
  rw [hu0]
  exact k u hu0
theorem wl_c6 {p : Program} {l : Launch} {e : Env} {s : State} {m : MethodId} {below : List Frame} {meth : Method} {c : Code} {b : Nat} {D : va_G} {ca : wCA} {A : Nat → Prop} {Z : (Nat → Prop) → State → Heap → Prop} {kc ks : Nat} {sp : List wCell} {q qm : Nat → Nat} {μ μm : wMem} {L i : Nat} {xs : Nat → Int32} {sp1 : List wCell} {μ1 μm1 : wMem} {v : Int32} {rm rm2 : Room} {fs : List (Nat × Nat)} (K : wLc p s m meth c b D ca A Z) (hX : wLs b L xs s A) (hi : i + 5 < L) (hM : wXi Z l yX0_risk (ws_ yX0_risk cX0_risk 3 (some .int)) rm D vwCl sp sp1 q ca [.ref (q 0), .int (xs (i + 1)), .int (xs (i + 2))] μ μ1 v) (hM2 : wMi l yX6_risk cX6_risk 3 (some .int) rm2 D vwCl spM qm ca [.ref (qm 0), .int (xs (i + 1)), .int (xs (i + 2))] μm (v, μm1)) (hs : sp[0]? = some (.inl (0, fs))) (hF1 : rm.frames + 1 ≤ room_1.frames ∧ 8 + (3 + 11) + rm.locals ≤ room_1.locals) (hR1 : kc + rm.cells ≤ room_1.cells ∧ ks + rm.slots ≤ room_1.slots) (hF2 : rm2.frames + 1 ≤ room_1.frames ∧ 8 + (3 + 11) + rm2.locals ≤ room_1.locals) (hR2 : kc + rm.cells + rm2.cells ≤ room_1.cells ∧ ks + rm.slots + rm2.slots ≤ room_1.slots) (k : ∀ u : Nat → Nat, u 0 = q 0 → wLJ p l e s m b below meth c (wLI D ca A s sp1 u μ1 qm μm1) (kc + rm.cells + rm2.cells) (ks + rm.slots + rm2.slots) 1813 (wLv b (q 0) (qm 0) (nI i)) []) : wLJ p l e s m b below meth c (wLI D ca A s sp q μ qm μm) kc ks 472 (wLv b (q 0) (qm 0) (nI i)) [] := by
  refine wl_aload_n 472 K dL_law_472 2 rfl rfl ?_
  refine wl_arg (j := 1) 473 K hX.1 hX.2.1 hX.2.2.1 hX.2.2.2 (by omega) rfl dL_law_473 dL_law_474 dL_law_475 dL_law_476 dL_law_477 ?_
  refine wl_arg (j := 2) 478 K hX.1 hX.2.1 hX.2.2.1 hX.2.2.2 (by omega) rfl dL_law_478 dL_law_479 dL_law_480 dL_law_481 dL_law_482 ?_
  refine wl_Xi (As := [.int (xs (i + 1)), .int (xs (i + 2))]) 483 [] K dL_law_483 hM okX0_risk q698 hs rfl hF1 hR1 (Nat.le_of_ble_eq_true rfl) rfl ?_
  intro u hu0
  rw [← hu0]
  refine wl_aload_n 486 K dL_law_486 1 rfl rfl ?_
  refine wl_arg (j := 1) 487 K hX.1 hX.2.1 hX.2.2.1 hX.2.2.2 (by omega) rfl dL_law_487 dL_law_488 dL_law_489 dL_law_490 dL_law_491 ?_
  refine wl_arg (j := 2) 492 K hX.1 hX.2.1 hX.2.2.1 hX.2.2.2 (by omega) rfl dL_law_492 dL_law_493 dL_law_494 dL_law_495 dL_law_496 ?_
  refine wl_Mi (As := [.int (xs (i + 1)), .int (xs (i + 2))]) 497 [.int v] K dL_law_497 hM2 okX6_risk q1734 spM_00 rfl hF2 hR2 (Nat.le_of_ble_eq_true rfl) rfl ?_
  refine wl_icmp_eq (tgt := 1813) 500 K dL_law_500 (by decide) ?_
  rw [hu0]
  exact k u hu0
theorem wl_c7 {p : Program} {l : Launch} {e : Env} {s : State} {m : MethodId} {below : List Frame} {meth : Method} {c : Code} {b : Nat} {D : va_G} {ca : wCA} {A : Nat → Prop} {Z : (Nat → Prop) → State → Heap → Prop} {kc ks : Nat} {sp : List wCell} {q qm : Nat → Nat} {μ μm : wMem} {L i : Nat} {xs : Nat → Int32} {sp1 : List wCell} {μ1 μm1 : wMem} {v : Int32} {rm rm2 : Room} {fs : List (Nat × Nat)} (K : wLc p s m meth c b D ca A Z) (hX : wLs b L xs s A) (hi : i + 5 < L) (hM : wXi Z l yX0_after (ws_ yX0_after cX0_after 5 (some .int)) rm D vwCl sp sp1 q ca [.ref (q 0), .int (xs (i + 1)), .int (xs (i + 2))] μ μ1 v) (hM2 : wMi l yX6_after cX6_after 5 (some .int) rm2 D vwCl spM qm ca [.ref (qm 0), .int (xs (i + 1)), .int (xs (i + 2))] μm (v, μm1)) (hs : sp[0]? = some (.inl (0, fs))) (hF1 : rm.frames + 1 ≤ room_1.frames ∧ 8 + (5 + 11) + rm.locals ≤ room_1.locals) (hR1 : kc + rm.cells ≤ room_1.cells ∧ ks + rm.slots ≤ room_1.slots) (hF2 : rm2.frames + 1 ≤ room_1.frames ∧ 8 + (5 + 11) + rm2.locals ≤ room_1.locals) (hR2 : kc + rm.cells + rm2.cells ≤ room_1.cells ∧ ks + rm.slots + rm2.slots ≤ room_1.slots) (k : ∀ u : Nat → Nat, u 0 = q 0 → wLJ p l e s m b below meth c (wLI D ca A s sp1 u μ1 qm μm1) (kc + rm.cells + rm2.cells) (ks + rm.slots + rm2.slots) 1813 (wLv b (q 0) (qm 0) (nI i)) []) : wLJ p l e s m b below meth c (wLI D ca A s sp q μ qm μm) kc ks 505 (wLv b (q 0) (qm 0) (nI i)) [] := by
  refine wl_aload_n 505 K dL_law_505 2 rfl rfl ?_
  refine wl_arg (j := 1) 506 K hX.1 hX.2.1 hX.2.2.1 hX.2.2.2 (by omega) rfl dL_law_506 dL_law_507 dL_law_508 dL_law_509 dL_law_510 ?_
  refine wl_arg (j := 2) 511 K hX.1 hX.2.1 hX.2.2.1 hX.2.2.2 (by omega) rfl dL_law_511 dL_law_512 dL_law_513 dL_law_514 dL_law_515 ?_
  refine wl_Xi (As := [.int (xs (i + 1)), .int (xs (i + 2))]) 516 [] K dL_law_516 hM okX0_after q714 hs rfl hF1 hR1 (Nat.le_of_ble_eq_true rfl) rfl ?_
  intro u hu0
  rw [← hu0]
  refine wl_aload_n 519 K dL_law_519 1 rfl rfl ?_
  refine wl_arg (j := 1) 520 K hX.1 hX.2.1 hX.2.2.1 hX.2.2.2 (by omega) rfl dL_law_520 dL_law_521 dL_law_522 dL_law_523 dL_law_524 ?_
  refine wl_arg (j := 2) 525 K hX.1 hX.2.1 hX.2.2.1 hX.2.2.2 (by omega) rfl dL_law_525 dL_law_526 dL_law_527 dL_law_528 dL_law_529 ?_
  refine wl_Mi (As := [.int (xs (i + 1)), .int (xs (i + 2))]) 530 [.int v] K dL_law_530 hM2 okX6_after q1738 spM_00 rfl hF2 hR2 (Nat.le_of_ble_eq_true rfl) rfl ?_
  refine wl_icmp_eq (tgt := 1813) 533 K dL_law_533 (by decide) ?_
  rw [hu0]
  exact k u hu0
theorem wl_c8 {p : Program} {l : Launch} {e : Env} {s : State} {m : MethodId} {below : List Frame} {meth : Method} {c : Code} {b : Nat} {D : va_G} {ca : wCA} {A : Nat → Prop} {Z : (Nat → Prop) → State → Heap → Prop} {kc ks : Nat} {sp : List wCell} {q qm : Nat → Nat} {μ μm : wMem} {L i : Nat} {xs : Nat → Int32} {sp1 : List wCell} {μ1 μm1 : wMem} {v : Int32} {rm rm2 : Room} {fs : List (Nat × Nat)} (K : wLc p s m meth c b D ca A Z) (hX : wLs b L xs s A) (hi : i + 5 < L) (hM : wXi Z l yX0_now (ws_ yX0_now cX0_now 2 (some .int)) rm D vwCl sp sp1 q ca [.ref (q 0), .int (xs (i + 1))] μ μ1 v) (hM2 : wMi l yX6_now cX6_now 2 (some .int) rm2 D vwCl spM qm ca [.ref (qm 0), .int (xs (i + 1))] μm (v, μm1)) (hs : sp[0]? = some (.inl (0, fs))) (hF1 : rm.frames + 1 ≤ room_1.frames ∧ 8 + (2 + 11) + rm.locals ≤ room_1.locals) (hR1 : kc + rm.cells ≤ room_1.cells ∧ ks + rm.slots ≤ room_1.slots) (hF2 : rm2.frames + 1 ≤ room_1.frames ∧ 8 + (2 + 11) + rm2.locals ≤ room_1.locals) (hR2 : kc + rm.cells + rm2.cells ≤ room_1.cells ∧ ks + rm.slots + rm2.slots ≤ room_1.slots) (k : ∀ u : Nat → Nat, u 0 = q 0 → wLJ p l e s m b below meth c (wLI D ca A s sp1 u μ1 qm μm1) (kc + rm.cells + rm2.cells) (ks + rm.slots + rm2.slots) 1813 (wLv b (q 0) (qm 0) (nI i)) []) : wLJ p l e s m b below meth c (wLI D ca A s sp q μ qm μm) kc ks 538 (wLv b (q 0) (qm 0) (nI i)) [] := by
  refine wl_aload_n 538 K dL_law_538 2 rfl rfl ?_
  refine wl_arg (j := 1) 539 K hX.1 hX.2.1 hX.2.2.1 hX.2.2.2 (by omega) rfl dL_law_539 dL_law_540 dL_law_541 dL_law_542 dL_law_543 ?_
  refine wl_Xi (As := [.int (xs (i + 1))]) 544 [] K dL_law_544 hM okX0_now q766 hs rfl hF1 hR1 (Nat.le_of_ble_eq_true rfl) rfl ?_
  intro u hu0
  rw [← hu0]
  refine wl_aload_n 547 K dL_law_547 1 rfl rfl ?_
  refine wl_arg (j := 1) 548 K hX.1 hX.2.1 hX.2.2.1 hX.2.2.2 (by omega) rfl dL_law_548 dL_law_549 dL_law_550 dL_law_551 dL_law_552 ?_
  refine wl_Mi (As := [.int (xs (i + 1))]) 553 [.int v] K dL_law_553 hM2 okX6_now q1746 spM_00 rfl hF2 hR2 (Nat.le_of_ble_eq_true rfl) rfl ?_
  refine wl_icmp_eq (tgt := 1813) 556 K dL_law_556 (by decide) ?_
  rw [hu0]
  exact k u hu0
theorem wl_c9 {p : Program} {l : Launch} {e : Env} {s : State} {m : MethodId} {below : List Frame} {meth : Method} {c : Code} {b : Nat} {D : va_G} {ca : wCA} {A : Nat → Prop} {Z : (Nat → Prop) → State → Heap → Prop} {kc ks : Nat} {sp : List wCell} {q qm : Nat → Nat} {μ μm : wMem} {L i : Nat} {xs : Nat → Int32} {sp1 : List wCell} {μ1 μm1 : wMem} {v : Int32} {rm rm2 : Room} {fs : List (Nat × Nat)} (K : wLc p s m meth c b D ca A Z) (hX : wLs b L xs s A) (hi : i + 5 < L) (hM : wXi Z l yX0_stamp (ws_ yX0_stamp cX0_stamp 5 (some .int)) rm D vwCl sp sp1 q ca [.ref (q 0), .int (xs (i + 1))] μ μ1 v) (hM2 : wMi l yX6_stamp cX6_stamp 2 (some .int) rm2 D vwCl spM qm ca [.ref (qm 0), .int (xs (i + 1))] μm (v, μm1)) (hs : sp[0]? = some (.inl (0, fs))) (hF1 : rm.frames + 1 ≤ room_1.frames ∧ 8 + (5 + 11) + rm.locals ≤ room_1.locals) (hR1 : kc + rm.cells ≤ room_1.cells ∧ ks + rm.slots ≤ room_1.slots) (hF2 : rm2.frames + 1 ≤ room_1.frames ∧ 8 + (2 + 11) + rm2.locals ≤ room_1.locals) (hR2 : kc + rm.cells + rm2.cells ≤ room_1.cells ∧ ks + rm.slots + rm2.slots ≤ room_1.slots) (k : ∀ u : Nat → Nat, u 0 = q 0 → wLJ p l e s m b below meth c (wLI D ca A s sp1 u μ1 qm μm1) (kc + rm.cells + rm2.cells) (ks + rm.slots + rm2.slots) 1813 (wLv b (q 0) (qm 0) (nI i)) []) : wLJ p l e s m b below meth c (wLI D ca A s sp q μ qm μm) kc ks 561 (wLv b (q 0) (qm 0) (nI i)) [] := by
  refine wl_aload_n 561 K dL_law_561 2 rfl rfl ?_
  refine wl_arg (j := 1) 562 K hX.1 hX.2.1 hX.2.2.1 hX.2.2.2 (by omega) rfl dL_law_562 dL_law_563 dL_law_564 dL_law_565 dL_law_566 ?_
  refine wl_Xi (As := [.int (xs (i + 1))]) 567 [] K dL_law_567 hM okX0_stamp q778 hs rfl hF1 hR1 (Nat.le_of_ble_eq_true rfl) rfl ?_
  intro u hu0
  rw [← hu0]
  refine wl_aload_n 570 K dL_law_570 1 rfl rfl ?_
  refine wl_arg (j := 1) 571 K hX.1 hX.2.1 hX.2.2.1 hX.2.2.2 (by omega) rfl dL_law_571 dL_law_572 dL_law_573 dL_law_574 dL_law_575 ?_
  refine wl_Mi (As := [.int (xs (i + 1))]) 576 [.int v] K dL_law_576 hM2 okX6_stamp q1754 spM_00 rfl hF2 hR2 (Nat.le_of_ble_eq_true rfl) rfl ?_
  refine wl_icmp_eq (tgt := 1813) 579 K dL_law_579 (by decide) ?_
  rw [hu0]
  exact k u hu0
theorem wl_c10 {p : Program} {l : Launch} {e : Env} {s : State} {m : MethodId} {below : List Frame} {meth : Method} {c : Code} {b : Nat} {D : va_G} {ca : wCA} {A : Nat → Prop} {Z : (Nat → Prop) → State → Heap → Prop} {kc ks : Nat} {sp : List wCell} {q qm : Nat → Nat} {μ μm : wMem} {L i : Nat} {xs : Nat → Int32} {sp1 : List wCell} {μ1 μm1 : wMem} {v : Int32} {rm rm2 : Room} {fs : List (Nat × Nat)} (K : wLc p s m meth c b D ca A Z) (hX : wLs b L xs s A) (hi : i + 5 < L) (hM : wXi Z l yX0_lies (ws_ yX0_lies cX0_lies 2 (some .int)) rm D vwCl sp sp1 q ca [.ref (q 0)] μ μ1 v) (hM2 : wMi l yX6_lies cX6_lies 1 (some .int) rm2 D vwCl spM qm ca [.ref (qm 0)] μm (v, μm1)) (hs : sp[0]? = some (.inl (0, fs))) (hF1 : rm.frames + 1 ≤ room_1.frames ∧ 8 + (2 + 11) + rm.locals ≤ room_1.locals) (hR1 : kc + rm.cells ≤ room_1.cells ∧ ks + rm.slots ≤ room_1.slots) (hF2 : rm2.frames + 1 ≤ room_1.frames ∧ 8 + (1 + 11) + rm2.locals ≤ room_1.locals) (hR2 : kc + rm.cells + rm2.cells ≤ room_1.cells ∧ ks + rm.slots + rm2.slots ≤ room_1.slots) (k : ∀ u : Nat → Nat, u 0 = q 0 → wLJ p l e s m b below meth c (wLI D ca A s sp1 u μ1 qm μm1) (kc + rm.cells + rm2.cells) (ks + rm.slots + rm2.slots) 1813 (wLv b (q 0) (qm 0) (nI i)) []) : wLJ p l e s m b below meth c (wLI D ca A s sp q μ qm μm) kc ks 584 (wLv b (q 0) (qm 0) (nI i)) [] := by
  refine wl_aload_n 584 K dL_law_584 2 rfl rfl ?_
  refine wl_Xi (As := []) 585 [] K dL_law_585 hM okX0_lies q782 hs rfl hF1 hR1 (Nat.le_of_ble_eq_true rfl) rfl ?_
  intro u hu0
  rw [← hu0]
  refine wl_aload_n 588 K dL_law_588 1 rfl rfl ?_
  refine wl_Mi (As := []) 589 [.int v] K dL_law_589 hM2 okX6_lies q1758 spM_00 rfl hF2 hR2 (Nat.le_of_ble_eq_true rfl) rfl ?_
  refine wl_icmp_eq (tgt := 1813) 592 K dL_law_592 (by decide) ?_
  rw [hu0]
  exact k u hu0
theorem wl_c11 {p : Program} {l : Launch} {e : Env} {s : State} {m : MethodId} {below : List Frame} {meth : Method} {c : Code} {b : Nat} {D : va_G} {ca : wCA} {A : Nat → Prop} {Z : (Nat → Prop) → State → Heap → Prop} {kc ks : Nat} {sp : List wCell} {q qm : Nat → Nat} {μ μm : wMem} {L i : Nat} {xs : Nat → Int32} {sp1 : List wCell} {μ1 μm1 : wMem} {v : Int32} {rm rm2 : Room} {fs : List (Nat × Nat)} (K : wLc p s m meth c b D ca A Z) (hX : wLs b L xs s A) (hi : i + 5 < L) (hM : wXi Z l yX0_why (ws_ yX0_why cX0_why 4 (some .int)) rm D vwCl sp sp1 q ca [.ref (q 0), .int (xs (i + 1)), .int (xs (i + 2)), .int (xs (i + 3))] μ μ1 v) (hM2 : wMi l yX6_why cX6_why 4 (some .int) rm2 D vwCl spM qm ca [.ref (qm 0), .int (xs (i + 1)), .int (xs (i + 2)), .int (xs (i + 3))] μm (v, μm1)) (hs : sp[0]? = some (.inl (0, fs))) (hF1 : rm.frames + 1 ≤ room_1.frames ∧ 8 + (4 + 11) + rm.locals ≤ room_1.locals) (hR1 : kc + rm.cells ≤ room_1.cells ∧ ks + rm.slots ≤ room_1.slots) (hF2 : rm2.frames + 1 ≤ room_1.frames ∧ 8 + (4 + 11) + rm2.locals ≤ room_1.locals) (hR2 : kc + rm.cells + rm2.cells ≤ room_1.cells ∧ ks + rm.slots + rm2.slots ≤ room_1.slots) (k : ∀ u : Nat → Nat, u 0 = q 0 → wLJ p l e s m b below meth c (wLI D ca A s sp1 u μ1 qm μm1) (kc + rm.cells + rm2.cells) (ks + rm.slots + rm2.slots) 1813 (wLv b (q 0) (qm 0) (nI i)) []) : wLJ p l e s m b below meth c (wLI D ca A s sp q μ qm μm) kc ks 597 (wLv b (q 0) (qm 0) (nI i)) [] := by
  refine wl_aload_n 597 K dL_law_597 2 rfl rfl ?_
  refine wl_arg (j := 1) 598 K hX.1 hX.2.1 hX.2.2.1 hX.2.2.2 (by omega) rfl dL_law_598 dL_law_599 dL_law_600 dL_law_601 dL_law_602 ?_
  refine wl_arg (j := 2) 603 K hX.1 hX.2.1 hX.2.2.1 hX.2.2.2 (by omega) rfl dL_law_603 dL_law_604 dL_law_605 dL_law_606 dL_law_607 ?_
  refine wl_arg (j := 3) 608 K hX.1 hX.2.1 hX.2.2.1 hX.2.2.2 (by omega) rfl dL_law_608 dL_law_609 dL_law_610 dL_law_611 dL_law_612 ?_
  refine wl_Xi (As := [.int (xs (i + 1)), .int (xs (i + 2)), .int (xs (i + 3))]) 613 [] K dL_law_613 hM okX0_why q790 hs rfl hF1 hR1 (Nat.le_of_ble_eq_true rfl) rfl ?_
  intro u hu0
  rw [← hu0]
  refine wl_aload_n 616 K dL_law_616 1 rfl rfl ?_
  refine wl_arg (j := 1) 617 K hX.1 hX.2.1 hX.2.2.1 hX.2.2.2 (by omega) rfl dL_law_617 dL_law_618 dL_law_619 dL_law_620 dL_law_621 ?_
  refine wl_arg (j := 2) 622 K hX.1 hX.2.1 hX.2.2.1 hX.2.2.2 (by omega) rfl dL_law_622 dL_law_623 dL_law_624 dL_law_625 dL_law_626 ?_
  refine wl_arg (j := 3) 627 K hX.1 hX.2.1 hX.2.2.1 hX.2.2.2 (by omega) rfl dL_law_627 dL_law_628 dL_law_629 dL_law_630 dL_law_631 ?_
  refine wl_Mi (As := [.int (xs (i + 1)), .int (xs (i + 2)), .int (xs (i + 3))]) 632 [.int v] K dL_law_632 hM2 okX6_why q1766 spM_00 rfl hF2 hR2 (Nat.le_of_ble_eq_true rfl) rfl ?_
  refine wl_icmp_eq (tgt := 1813) 635 K dL_law_635 (by decide) ?_
  rw [hu0]
  exact k u hu0
theorem wl_c12 {p : Program} {l : Launch} {e : Env} {s : State} {m : MethodId} {below : List Frame} {meth : Method} {c : Code} {b : Nat} {D : va_G} {ca : wCA} {A : Nat → Prop} {Z : (Nat → Prop) → State → Heap → Prop} {kc ks : Nat} {sp : List wCell} {q qm : Nat → Nat} {μ μm : wMem} {L i : Nat} {xs : Nat → Int32} {sp1 : List wCell} {μ1 μm1 : wMem} {v : Int32} {rm rm2 : Room} {fs : List (Nat × Nat)} (K : wLc p s m meth c b D ca A Z) (hX : wLs b L xs s A) (hi : i + 5 < L) (hM : wXi Z l yX0_cross (ws_ yX0_cross cX0_cross 4 (some .int)) rm D vwCl sp sp1 q ca [.ref (q 0), .int (xs (i + 1)), .int (xs (i + 2)), .int (xs (i + 3))] μ μ1 v) (hM2 : wMi l yX6_cross cX6_cross 4 (some .int) rm2 D vwCl spM qm ca [.ref (qm 0), .int (xs (i + 1)), .int (xs (i + 2)), .int (xs (i + 3))] μm (v, μm1)) (hs : sp[0]? = some (.inl (0, fs))) (hF1 : rm.frames + 1 ≤ room_1.frames ∧ 8 + (4 + 11) + rm.locals ≤ room_1.locals) (hR1 : kc + rm.cells ≤ room_1.cells ∧ ks + rm.slots ≤ room_1.slots) (hF2 : rm2.frames + 1 ≤ room_1.frames ∧ 8 + (4 + 11) + rm2.locals ≤ room_1.locals) (hR2 : kc + rm.cells + rm2.cells ≤ room_1.cells ∧ ks + rm.slots + rm2.slots ≤ room_1.slots) (k : ∀ u : Nat → Nat, u 0 = q 0 → wLJ p l e s m b below meth c (wLI D ca A s sp1 u μ1 qm μm1) (kc + rm.cells + rm2.cells) (ks + rm.slots + rm2.slots) 1813 (wLv b (q 0) (qm 0) (nI i)) []) : wLJ p l e s m b below meth c (wLI D ca A s sp q μ qm μm) kc ks 640 (wLv b (q 0) (qm 0) (nI i)) [] := by
  refine wl_aload_n 640 K dL_law_640 2 rfl rfl ?_
  refine wl_arg (j := 1) 641 K hX.1 hX.2.1 hX.2.2.1 hX.2.2.2 (by omega) rfl dL_law_641 dL_law_642 dL_law_643 dL_law_644 dL_law_645 ?_
  refine wl_arg (j := 2) 646 K hX.1 hX.2.1 hX.2.2.1 hX.2.2.2 (by omega) rfl dL_law_646 dL_law_647 dL_law_648 dL_law_649 dL_law_650 ?_
  refine wl_arg (j := 3) 651 K hX.1 hX.2.1 hX.2.2.1 hX.2.2.2 (by omega) rfl dL_law_651 dL_law_652 dL_law_653 dL_law_654 dL_law_655 ?_
  refine wl_Xi (As := [.int (xs (i + 1)), .int (xs (i + 2)), .int (xs (i + 3))]) 656 [] K dL_law_656 hM okX0_cross q806 hs rfl hF1 hR1 (Nat.le_of_ble_eq_true rfl) rfl ?_
  intro u hu0
  rw [← hu0]
  refine wl_aload_n 659 K dL_law_659 1 rfl rfl ?_
  refine wl_arg (j := 1) 660 K hX.1 hX.2.1 hX.2.2.1 hX.2.2.2 (by omega) rfl dL_law_660 dL_law_661 dL_law_662 dL_law_663 dL_law_664 ?_
  refine wl_arg (j := 2) 665 K hX.1 hX.2.1 hX.2.2.1 hX.2.2.2 (by omega) rfl dL_law_665 dL_law_666 dL_law_667 dL_law_668 dL_law_669 ?_
  refine wl_arg (j := 3) 670 K hX.1 hX.2.1 hX.2.2.1 hX.2.2.2 (by omega) rfl dL_law_670 dL_law_671 dL_law_672 dL_law_673 dL_law_674 ?_
  refine wl_Mi (As := [.int (xs (i + 1)), .int (xs (i + 2)), .int (xs (i + 3))]) 675 [.int v] K dL_law_675 hM2 okX6_cross q1786 spM_00 rfl hF2 hR2 (Nat.le_of_ble_eq_true rfl) rfl ?_
  refine wl_icmp_eq (tgt := 1813) 678 K dL_law_678 (by decide) ?_
  rw [hu0]
  exact k u hu0
theorem wl_c13 {p : Program} {l : Launch} {e : Env} {s : State} {m : MethodId} {below : List Frame} {meth : Method} {c : Code} {b : Nat} {D : va_G} {ca : wCA} {A : Nat → Prop} {Z : (Nat → Prop) → State → Heap → Prop} {kc ks : Nat} {sp : List wCell} {q qm : Nat → Nat} {μ μm : wMem} {L i : Nat} {xs : Nat → Int32} {sp1 : List wCell} {μ1 μm1 : wMem} {v : Int32} {rm rm2 : Room} {fs : List (Nat × Nat)} (K : wLc p s m meth c b D ca A Z) (hX : wLs b L xs s A) (hi : i + 5 < L) (hM : wXi Z l yX0_loaf (ws_ yX0_loaf cX0_loaf 1 (some .int)) rm D vwCl sp sp1 q ca [.ref (q 0)] μ μ1 v) (hM2 : wMi l yX6_loaf cX6_loaf 1 (some .int) rm2 D vwCl spM qm ca [.ref (qm 0)] μm (v, μm1)) (hs : sp[0]? = some (.inl (0, fs))) (hF1 : rm.frames + 1 ≤ room_1.frames ∧ 8 + (1 + 11) + rm.locals ≤ room_1.locals) (hR1 : kc + rm.cells ≤ room_1.cells ∧ ks + rm.slots ≤ room_1.slots) (hF2 : rm2.frames + 1 ≤ room_1.frames ∧ 8 + (1 + 11) + rm2.locals ≤ room_1.locals) (hR2 : kc + rm.cells + rm2.cells ≤ room_1.cells ∧ ks + rm.slots + rm2.slots ≤ room_1.slots) (k : ∀ u : Nat → Nat, u 0 = q 0 → wLJ p l e s m b below meth c (wLI D ca A s sp1 u μ1 qm μm1) (kc + rm.cells + rm2.cells) (ks + rm.slots + rm2.slots) 1813 (wLv b (q 0) (qm 0) (nI i)) []) : wLJ p l e s m b below meth c (wLI D ca A s sp q μ qm μm) kc ks 683 (wLv b (q 0) (qm 0) (nI i)) [] := by
  refine wl_aload_n 683 K dL_law_683 2 rfl rfl ?_
  refine wl_Xi (As := []) 684 [] K dL_law_684 hM okX0_loaf q814 hs rfl hF1 hR1 (Nat.le_of_ble_eq_true rfl) rfl ?_
  intro u hu0
  rw [← hu0]
  refine wl_aload_n 687 K dL_law_687 1 rfl rfl ?_
  refine wl_Mi (As := []) 688 [.int v] K dL_law_688 hM2 okX6_loaf q1794 spM_00 rfl hF2 hR2 (Nat.le_of_ble_eq_true rfl) rfl ?_
  refine wl_icmp_eq (tgt := 1813) 691 K dL_law_691 (by decide) ?_
  rw [hu0]
  exact k u hu0
theorem wl_c14 {p : Program} {l : Launch} {e : Env} {s : State} {m : MethodId} {below : List Frame} {meth : Method} {c : Code} {b : Nat} {D : va_G} {ca : wCA} {A : Nat → Prop} {Z : (Nat → Prop) → State → Heap → Prop} {kc ks : Nat} {sp : List wCell} {q qm : Nat → Nat} {μ μm : wMem} {L i : Nat} {xs : Nat → Int32} {sp1 : List wCell} {μ1 μm1 : wMem} {v : Int32} {rm rm2 : Room} {fs : List (Nat × Nat)} (K : wLc p s m meth c b D ca A Z) (hX : wLs b L xs s A) (hi : i + 5 < L) (hM : wXi Z l yX0_undo (ws_ yX0_undo cX0_undo 1 (some .int)) rm D vwCl sp sp1 q ca [.ref (q 0)] μ μ1 v) (hM2 : wMi l yX6_undo cX6_undo 1 (some .int) rm2 D vwCl spM qm ca [.ref (qm 0)] μm (v, μm1)) (hs : sp[0]? = some (.inl (0, fs))) (hF1 : rm.frames + 1 ≤ room_1.frames ∧ 8 + (1 + 11) + rm.locals ≤ room_1.locals) (hR1 : kc + rm.cells ≤ room_1.cells ∧ ks + rm.slots ≤ room_1.slots) (hF2 : rm2.frames + 1 ≤ room_1.frames ∧ 8 + (1 + 11) + rm2.locals ≤ room_1.locals) (hR2 : kc + rm.cells + rm2.cells ≤ room_1.cells ∧ ks + rm.slots + rm2.slots ≤ room_1.slots) (k : ∀ u : Nat → Nat, u 0 = q 0 → wLJ p l e s m b below meth c (wLI D ca A s sp1 u μ1 qm μm1) (kc + rm.cells + rm2.cells) (ks + rm.slots + rm2.slots) 1813 (wLv b (q 0) (qm 0) (nI i)) []) : wLJ p l e s m b below meth c (wLI D ca A s sp q μ qm μm) kc ks 696 (wLv b (q 0) (qm 0) (nI i)) [] := by
  refine wl_aload_n 696 K dL_law_696 2 rfl rfl ?_
  refine wl_Xi (As := []) 697 [] K dL_law_697 hM okX0_undo q818 hs rfl hF1 hR1 (Nat.le_of_ble_eq_true rfl) rfl ?_
  intro u hu0
  rw [← hu0]
  refine wl_aload_n 700 K dL_law_700 1 rfl rfl ?_
  refine wl_Mi (As := []) 701 [.int v] K dL_law_701 hM2 okX6_undo q1798 spM_00 rfl hF2 hR2 (Nat.le_of_ble_eq_true rfl) rfl ?_
  refine wl_icmp_eq (tgt := 1813) 704 K dL_law_704 (by decide) ?_
  rw [hu0]
  exact k u hu0
theorem wl_c15 {p : Program} {l : Launch} {e : Env} {s : State} {m : MethodId} {below : List Frame} {meth : Method} {c : Code} {b : Nat} {D : va_G} {ca : wCA} {A : Nat → Prop} {Z : (Nat → Prop) → State → Heap → Prop} {kc ks : Nat} {sp : List wCell} {q qm : Nat → Nat} {μ μm : wMem} {L i : Nat} {xs : Nat → Int32} {sp1 : List wCell} {μ1 μm1 : wMem} {v : Int32} {rm rm2 : Room} {fs : List (Nat × Nat)} (K : wLc p s m meth c b D ca A Z) (hX : wLs b L xs s A) (hi : i + 5 < L) (hM : wXi Z l yX0_anew (ws_ yX0_anew cX0_anew 2 (some .int)) rm D vwCl sp sp1 q ca [.ref (q 0)] μ μ1 v) (hM2 : wMi l yX6_anew cX6_anew 2 (some .int) rm2 D vwCl spM qm ca [.ref (qm 0)] μm (v, μm1)) (hs : sp[0]? = some (.inl (0, fs))) (hF1 : rm.frames + 1 ≤ room_1.frames ∧ 8 + (2 + 11) + rm.locals ≤ room_1.locals) (hR1 : kc + rm.cells ≤ room_1.cells ∧ ks + rm.slots ≤ room_1.slots) (hF2 : rm2.frames + 1 ≤ room_1.frames ∧ 8 + (2 + 11) + rm2.locals ≤ room_1.locals) (hR2 : kc + rm.cells + rm2.cells ≤ room_1.cells ∧ ks + rm.slots + rm2.slots ≤ room_1.slots) (k : ∀ u : Nat → Nat, u 0 = q 0 → wLJ p l e s m b below meth c (wLI D ca A s sp1 u μ1 qm μm1) (kc + rm.cells + rm2.cells) (ks + rm.slots + rm2.slots) 1813 (wLv b (q 0) (qm 0) (nI i)) []) : wLJ p l e s m b below meth c (wLI D ca A s sp q μ qm μm) kc ks 709 (wLv b (q 0) (qm 0) (nI i)) [] := by
  refine wl_aload_n 709 K dL_law_709 2 rfl rfl ?_
  refine wl_Xi (As := []) 710 [] K dL_law_710 hM okX0_anew q822 hs rfl hF1 hR1 (Nat.le_of_ble_eq_true rfl) rfl ?_
  intro u hu0
  rw [← hu0]
  refine wl_aload_n 713 K dL_law_713 1 rfl rfl ?_
  refine wl_Mi (As := []) 714 [.int v] K dL_law_714 hM2 okX6_anew q1802 spM_00 rfl hF2 hR2 (Nat.le_of_ble_eq_true rfl) rfl ?_
  refine wl_icmp_eq (tgt := 1813) 717 K dL_law_717 (by decide) ?_
  rw [hu0]
  exact k u hu0
theorem wl_c16 {p : Program} {l : Launch} {e : Env} {s : State} {m : MethodId} {below : List Frame} {meth : Method} {c : Code} {b : Nat} {D : va_G} {ca : wCA} {A : Nat → Prop} {Z : (Nat → Prop) → State → Heap → Prop} {kc ks : Nat} {sp : List wCell} {q qm : Nat → Nat} {μ μm : wMem} {L i : Nat} {xs : Nat → Int32} {sp1 : List wCell} {μ1 μm1 : wMem} {v : Int32} {rm rm2 : Room} {fs : List (Nat × Nat)} (K : wLc p s m meth c b D ca A Z) (hX : wLs b L xs s A) (hi : i + 5 < L) (hM : wXi Z l yX0_act (ws_ yX0_act cX0_act 2 (some .int)) rm D vwCl sp sp1 q ca [.ref (q 0), .int (xs (i + 1))] μ μ1 v) (hM2 : wMi l yX6_act cX6_act 2 (some .int) rm2 D vwCl spM qm ca [.ref (qm 0), .int (xs (i + 1))] μm (v, μm1)) (hs : sp[0]? = some (.inl (0, fs))) (hF1 : rm.frames + 1 ≤ room_1.frames ∧ 8 + (2 + 11) + rm.locals ≤ room_1.locals) (hR1 : kc + rm.cells ≤ room_1.cells ∧ ks + rm.slots ≤ room_1.slots) (hF2 : rm2.frames + 1 ≤ room_1.frames ∧ 8 + (2 + 11) + rm2.locals ≤ room_1.locals) (hR2 : kc + rm.cells + rm2.cells ≤ room_1.cells ∧ ks + rm.slots + rm2.slots ≤ room_1.slots) (k : ∀ u : Nat → Nat, u 0 = q 0 → wLJ p l e s m b below meth c (wLI D ca A s sp1 u μ1 qm μm1) (kc + rm.cells + rm2.cells) (ks + rm.slots + rm2.slots) 1813 (wLv b (q 0) (qm 0) (nI i)) []) : wLJ p l e s m b below meth c (wLI D ca A s sp q μ qm μm) kc ks 722 (wLv b (q 0) (qm 0) (nI i)) [] := by
  refine wl_aload_n 722 K dL_law_722 2 rfl rfl ?_
  refine wl_arg (j := 1) 723 K hX.1 hX.2.1 hX.2.2.1 hX.2.2.2 (by omega) rfl dL_law_723 dL_law_724 dL_law_725 dL_law_726 dL_law_727 ?_
  refine wl_Xi (As := [.int (xs (i + 1))]) 728 [] K dL_law_728 hM okX0_act q826 hs rfl hF1 hR1 (Nat.le_of_ble_eq_true rfl) rfl ?_
  intro u hu0
  rw [← hu0]
  refine wl_aload_n 731 K dL_law_731 1 rfl rfl ?_
  refine wl_arg (j := 1) 732 K hX.1 hX.2.1 hX.2.2.1 hX.2.2.2 (by omega) rfl dL_law_732 dL_law_733 dL_law_734 dL_law_735 dL_law_736 ?_
  refine wl_Mi (As := [.int (xs (i + 1))]) 737 [.int v] K dL_law_737 hM2 okX6_act q1806 spM_00 rfl hF2 hR2 (Nat.le_of_ble_eq_true rfl) rfl ?_
  refine wl_icmp_eq (tgt := 1813) 740 K dL_law_740 (by decide) ?_
  rw [hu0]
  exact k u hu0
theorem wl_c17 {p : Program} {l : Launch} {e : Env} {s : State} {m : MethodId} {below : List Frame} {meth : Method} {c : Code} {b : Nat} {D : va_G} {ca : wCA} {A : Nat → Prop} {Z : (Nat → Prop) → State → Heap → Prop} {kc ks : Nat} {sp : List wCell} {q qm : Nat → Nat} {μ μm : wMem} {L i : Nat} {xs : Nat → Int32} {sp1 : List wCell} {μ1 μm1 : wMem} {v : Int32} {rm rm2 : Room} {fs : List (Nat × Nat)} (K : wLc p s m meth c b D ca A Z) (hX : wLs b L xs s A) (hi : i + 5 < L) (hM : wXi Z l yX0_acts (ws_ yX0_acts cX0_acts 3 (some .int)) rm D vwCl sp sp1 q ca [.ref (q 0)] μ μ1 v) (hM2 : wMi l yX6_acts cX6_acts 3 (some .int) rm2 D vwCl spM qm ca [.ref (qm 0)] μm (v, μm1)) (hs : sp[0]? = some (.inl (0, fs))) (hF1 : rm.frames + 1 ≤ room_1.frames ∧ 8 + (3 + 11) + rm.locals ≤ room_1.locals) (hR1 : kc + rm.cells ≤ room_1.cells ∧ ks + rm.slots ≤ room_1.slots) (hF2 : rm2.frames + 1 ≤ room_1.frames ∧ 8 + (3 + 11) + rm2.locals ≤ room_1.locals) (hR2 : kc + rm.cells + rm2.cells ≤ room_1.cells ∧ ks + rm.slots + rm2.slots ≤ room_1.slots) (k : ∀ u : Nat → Nat, u 0 = q 0 → wLJ p l e s m b below meth c (wLI D ca A s sp1 u μ1 qm μm1) (kc + rm.cells + rm2.cells) (ks + rm.slots + rm2.slots) 1813 (wLv b (q 0) (qm 0) (nI i)) []) : wLJ p l e s m b below meth c (wLI D ca A s sp q μ qm μm) kc ks 745 (wLv b (q 0) (qm 0) (nI i)) [] := by
  refine wl_aload_n 745 K dL_law_745 2 rfl rfl ?_
  refine wl_Xi (As := []) 746 [] K dL_law_746 hM okX0_acts q830 hs rfl hF1 hR1 (Nat.le_of_ble_eq_true rfl) rfl ?_
  intro u hu0
  rw [← hu0]
  refine wl_aload_n 749 K dL_law_749 1 rfl rfl ?_
  refine wl_Mi (As := []) 750 [.int v] K dL_law_750 hM2 okX6_acts q1810 spM_00 rfl hF2 hR2 (Nat.le_of_ble_eq_true rfl) rfl ?_
  refine wl_icmp_eq (tgt := 1813) 753 K dL_law_753 (by decide) ?_
  rw [hu0]
  exact k u hu0
theorem wl_c18 {p : Program} {l : Launch} {e : Env} {s : State} {m : MethodId} {below : List Frame} {meth : Method} {c : Code} {b : Nat} {D : va_G} {ca : wCA} {A : Nat → Prop} {Z : (Nat → Prop) → State → Heap → Prop} {kc ks : Nat} {sp : List wCell} {q qm : Nat → Nat} {μ μm : wMem} {L i : Nat} {xs : Nat → Int32} {sp1 : List wCell} {μ1 μm1 : wMem} {v : Int32} {rm rm2 : Room} {fs : List (Nat × Nat)} (K : wLc p s m meth c b D ca A Z) (hX : wLs b L xs s A) (hi : i + 5 < L) (hM : wXi Z l yX0_may (ws_ yX0_may cX0_may 4 (some .int)) rm D vwCl sp sp1 q ca [.ref (q 0), .int (xs (i + 1))] μ μ1 v) (hM2 : wMi l yX6_may cX6_may 4 (some .int) rm2 D vwCl spM qm ca [.ref (qm 0), .int (xs (i + 1))] μm (v, μm1)) (hs : sp[0]? = some (.inl (0, fs))) (hF1 : rm.frames + 1 ≤ room_1.frames ∧ 8 + (4 + 11) + rm.locals ≤ room_1.locals) (hR1 : kc + rm.cells ≤ room_1.cells ∧ ks + rm.slots ≤ room_1.slots) (hF2 : rm2.frames + 1 ≤ room_1.frames ∧ 8 + (4 + 11) + rm2.locals ≤ room_1.locals) (hR2 : kc + rm.cells + rm2.cells ≤ room_1.cells ∧ ks + rm.slots + rm2.slots ≤ room_1.slots) (k : ∀ u : Nat → Nat, u 0 = q 0 → wLJ p l e s m b below meth c (wLI D ca A s sp1 u μ1 qm μm1) (kc + rm.cells + rm2.cells) (ks + rm.slots + rm2.slots) 1813 (wLv b (q 0) (qm 0) (nI i)) []) : wLJ p l e s m b below meth c (wLI D ca A s sp q μ qm μm) kc ks 758 (wLv b (q 0) (qm 0) (nI i)) [] := by
  refine wl_aload_n 758 K dL_law_758 2 rfl rfl ?_
  refine wl_arg (j := 1) 759 K hX.1 hX.2.1 hX.2.2.1 hX.2.2.2 (by omega) rfl dL_law_759 dL_law_760 dL_law_761 dL_law_762 dL_law_763 ?_
  refine wl_Xi (As := [.int (xs (i + 1))]) 764 [] K dL_law_764 hM okX0_may q848 hs rfl hF1 hR1 (Nat.le_of_ble_eq_true rfl) rfl ?_
  intro u hu0
  rw [← hu0]
  refine wl_aload_n 767 K dL_law_767 1 rfl rfl ?_
  refine wl_arg (j := 1) 768 K hX.1 hX.2.1 hX.2.2.1 hX.2.2.2 (by omega) rfl dL_law_768 dL_law_769 dL_law_770 dL_law_771 dL_law_772 ?_
  refine wl_Mi (As := [.int (xs (i + 1))]) 773 [.int v] K dL_law_773 hM2 okX6_may q1829 spM_00 rfl hF2 hR2 (Nat.le_of_ble_eq_true rfl) rfl ?_
  refine wl_icmp_eq (tgt := 1813) 776 K dL_law_776 (by decide) ?_
  rw [hu0]
  exact k u hu0
theorem wl_c19 {p : Program} {l : Launch} {e : Env} {s : State} {m : MethodId} {below : List Frame} {meth : Method} {c : Code} {b : Nat} {D : va_G} {ca : wCA} {A : Nat → Prop} {Z : (Nat → Prop) → State → Heap → Prop} {kc ks : Nat} {sp : List wCell} {q qm : Nat → Nat} {μ μm : wMem} {L i : Nat} {xs : Nat → Int32} {sp1 : List wCell} {μ1 μm1 : wMem} {v : Int32} {rm rm2 : Room} {fs : List (Nat × Nat)} (K : wLc p s m meth c b D ca A Z) (hX : wLs b L xs s A) (hi : i + 5 < L) (hM : wXi Z l yX0_days (ws_ yX0_days cX0_days 1 (some .int)) rm D vwCl sp sp1 q ca [.ref (q 0)] μ μ1 v) (hM2 : wMi l yX6_days cX6_days 2 (some .int) rm2 D vwCl spM qm ca [.ref (qm 0)] μm (v, μm1)) (hs : sp[0]? = some (.inl (0, fs))) (hF1 : rm.frames + 1 ≤ room_1.frames ∧ 8 + (1 + 11) + rm.locals ≤ room_1.locals) (hR1 : kc + rm.cells ≤ room_1.cells ∧ ks + rm.slots ≤ room_1.slots) (hF2 : rm2.frames + 1 ≤ room_1.frames ∧ 8 + (2 + 11) + rm2.locals ≤ room_1.locals) (hR2 : kc + rm.cells + rm2.cells ≤ room_1.cells ∧ ks + rm.slots + rm2.slots ≤ room_1.slots) (k : ∀ u : Nat → Nat, u 0 = q 0 → wLJ p l e s m b below meth c (wLI D ca A s sp1 u μ1 qm μm1) (kc + rm.cells + rm2.cells) (ks + rm.slots + rm2.slots) 1813 (wLv b (q 0) (qm 0) (nI i)) []) : wLJ p l e s m b below meth c (wLI D ca A s sp q μ qm μm) kc ks 781 (wLv b (q 0) (qm 0) (nI i)) [] := by
  refine wl_aload_n 781 K dL_law_781 2 rfl rfl ?_
  refine wl_Xi (As := []) 782 [] K dL_law_782 hM okX0_days q852 hs rfl hF1 hR1 (Nat.le_of_ble_eq_true rfl) rfl ?_
  intro u hu0
  rw [← hu0]
  refine wl_aload_n 785 K dL_law_785 1 rfl rfl ?_
  refine wl_Mi (As := []) 786 [.int v] K dL_law_786 hM2 okX6_days q1833 spM_00 rfl hF2 hR2 (Nat.le_of_ble_eq_true rfl) rfl ?_
  refine wl_icmp_eq (tgt := 1813) 789 K dL_law_789 (by decide) ?_
  rw [hu0]
  exact k u hu0
theorem wl_c20 {p : Program} {l : Launch} {e : Env} {s : State} {m : MethodId} {below : List Frame} {meth : Method} {c : Code} {b : Nat} {D : va_G} {ca : wCA} {A : Nat → Prop} {Z : (Nat → Prop) → State → Heap → Prop} {kc ks : Nat} {sp : List wCell} {q qm : Nat → Nat} {μ μm : wMem} {L i : Nat} {xs : Nat → Int32} {sp1 : List wCell} {μ1 μm1 : wMem} {v : Int32} {rm rm2 : Room} {fs : List (Nat × Nat)} (K : wLc p s m meth c b D ca A Z) (hX : wLs b L xs s A) (hi : i + 5 < L) (hM : wXi Z l yX0_plan (ws_ yX0_plan cX0_plan 2 (some .int)) rm D vwCl sp sp1 q ca [.ref (q 0), .int (xs (i + 1))] μ μ1 v) (hM2 : wMi l yX6_plan cX6_plan 2 (some .int) rm2 D vwCl spM qm ca [.ref (qm 0), .int (xs (i + 1))] μm (v, μm1)) (hs : sp[0]? = some (.inl (0, fs))) (hF1 : rm.frames + 1 ≤ room_1.frames ∧ 8 + (2 + 11) + rm.locals ≤ room_1.locals) (hR1 : kc + rm.cells ≤ room_1.cells ∧ ks + rm.slots ≤ room_1.slots) (hF2 : rm2.frames + 1 ≤ room_1.frames ∧ 8 + (2 + 11) + rm2.locals ≤ room_1.locals) (hR2 : kc + rm.cells + rm2.cells ≤ room_1.cells ∧ ks + rm.slots + rm2.slots ≤ room_1.slots) (k : ∀ u : Nat → Nat, u 0 = q 0 → wLJ p l e s m b below meth c (wLI D ca A s sp1 u μ1 qm μm1) (kc + rm.cells + rm2.cells) (ks + rm.slots + rm2.slots) 1813 (wLv b (q 0) (qm 0) (nI i)) []) : wLJ p l e s m b below meth c (wLI D ca A s sp q μ qm μm) kc ks 794 (wLv b (q 0) (qm 0) (nI i)) [] := by
  refine wl_aload_n 794 K dL_law_794 2 rfl rfl ?_
  refine wl_arg (j := 1) 795 K hX.1 hX.2.1 hX.2.2.1 hX.2.2.2 (by omega) rfl dL_law_795 dL_law_796 dL_law_797 dL_law_798 dL_law_799 ?_
  refine wl_Xi (As := [.int (xs (i + 1))]) 800 [] K dL_law_800 hM okX0_plan q919 hs rfl hF1 hR1 (Nat.le_of_ble_eq_true rfl) rfl ?_
  intro u hu0
  rw [← hu0]
  refine wl_aload_n 803 K dL_law_803 1 rfl rfl ?_
  refine wl_arg (j := 1) 804 K hX.1 hX.2.1 hX.2.2.1 hX.2.2.2 (by omega) rfl dL_law_804 dL_law_805 dL_law_806 dL_law_807 dL_law_808 ?_
  refine wl_Mi (As := [.int (xs (i + 1))]) 809 [.int v] K dL_law_809 hM2 okX6_plan q1870 spM_00 rfl hF2 hR2 (Nat.le_of_ble_eq_true rfl) rfl ?_
  refine wl_icmp_eq (tgt := 1813) 812 K dL_law_812 (by decide) ?_
  rw [hu0]
  exact k u hu0
theorem wl_c21 {p : Program} {l : Launch} {e : Env} {s : State} {m : MethodId} {below : List Frame} {meth : Method} {c : Code} {b : Nat} {D : va_G} {ca : wCA} {A : Nat → Prop} {Z : (Nat → Prop) → State → Heap → Prop} {kc ks : Nat} {sp : List wCell} {q qm : Nat → Nat} {μ μm : wMem} {L i : Nat} {xs : Nat → Int32} {sp1 : List wCell} {μ1 μm1 : wMem} {v : Int32} {rm rm2 : Room} {fs : List (Nat × Nat)} (K : wLc p s m meth c b D ca A Z) (hX : wLs b L xs s A) (hi : i + 5 < L) (hM : wXi Z l yX0_surest (ws_ yX0_surest cX0_surest 1 (some .int)) rm D vwCl sp sp1 q ca [.ref (q 0)] μ μ1 v) (hM2 : wMi l yX6_surest cX6_surest 2 (some .int) rm2 D vwCl spM qm ca [.ref (qm 0)] μm (v, μm1)) (hs : sp[0]? = some (.inl (0, fs))) (hF1 : rm.frames + 1 ≤ room_1.frames ∧ 8 + (1 + 11) + rm.locals ≤ room_1.locals) (hR1 : kc + rm.cells ≤ room_1.cells ∧ ks + rm.slots ≤ room_1.slots) (hF2 : rm2.frames + 1 ≤ room_1.frames ∧ 8 + (2 + 11) + rm2.locals ≤ room_1.locals) (hR2 : kc + rm.cells + rm2.cells ≤ room_1.cells ∧ ks + rm.slots + rm2.slots ≤ room_1.slots) (k : ∀ u : Nat → Nat, u 0 = q 0 → wLJ p l e s m b below meth c (wLI D ca A s sp1 u μ1 qm μm1) (kc + rm.cells + rm2.cells) (ks + rm.slots + rm2.slots) 1813 (wLv b (q 0) (qm 0) (nI i)) []) : wLJ p l e s m b below meth c (wLI D ca A s sp q μ qm μm) kc ks 817 (wLv b (q 0) (qm 0) (nI i)) [] := by
  refine wl_aload_n 817 K dL_law_817 2 rfl rfl ?_
  refine wl_Xi (As := []) 818 [] K dL_law_818 hM okX0_surest q939 hs rfl hF1 hR1 (Nat.le_of_ble_eq_true rfl) rfl ?_
  intro u hu0
  rw [← hu0]
  refine wl_aload_n 821 K dL_law_821 1 rfl rfl ?_
  refine wl_Mi (As := []) 822 [.int v] K dL_law_822 hM2 okX6_surest q1882 spM_00 rfl hF2 hR2 (Nat.le_of_ble_eq_true rfl) rfl ?_
  refine wl_icmp_eq (tgt := 1813) 825 K dL_law_825 (by decide) ?_
  rw [hu0]
  exact k u hu0
theorem wl_c22 {p : Program} {l : Launch} {e : Env} {s : State} {m : MethodId} {below : List Frame} {meth : Method} {c : Code} {b : Nat} {D : va_G} {ca : wCA} {A : Nat → Prop} {Z : (Nat → Prop) → State → Heap → Prop} {kc ks : Nat} {sp : List wCell} {q qm : Nat → Nat} {μ μm : wMem} {L i : Nat} {xs : Nat → Int32} {sp1 : List wCell} {μ1 μm1 : wMem} {v : Int32} {rm rm2 : Room} {fs : List (Nat × Nat)} (K : wLc p s m meth c b D ca A Z) (hX : wLs b L xs s A) (hi : i + 5 < L) (hM : wXi Z l yX0_surely (ws_ yX0_surely cX0_surely 2 (some .int)) rm D vwCl sp sp1 q ca [.ref (q 0), .int (xs (i + 1))] μ μ1 v) (hM2 : wMi l yX6_surely cX6_surely 2 (some .int) rm2 D vwCl spM qm ca [.ref (qm 0), .int (xs (i + 1))] μm (v, μm1)) (hs : sp[0]? = some (.inl (0, fs))) (hF1 : rm.frames + 1 ≤ room_1.frames ∧ 8 + (2 + 11) + rm.locals ≤ room_1.locals) (hR1 : kc + rm.cells ≤ room_1.cells ∧ ks + rm.slots ≤ room_1.slots) (hF2 : rm2.frames + 1 ≤ room_1.frames ∧ 8 + (2 + 11) + rm2.locals ≤ room_1.locals) (hR2 : kc + rm.cells + rm2.cells ≤ room_1.cells ∧ ks + rm.slots + rm2.slots ≤ room_1.slots) (k : ∀ u : Nat → Nat, u 0 = q 0 → wLJ p l e s m b below meth c (wLI D ca A s sp1 u μ1 qm μm1) (kc + rm.cells + rm2.cells) (ks + rm.slots + rm2.slots) 1813 (wLv b (q 0) (qm 0) (nI i)) []) : wLJ p l e s m b below meth c (wLI D ca A s sp q μ qm μm) kc ks 830 (wLv b (q 0) (qm 0) (nI i)) [] := by
  refine wl_aload_n 830 K dL_law_830 2 rfl rfl ?_
  refine wl_arg (j := 1) 831 K hX.1 hX.2.1 hX.2.2.1 hX.2.2.2 (by omega) rfl dL_law_831 dL_law_832 dL_law_833 dL_law_834 dL_law_835 ?_
  refine wl_Xi (As := [.int (xs (i + 1))]) 836 [] K dL_law_836 hM okX0_surely q947 hs rfl hF1 hR1 (Nat.le_of_ble_eq_true rfl) rfl ?_
  intro u hu0
  rw [← hu0]
  refine wl_aload_n 839 K dL_law_839 1 rfl rfl ?_
  refine wl_arg (j := 1) 840 K hX.1 hX.2.1 hX.2.2.1 hX.2.2.2 (by omega) rfl dL_law_840 dL_law_841 dL_law_842 dL_law_843 dL_law_844 ?_
  refine wl_Mi (As := [.int (xs (i + 1))]) 845 [.int v] K dL_law_845 hM2 okX6_surely q1886 spM_00 rfl hF2 hR2 (Nat.le_of_ble_eq_true rfl) rfl ?_
  refine wl_icmp_eq (tgt := 1813) 848 K dL_law_848 (by decide) ?_
  rw [hu0]
  exact k u hu0
theorem wl_c23 {p : Program} {l : Launch} {e : Env} {s : State} {m : MethodId} {below : List Frame} {meth : Method} {c : Code} {b : Nat} {D : va_G} {ca : wCA} {A : Nat → Prop} {Z : (Nat → Prop) → State → Heap → Prop} {kc ks : Nat} {sp : List wCell} {q qm : Nat → Nat} {μ μm : wMem} {L i : Nat} {xs : Nat → Int32} {sp1 : List wCell} {μ1 μm1 : wMem} {v : Int32} {rm rm2 : Room} {fs : List (Nat × Nat)} (K : wLc p s m meth c b D ca A Z) (hX : wLs b L xs s A) (hi : i + 5 < L) (hM : wXi Z l yX0_slowly (ws_ yX0_slowly cX0_slowly 2 (some .int)) rm D vwCl sp sp1 q ca [.ref (q 0)] μ μ1 v) (hM2 : wMi l yX6_slowly cX6_slowly 2 (some .int) rm2 D vwCl spM qm ca [.ref (qm 0)] μm (v, μm1)) (hs : sp[0]? = some (.inl (0, fs))) (hF1 : rm.frames + 1 ≤ room_1.frames ∧ 8 + (2 + 11) + rm.locals ≤ room_1.locals) (hR1 : kc + rm.cells ≤ room_1.cells ∧ ks + rm.slots ≤ room_1.slots) (hF2 : rm2.frames + 1 ≤ room_1.frames ∧ 8 + (2 + 11) + rm2.locals ≤ room_1.locals) (hR2 : kc + rm.cells + rm2.cells ≤ room_1.cells ∧ ks + rm.slots + rm2.slots ≤ room_1.slots) (k : ∀ u : Nat → Nat, u 0 = q 0 → wLJ p l e s m b below meth c (wLI D ca A s sp1 u μ1 qm μm1) (kc + rm.cells + rm2.cells) (ks + rm.slots + rm2.slots) 1813 (wLv b (q 0) (qm 0) (nI i)) []) : wLJ p l e s m b below meth c (wLI D ca A s sp q μ qm μm) kc ks 853 (wLv b (q 0) (qm 0) (nI i)) [] := by
  refine wl_aload_n 853 K dL_law_853 2 rfl rfl ?_
  refine wl_Xi (As := []) 854 [] K dL_law_854 hM okX0_slowly q951 hs rfl hF1 hR1 (Nat.le_of_ble_eq_true rfl) rfl ?_
  intro u hu0
  rw [← hu0]
  refine wl_aload_n 857 K dL_law_857 1 rfl rfl ?_
  refine wl_Mi (As := []) 858 [.int v] K dL_law_858 hM2 okX6_slowly q1890 spM_00 rfl hF2 hR2 (Nat.le_of_ble_eq_true rfl) rfl ?_
  refine wl_icmp_eq (tgt := 1813) 861 K dL_law_861 (by decide) ?_
  rw [hu0]
  exact k u hu0
theorem wl_c24 {p : Program} {l : Launch} {e : Env} {s : State} {m : MethodId} {below : List Frame} {meth : Method} {c : Code} {b : Nat} {D : va_G} {ca : wCA} {A : Nat → Prop} {Z : (Nat → Prop) → State → Heap → Prop} {kc ks : Nat} {sp : List wCell} {q qm : Nat → Nat} {μ μm : wMem} {L i : Nat} {xs : Nat → Int32} {sp1 : List wCell} {μ1 μm1 : wMem} {v : Int32} {rm rm2 : Room} {fs : List (Nat × Nat)} (K : wLc p s m meth c b D ca A Z) (hX : wLs b L xs s A) (hi : i + 5 < L) (hM : wXi Z l yX0_crossings (ws_ yX0_crossings cX0_crossings 2 (some .int)) rm D vwCl sp sp1 q ca [.ref (q 0)] μ μ1 v) (hM2 : wMi l yX6_crossings cX6_crossings 2 (some .int) rm2 D vwCl spM qm ca [.ref (qm 0)] μm (v, μm1)) (hs : sp[0]? = some (.inl (0, fs))) (hF1 : rm.frames + 1 ≤ room_1.frames ∧ 8 + (2 + 11) + rm.locals ≤ room_1.locals) (hR1 : kc + rm.cells ≤ room_1.cells ∧ ks + rm.slots ≤ room_1.slots) (hF2 : rm2.frames + 1 ≤ room_1.frames ∧ 8 + (2 + 11) + rm2.locals ≤ room_1.locals) (hR2 : kc + rm.cells + rm2.cells ≤ room_1.cells ∧ ks + rm.slots + rm2.slots ≤ room_1.slots) (k : ∀ u : Nat → Nat, u 0 = q 0 → wLJ p l e s m b below meth c (wLI D ca A s sp1 u μ1 qm μm1) (kc + rm.cells + rm2.cells) (ks + rm.slots + rm2.slots) 1813 (wLv b (q 0) (qm 0) (nI i)) []) : wLJ p l e s m b below meth c (wLI D ca A s sp q μ qm μm) kc ks 866 (wLv b (q 0) (qm 0) (nI i)) [] := by
  refine wl_aload_n 866 K dL_law_866 2 rfl rfl ?_
  refine wl_Xi (As := []) 867 [] K dL_law_867 hM okX0_crossings q955 hs rfl hF1 hR1 (Nat.le_of_ble_eq_true rfl) rfl ?_
  intro u hu0
  rw [← hu0]
  refine wl_aload_n 870 K dL_law_870 1 rfl rfl ?_
  refine wl_Mi (As := []) 871 [.int v] K dL_law_871 hM2 okX6_crossings q1894 spM_00 rfl hF2 hR2 (Nat.le_of_ble_eq_true rfl) rfl ?_
  refine wl_icmp_eq (tgt := 1813) 874 K dL_law_874 (by decide) ?_
  rw [hu0]
  exact k u hu0
theorem wl_c25 {p : Program} {l : Launch} {e : Env} {s : State} {m : MethodId} {below : List Frame} {meth : Method} {c : Code} {b : Nat} {D : va_G} {ca : wCA} {A : Nat → Prop} {Z : (Nat → Prop) → State → Heap → Prop} {kc ks : Nat} {sp : List wCell} {q qm : Nat → Nat} {μ μm : wMem} {L i : Nat} {xs : Nat → Int32} {sp1 : List wCell} {μ1 μm1 : wMem} {v : Int32} {rm rm2 : Room} {fs : List (Nat × Nat)} (K : wLc p s m meth c b D ca A Z) (hX : wLs b L xs s A) (hi : i + 5 < L) (hM : wXi Z l yX0_moves (ws_ yX0_moves cX0_moves 2 (some .int)) rm D vwCl sp sp1 q ca [.ref (q 0)] μ μ1 v) (hM2 : wMi l yX6_moves cX6_moves 2 (some .int) rm2 D vwCl spM qm ca [.ref (qm 0)] μm (v, μm1)) (hs : sp[0]? = some (.inl (0, fs))) (hF1 : rm.frames + 1 ≤ room_1.frames ∧ 8 + (2 + 11) + rm.locals ≤ room_1.locals) (hR1 : kc + rm.cells ≤ room_1.cells ∧ ks + rm.slots ≤ room_1.slots) (hF2 : rm2.frames + 1 ≤ room_1.frames ∧ 8 + (2 + 11) + rm2.locals ≤ room_1.locals) (hR2 : kc + rm.cells + rm2.cells ≤ room_1.cells ∧ ks + rm.slots + rm2.slots ≤ room_1.slots) (k : ∀ u : Nat → Nat, u 0 = q 0 → wLJ p l e s m b below meth c (wLI D ca A s sp1 u μ1 qm μm1) (kc + rm.cells + rm2.cells) (ks + rm.slots + rm2.slots) 1813 (wLv b (q 0) (qm 0) (nI i)) []) : wLJ p l e s m b below meth c (wLI D ca A s sp q μ qm μm) kc ks 879 (wLv b (q 0) (qm 0) (nI i)) [] := by
  refine wl_aload_n 879 K dL_law_879 2 rfl rfl ?_
  refine wl_Xi (As := []) 880 [] K dL_law_880 hM okX0_moves q959 hs rfl hF1 hR1 (Nat.le_of_ble_eq_true rfl) rfl ?_
  intro u hu0
  rw [← hu0]
  refine wl_aload_n 883 K dL_law_883 1 rfl rfl ?_
  refine wl_Mi (As := []) 884 [.int v] K dL_law_884 hM2 okX6_moves q1898 spM_00 rfl hF2 hR2 (Nat.le_of_ble_eq_true rfl) rfl ?_
  refine wl_icmp_eq (tgt := 1813) 887 K dL_law_887 (by decide) ?_
  rw [hu0]
  exact k u hu0
theorem wl_c26 {p : Program} {l : Launch} {e : Env} {s : State} {m : MethodId} {below : List Frame} {meth : Method} {c : Code} {b : Nat} {D : va_G} {ca : wCA} {A : Nat → Prop} {Z : (Nat → Prop) → State → Heap → Prop} {kc ks : Nat} {sp : List wCell} {q qm : Nat → Nat} {μ μm : wMem} {L i : Nat} {xs : Nat → Int32} {sp1 : List wCell} {μ1 μm1 : wMem} {v : Int64} {rm rm2 : Room} {fs : List (Nat × Nat)} (K : wLc p s m meth c b D ca A Z) (hX : wLs b L xs s A) (hi : i + 5 < L) (hM : wXl Z l yX0_chance (ws_ yX0_chance cX0_chance 8 (some .long)) rm D vwCl sp sp1 q ca [.ref (q 0), .int (xs (i + 1))] μ μ1 v) (hM2 : wMl l yX6_chance cX6_chance 8 (some .long) rm2 D vwCl spM qm ca [.ref (qm 0), .int (xs (i + 1))] μm (v, μm1)) (hs : sp[0]? = some (.inl (0, fs))) (hF1 : rm.frames + 1 ≤ room_1.frames ∧ 8 + (8 + 11) + rm.locals ≤ room_1.locals) (hR1 : kc + rm.cells ≤ room_1.cells ∧ ks + rm.slots ≤ room_1.slots) (hF2 : rm2.frames + 1 ≤ room_1.frames ∧ 8 + (8 + 11) + rm2.locals ≤ room_1.locals) (hR2 : kc + rm.cells + rm2.cells ≤ room_1.cells ∧ ks + rm.slots + rm2.slots ≤ room_1.slots) (k : ∀ u : Nat → Nat, u 0 = q 0 → wLJ p l e s m b below meth c (wLI D ca A s sp1 u μ1 qm μm1) (kc + rm.cells + rm2.cells) (ks + rm.slots + rm2.slots) 1813 (wLv b (q 0) (qm 0) (nI i)) []) : wLJ p l e s m b below meth c (wLI D ca A s sp q μ qm μm) kc ks 892 (wLv b (q 0) (qm 0) (nI i)) [] := by
  refine wl_aload_n 892 K dL_law_892 2 rfl rfl ?_
  refine wl_arg (j := 1) 893 K hX.1 hX.2.1 hX.2.2.1 hX.2.2.2 (by omega) rfl dL_law_893 dL_law_894 dL_law_895 dL_law_896 dL_law_897 ?_
  refine wl_Xl (As := [.int (xs (i + 1))]) 898 [] K dL_law_898 hM okX0_chance q963 hs rfl hF1 hR1 (Nat.le_of_ble_eq_true rfl) rfl ?_
  intro u hu0
  rw [← hu0]
  refine wl_aload_n 901 K dL_law_901 1 rfl rfl ?_
  refine wl_arg (j := 1) 902 K hX.1 hX.2.1 hX.2.2.1 hX.2.2.2 (by omega) rfl dL_law_902 dL_law_903 dL_law_904 dL_law_905 dL_law_906 ?_
  refine wl_Ml (As := [.int (xs (i + 1))]) 907 [.long v] K dL_law_907 hM2 okX6_chance q1902 spM_00 rfl hF2 hR2 (Nat.le_of_ble_eq_true rfl) rfl ?_
  refine wl_lcmp_eq 910 1813 K dL_law_910 dL_law_911 (by decide) ?_
  rw [hu0]
  exact k u hu0
theorem wl_c27 {p : Program} {l : Launch} {e : Env} {s : State} {m : MethodId} {below : List Frame} {meth : Method} {c : Code} {b : Nat} {D : va_G} {ca : wCA} {A : Nat → Prop} {Z : (Nat → Prop) → State → Heap → Prop} {kc ks : Nat} {sp : List wCell} {q qm : Nat → Nat} {μ μm : wMem} {L i : Nat} {xs : Nat → Int32} {sp1 : List wCell} {μ1 μm1 : wMem} {v : Int32} {rm rm2 : Room} {fs : List (Nat × Nat)} (K : wLc p s m meth c b D ca A Z) (hX : wLs b L xs s A) (hi : i + 5 < L) (hM : wXi Z l yX0_states (ws_ yX0_states cX0_states 1 (some .int)) rm D vwCl sp sp1 q ca [.ref (q 0)] μ μ1 v) (hM2 : wMi l yX6_states cX6_states 1 (some .int) rm2 D vwCl spM qm ca [.ref (qm 0)] μm (v, μm1)) (hs : sp[0]? = some (.inl (0, fs))) (hF1 : rm.frames + 1 ≤ room_1.frames ∧ 8 + (1 + 11) + rm.locals ≤ room_1.locals) (hR1 : kc + rm.cells ≤ room_1.cells ∧ ks + rm.slots ≤ room_1.slots) (hF2 : rm2.frames + 1 ≤ room_1.frames ∧ 8 + (1 + 11) + rm2.locals ≤ room_1.locals) (hR2 : kc + rm.cells + rm2.cells ≤ room_1.cells ∧ ks + rm.slots + rm2.slots ≤ room_1.slots) (k : ∀ u : Nat → Nat, u 0 = q 0 → wLJ p l e s m b below meth c (wLI D ca A s sp1 u μ1 qm μm1) (kc + rm.cells + rm2.cells) (ks + rm.slots + rm2.slots) 1813 (wLv b (q 0) (qm 0) (nI i)) []) : wLJ p l e s m b below meth c (wLI D ca A s sp q μ qm μm) kc ks 916 (wLv b (q 0) (qm 0) (nI i)) [] := by
  refine wl_aload_n 916 K dL_law_916 2 rfl rfl ?_
  refine wl_Xi (As := []) 917 [] K dL_law_917 hM okX0_states q973 hs rfl hF1 hR1 (Nat.le_of_ble_eq_true rfl) rfl ?_
  intro u hu0
  rw [← hu0]
  refine wl_aload_n 920 K dL_law_920 1 rfl rfl ?_
  refine wl_Mi (As := []) 921 [.int v] K dL_law_921 hM2 okX6_states q1910 spM_00 rfl hF2 hR2 (Nat.le_of_ble_eq_true rfl) rfl ?_
  refine wl_icmp_eq (tgt := 1813) 924 K dL_law_924 (by decide) ?_
  rw [hu0]
  exact k u hu0
theorem wl_c28 {p : Program} {l : Launch} {e : Env} {s : State} {m : MethodId} {below : List Frame} {meth : Method} {c : Code} {b : Nat} {D : va_G} {ca : wCA} {A : Nat → Prop} {Z : (Nat → Prop) → State → Heap → Prop} {kc ks : Nat} {sp : List wCell} {q qm : Nat → Nat} {μ μm : wMem} {L i : Nat} {xs : Nat → Int32} {sp1 : List wCell} {μ1 μm1 : wMem} {v : Int32} {rm rm2 : Room} {fs : List (Nat × Nat)} (K : wLc p s m meth c b D ca A Z) (hX : wLs b L xs s A) (hi : i + 5 < L) (hM : wXi Z l yX0_hopeful (ws_ yX0_hopeful cX0_hopeful 5 (some .int)) rm D vwCl sp sp1 q ca [.ref (q 0)] μ μ1 v) (hM2 : wMi l yX6_hopeful cX6_hopeful 3 (some .int) rm2 D vwCl spM qm ca [.ref (qm 0)] μm (v, μm1)) (hs : sp[0]? = some (.inl (0, fs))) (hF1 : rm.frames + 1 ≤ room_1.frames ∧ 8 + (5 + 11) + rm.locals ≤ room_1.locals) (hR1 : kc + rm.cells ≤ room_1.cells ∧ ks + rm.slots ≤ room_1.slots) (hF2 : rm2.frames + 1 ≤ room_1.frames ∧ 8 + (3 + 11) + rm2.locals ≤ room_1.locals) (hR2 : kc + rm.cells + rm2.cells ≤ room_1.cells ∧ ks + rm.slots + rm2.slots ≤ room_1.slots) (k : ∀ u : Nat → Nat, u 0 = q 0 → wLJ p l e s m b below meth c (wLI D ca A s sp1 u μ1 qm μm1) (kc + rm.cells + rm2.cells) (ks + rm.slots + rm2.slots) 1813 (wLv b (q 0) (qm 0) (nI i)) []) : wLJ p l e s m b below meth c (wLI D ca A s sp q μ qm μm) kc ks 929 (wLv b (q 0) (qm 0) (nI i)) [] := by
  refine wl_aload_n 929 K dL_law_929 2 rfl rfl ?_
  refine wl_Xi (As := []) 930 [] K dL_law_930 hM okX0_hopeful q981 hs rfl hF1 hR1 (Nat.le_of_ble_eq_true rfl) rfl ?_
  intro u hu0
  rw [← hu0]
  refine wl_aload_n 933 K dL_law_933 1 rfl rfl ?_
  refine wl_Mi (As := []) 934 [.int v] K dL_law_934 hM2 okX6_hopeful q1914 spM_00 rfl hF2 hR2 (Nat.le_of_ble_eq_true rfl) rfl ?_
  refine wl_icmp_eq (tgt := 1813) 937 K dL_law_937 (by decide) ?_
  rw [hu0]
  exact k u hu0
theorem wl_c29 {p : Program} {l : Launch} {e : Env} {s : State} {m : MethodId} {below : List Frame} {meth : Method} {c : Code} {b : Nat} {D : va_G} {ca : wCA} {A : Nat → Prop} {Z : (Nat → Prop) → State → Heap → Prop} {kc ks : Nat} {sp : List wCell} {q qm : Nat → Nat} {μ μm : wMem} {L i : Nat} {xs : Nat → Int32} {sp1 : List wCell} {μ1 μm1 : wMem} {v : Int32} {rm rm2 : Room} {fs : List (Nat × Nat)} (K : wLc p s m meth c b D ca A Z) (hX : wLs b L xs s A) (hi : i + 5 < L) (hM : wXi Z l yX0_till (ws_ yX0_till cX0_till 3 (some .int)) rm D vwCl sp sp1 q ca [.ref (q 0), .int (xs (i + 1))] μ μ1 v) (hM2 : wMi l yX6_till cX6_till 3 (some .int) rm2 D vwCl spM qm ca [.ref (qm 0), .int (xs (i + 1))] μm (v, μm1)) (hs : sp[0]? = some (.inl (0, fs))) (hF1 : rm.frames + 1 ≤ room_1.frames ∧ 8 + (3 + 11) + rm.locals ≤ room_1.locals) (hR1 : kc + rm.cells ≤ room_1.cells ∧ ks + rm.slots ≤ room_1.slots) (hF2 : rm2.frames + 1 ≤ room_1.frames ∧ 8 + (3 + 11) + rm2.locals ≤ room_1.locals) (hR2 : kc + rm.cells + rm2.cells ≤ room_1.cells ∧ ks + rm.slots + rm2.slots ≤ room_1.slots) (k : ∀ u : Nat → Nat, u 0 = q 0 → wLJ p l e s m b below meth c (wLI D ca A s sp1 u μ1 qm μm1) (kc + rm.cells + rm2.cells) (ks + rm.slots + rm2.slots) 1813 (wLv b (q 0) (qm 0) (nI i)) []) : wLJ p l e s m b below meth c (wLI D ca A s sp q μ qm μm) kc ks 942 (wLv b (q 0) (qm 0) (nI i)) [] := by
  refine wl_aload_n 942 K dL_law_942 2 rfl rfl ?_
  refine wl_arg (j := 1) 943 K hX.1 hX.2.1 hX.2.2.1 hX.2.2.2 (by omega) rfl dL_law_943 dL_law_944 dL_law_945 dL_law_946 dL_law_947 ?_
  refine wl_Xi (As := [.int (xs (i + 1))]) 948 [] K dL_law_948 hM okX0_till q989 hs rfl hF1 hR1 (Nat.le_of_ble_eq_true rfl) rfl ?_
  intro u hu0
  rw [← hu0]
  refine wl_aload_n 951 K dL_law_951 1 rfl rfl ?_
  refine wl_arg (j := 1) 952 K hX.1 hX.2.1 hX.2.2.1 hX.2.2.2 (by omega) rfl dL_law_952 dL_law_953 dL_law_954 dL_law_955 dL_law_956 ?_
  refine wl_Mi (As := [.int (xs (i + 1))]) 957 [.int v] K dL_law_957 hM2 okX6_till q1918 spM_00 rfl hF2 hR2 (Nat.le_of_ble_eq_true rfl) rfl ?_
  refine wl_icmp_eq (tgt := 1813) 960 K dL_law_960 (by decide) ?_
  rw [hu0]
  exact k u hu0
theorem wl_c30 {p : Program} {l : Launch} {e : Env} {s : State} {m : MethodId} {below : List Frame} {meth : Method} {c : Code} {b : Nat} {D : va_G} {ca : wCA} {A : Nat → Prop} {Z : (Nat → Prop) → State → Heap → Prop} {kc ks : Nat} {sp : List wCell} {q qm : Nat → Nat} {μ μm : wMem} {L i : Nat} {xs : Nat → Int32} {sp1 : List wCell} {μ1 μm1 : wMem} {v : Int32} {rm rm2 : Room} {fs : List (Nat × Nat)} (K : wLc p s m meth c b D ca A Z) (hX : wLs b L xs s A) (hi : i + 5 < L) (hM : wXi Z l yX0_over (ws_ yX0_over cX0_over 3 (some .int)) rm D vwCl sp sp1 q ca [.ref (q 0), .int (xs (i + 1))] μ μ1 v) (hM2 : wMi l yX6_over cX6_over 3 (some .int) rm2 D vwCl spM qm ca [.ref (qm 0), .int (xs (i + 1))] μm (v, μm1)) (hs : sp[0]? = some (.inl (0, fs))) (hF1 : rm.frames + 1 ≤ room_1.frames ∧ 8 + (3 + 11) + rm.locals ≤ room_1.locals) (hR1 : kc + rm.cells ≤ room_1.cells ∧ ks + rm.slots ≤ room_1.slots) (hF2 : rm2.frames + 1 ≤ room_1.frames ∧ 8 + (3 + 11) + rm2.locals ≤ room_1.locals) (hR2 : kc + rm.cells + rm2.cells ≤ room_1.cells ∧ ks + rm.slots + rm2.slots ≤ room_1.slots) (k : ∀ u : Nat → Nat, u 0 = q 0 → wLJ p l e s m b below meth c (wLI D ca A s sp1 u μ1 qm μm1) (kc + rm.cells + rm2.cells) (ks + rm.slots + rm2.slots) 1813 (wLv b (q 0) (qm 0) (nI i)) []) : wLJ p l e s m b below meth c (wLI D ca A s sp q μ qm μm) kc ks 965 (wLv b (q 0) (qm 0) (nI i)) [] := by
  refine wl_aload_n 965 K dL_law_965 2 rfl rfl ?_
  refine wl_arg (j := 1) 966 K hX.1 hX.2.1 hX.2.2.1 hX.2.2.2 (by omega) rfl dL_law_966 dL_law_967 dL_law_968 dL_law_969 dL_law_970 ?_
  refine wl_Xi (As := [.int (xs (i + 1))]) 971 [] K dL_law_971 hM okX0_over q997 hs rfl hF1 hR1 (Nat.le_of_ble_eq_true rfl) rfl ?_
  intro u hu0
  rw [← hu0]
  refine wl_aload_n 974 K dL_law_974 1 rfl rfl ?_
  refine wl_arg (j := 1) 975 K hX.1 hX.2.1 hX.2.2.1 hX.2.2.2 (by omega) rfl dL_law_975 dL_law_976 dL_law_977 dL_law_978 dL_law_979 ?_
  refine wl_Mi (As := [.int (xs (i + 1))]) 980 [.int v] K dL_law_980 hM2 okX6_over q1926 spM_00 rfl hF2 hR2 (Nat.le_of_ble_eq_true rfl) rfl ?_
  refine wl_icmp_eq (tgt := 1813) 983 K dL_law_983 (by decide) ?_
  rw [hu0]
  exact k u hu0
theorem wl_c31 {p : Program} {l : Launch} {e : Env} {s : State} {m : MethodId} {below : List Frame} {meth : Method} {c : Code} {b : Nat} {D : va_G} {ca : wCA} {A : Nat → Prop} {Z : (Nat → Prop) → State → Heap → Prop} {kc ks : Nat} {sp : List wCell} {q qm : Nat → Nat} {μ μm : wMem} {L i : Nat} {xs : Nat → Int32} {sp1 : List wCell} {μ1 μm1 : wMem} {v : Int32} {rm rm2 : Room} {fs : List (Nat × Nat)} (K : wLc p s m meth c b D ca A Z) (hX : wLs b L xs s A) (hi : i + 5 < L) (hM : wXi Z l yX0_never (ws_ yX0_never cX0_never 3 (some .int)) rm D vwCl sp sp1 q ca [.ref (q 0)] μ μ1 v) (hM2 : wMi l yX6_never cX6_never 3 (some .int) rm2 D vwCl spM qm ca [.ref (qm 0)] μm (v, μm1)) (hs : sp[0]? = some (.inl (0, fs))) (hF1 : rm.frames + 1 ≤ room_1.frames ∧ 8 + (3 + 11) + rm.locals ≤ room_1.locals) (hR1 : kc + rm.cells ≤ room_1.cells ∧ ks + rm.slots ≤ room_1.slots) (hF2 : rm2.frames + 1 ≤ room_1.frames ∧ 8 + (3 + 11) + rm2.locals ≤ room_1.locals) (hR2 : kc + rm.cells + rm2.cells ≤ room_1.cells ∧ ks + rm.slots + rm2.slots ≤ room_1.slots) (k : ∀ u : Nat → Nat, u 0 = q 0 → wLJ p l e s m b below meth c (wLI D ca A s sp1 u μ1 qm μm1) (kc + rm.cells + rm2.cells) (ks + rm.slots + rm2.slots) 1813 (wLv b (q 0) (qm 0) (nI i)) []) : wLJ p l e s m b below meth c (wLI D ca A s sp q μ qm μm) kc ks 988 (wLv b (q 0) (qm 0) (nI i)) [] := by
  refine wl_aload_n 988 K dL_law_988 2 rfl rfl ?_
  refine wl_Xi (As := []) 989 [] K dL_law_989 hM okX0_never q1001 hs rfl hF1 hR1 (Nat.le_of_ble_eq_true rfl) rfl ?_
  intro u hu0
  rw [← hu0]
  refine wl_aload_n 992 K dL_law_992 1 rfl rfl ?_
  refine wl_Mi (As := []) 993 [.int v] K dL_law_993 hM2 okX6_never q1930 spM_00 rfl hF2 hR2 (Nat.le_of_ble_eq_true rfl) rfl ?_
  refine wl_icmp_eq (tgt := 1813) 996 K dL_law_996 (by decide) ?_
  rw [hu0]
  exact k u hu0
theorem wl_c32 {p : Program} {l : Launch} {e : Env} {s : State} {m : MethodId} {below : List Frame} {meth : Method} {c : Code} {b : Nat} {D : va_G} {ca : wCA} {A : Nat → Prop} {Z : (Nat → Prop) → State → Heap → Prop} {kc ks : Nat} {sp : List wCell} {q qm : Nat → Nat} {μ μm : wMem} {L i : Nat} {xs : Nat → Int32} {sp1 : List wCell} {μ1 μm1 : wMem} {v : Int32} {rm rm2 : Room} {fs : List (Nat × Nat)} (K : wLc p s m meth c b D ca A Z) (hX : wLs b L xs s A) (hi : i + 5 < L) (hM : wXi Z l yX0_lost (ws_ yX0_lost cX0_lost 4 (some .int)) rm D vwCl sp sp1 q ca [.ref (q 0), .int (xs (i + 1))] μ μ1 v) (hM2 : wMi l yX6_lost cX6_lost 2 (some .int) rm2 D vwCl spM qm ca [.ref (qm 0), .int (xs (i + 1))] μm (v, μm1)) (hs : sp[0]? = some (.inl (0, fs))) (hF1 : rm.frames + 1 ≤ room_1.frames ∧ 8 + (4 + 11) + rm.locals ≤ room_1.locals) (hR1 : kc + rm.cells ≤ room_1.cells ∧ ks + rm.slots ≤ room_1.slots) (hF2 : rm2.frames + 1 ≤ room_1.frames ∧ 8 + (2 + 11) + rm2.locals ≤ room_1.locals) (hR2 : kc + rm.cells + rm2.cells ≤ room_1.cells ∧ ks + rm.slots + rm2.slots ≤ room_1.slots) (k : ∀ u : Nat → Nat, u 0 = q 0 → wLJ p l e s m b below meth c (wLI D ca A s sp1 u μ1 qm μm1) (kc + rm.cells + rm2.cells) (ks + rm.slots + rm2.slots) 1813 (wLv b (q 0) (qm 0) (nI i)) []) : wLJ p l e s m b below meth c (wLI D ca A s sp q μ qm μm) kc ks 1001 (wLv b (q 0) (qm 0) (nI i)) [] := by
  refine wl_aload_n 1001 K dL_law_1001 2 rfl rfl ?_
  refine wl_arg (j := 1) 1002 K hX.1 hX.2.1 hX.2.2.1 hX.2.2.2 (by omega) rfl dL_law_1002 dL_law_1003 dL_law_1004 dL_law_1005 dL_law_1006 ?_
  refine wl_Xi (As := [.int (xs (i + 1))]) 1007 [] K dL_law_1007 hM okX0_lost q1005 hs rfl hF1 hR1 (Nat.le_of_ble_eq_true rfl) rfl ?_
  intro u hu0
  rw [← hu0]
  refine wl_aload_n 1010 K dL_law_1010 1 rfl rfl ?_
  refine wl_arg (j := 1) 1011 K hX.1 hX.2.1 hX.2.2.1 hX.2.2.2 (by omega) rfl dL_law_1011 dL_law_1012 dL_law_1013 dL_law_1014 dL_law_1015 ?_
  refine wl_Mi (As := [.int (xs (i + 1))]) 1016 [.int v] K dL_law_1016 hM2 okX6_lost q1934 spM_00 rfl hF2 hR2 (Nat.le_of_ble_eq_true rfl) rfl ?_
  refine wl_icmp_eq (tgt := 1813) 1019 K dL_law_1019 (by decide) ?_
  rw [hu0]
  exact k u hu0
theorem wl_c33 {p : Program} {l : Launch} {e : Env} {s : State} {m : MethodId} {below : List Frame} {meth : Method} {c : Code} {b : Nat} {D : va_G} {ca : wCA} {A : Nat → Prop} {Z : (Nat → Prop) → State → Heap → Prop} {kc ks : Nat} {sp : List wCell} {q qm : Nat → Nat} {μ μm : wMem} {L i : Nat} {xs : Nat → Int32} {sp1 : List wCell} {μ1 μm1 : wMem} {v : Int32} {rm rm2 : Room} {fs : List (Nat × Nat)} (K : wLc p s m meth c b D ca A Z) (hX : wLs b L xs s A) (hi : i + 5 < L) (hM : wXi Z l yX0_worst (ws_ yX0_worst cX0_worst 5 (some .int)) rm D vwCl sp sp1 q ca [.ref (q 0)] μ μ1 v) (hM2 : wMi l yX6_worst cX6_worst 6 (some .int) rm2 D vwCl spM qm ca [.ref (qm 0)] μm (v, μm1)) (hs : sp[0]? = some (.inl (0, fs))) (hF1 : rm.frames + 1 ≤ room_1.frames ∧ 8 + (5 + 11) + rm.locals ≤ room_1.locals) (hR1 : kc + rm.cells ≤ room_1.cells ∧ ks + rm.slots ≤ room_1.slots) (hF2 : rm2.frames + 1 ≤ room_1.frames ∧ 8 + (6 + 11) + rm2.locals ≤ room_1.locals) (hR2 : kc + rm.cells + rm2.cells ≤ room_1.cells ∧ ks + rm.slots + rm2.slots ≤ room_1.slots) (k : ∀ u : Nat → Nat, u 0 = q 0 → wLJ p l e s m b below meth c (wLI D ca A s sp1 u μ1 qm μm1) (kc + rm.cells + rm2.cells) (ks + rm.slots + rm2.slots) 1813 (wLv b (q 0) (qm 0) (nI i)) []) : wLJ p l e s m b below meth c (wLI D ca A s sp q μ qm μm) kc ks 1024 (wLv b (q 0) (qm 0) (nI i)) [] := by
  refine wl_aload_n 1024 K dL_law_1024 2 rfl rfl ?_
  refine wl_Xi (As := []) 1025 [] K dL_law_1025 hM okX0_worst q1009 hs rfl hF1 hR1 (Nat.le_of_ble_eq_true rfl) rfl ?_
  intro u hu0
  rw [← hu0]
  refine wl_aload_n 1028 K dL_law_1028 1 rfl rfl ?_
  refine wl_Mi (As := []) 1029 [.int v] K dL_law_1029 hM2 okX6_worst q1942 spM_00 rfl hF2 hR2 (Nat.le_of_ble_eq_true rfl) rfl ?_
  refine wl_icmp_eq (tgt := 1813) 1032 K dL_law_1032 (by decide) ?_
  rw [hu0]
  exact k u hu0
theorem wl_c34 {p : Program} {l : Launch} {e : Env} {s : State} {m : MethodId} {below : List Frame} {meth : Method} {c : Code} {b : Nat} {D : va_G} {ca : wCA} {A : Nat → Prop} {Z : (Nat → Prop) → State → Heap → Prop} {kc ks : Nat} {sp : List wCell} {q qm : Nat → Nat} {μ μm : wMem} {L i : Nat} {xs : Nat → Int32} {sp1 : List wCell} {μ1 μm1 : wMem} {v : Int32} {rm rm2 : Room} {fs : List (Nat × Nat)} (K : wLc p s m meth c b D ca A Z) (hX : wLs b L xs s A) (hi : i + 5 < L) (hM : wXi Z l yX0_judge (ws_ yX0_judge cX0_judge 3 (some .int)) rm D vwCl sp sp1 q ca [.ref (q 0), .int (xs (i + 1))] μ μ1 v) (hM2 : wMi l yX6_judge cX6_judge 3 (some .int) rm2 D vwCl spM qm ca [.ref (qm 0), .int (xs (i + 1))] μm (v, μm1)) (hs : sp[0]? = some (.inl (0, fs))) (hF1 : rm.frames + 1 ≤ room_1.frames ∧ 8 + (3 + 11) + rm.locals ≤ room_1.locals) (hR1 : kc + rm.cells ≤ room_1.cells ∧ ks + rm.slots ≤ room_1.slots) (hF2 : rm2.frames + 1 ≤ room_1.frames ∧ 8 + (3 + 11) + rm2.locals ≤ room_1.locals) (hR2 : kc + rm.cells + rm2.cells ≤ room_1.cells ∧ ks + rm.slots + rm2.slots ≤ room_1.slots) (k : ∀ u : Nat → Nat, u 0 = q 0 → wLJ p l e s m b below meth c (wLI D ca A s sp1 u μ1 qm μm1) (kc + rm.cells + rm2.cells) (ks + rm.slots + rm2.slots) 1813 (wLv b (q 0) (qm 0) (nI i)) []) : wLJ p l e s m b below meth c (wLI D ca A s sp q μ qm μm) kc ks 1037 (wLv b (q 0) (qm 0) (nI i)) [] := by
  refine wl_aload_n 1037 K dL_law_1037 2 rfl rfl ?_
  refine wl_arg (j := 1) 1038 K hX.1 hX.2.1 hX.2.2.1 hX.2.2.2 (by omega) rfl dL_law_1038 dL_law_1039 dL_law_1040 dL_law_1041 dL_law_1042 ?_
  refine wl_Xi (As := [.int (xs (i + 1))]) 1043 [] K dL_law_1043 hM okX0_judge q1023 hs rfl hF1 hR1 (Nat.le_of_ble_eq_true rfl) rfl ?_
  intro u hu0
  rw [← hu0]
  refine wl_aload_n 1046 K dL_law_1046 1 rfl rfl ?_
  refine wl_arg (j := 1) 1047 K hX.1 hX.2.1 hX.2.2.1 hX.2.2.2 (by omega) rfl dL_law_1047 dL_law_1048 dL_law_1049 dL_law_1050 dL_law_1051 ?_
  refine wl_Mi (As := [.int (xs (i + 1))]) 1052 [.int v] K dL_law_1052 hM2 okX6_judge q1949 spM_00 rfl hF2 hR2 (Nat.le_of_ble_eq_true rfl) rfl ?_
  refine wl_icmp_eq (tgt := 1813) 1055 K dL_law_1055 (by decide) ?_
  rw [hu0]
  exact k u hu0
theorem wl_c35 {p : Program} {l : Launch} {e : Env} {s : State} {m : MethodId} {below : List Frame} {meth : Method} {c : Code} {b : Nat} {D : va_G} {ca : wCA} {A : Nat → Prop} {Z : (Nat → Prop) → State → Heap → Prop} {kc ks : Nat} {sp : List wCell} {q qm : Nat → Nat} {μ μm : wMem} {L i : Nat} {xs : Nat → Int32} {sp1 : List wCell} {μ1 μm1 : wMem} {v : Int32} {rm rm2 : Room} {fs : List (Nat × Nat)} (K : wLc p s m meth c b D ca A Z) (hX : wLs b L xs s A) (hi : i + 5 < L) (hM : wXi Z l yX0_there (ws_ yX0_there cX0_there 3 (some .int)) rm D vwCl sp sp1 q ca [.ref (q 0), .int (xs (i + 1))] μ μ1 v) (hM2 : wMi l yX6_there cX6_there 2 (some .int) rm2 D vwCl spM qm ca [.ref (qm 0), .int (xs (i + 1))] μm (v, μm1)) (hs : sp[0]? = some (.inl (0, fs))) (hF1 : rm.frames + 1 ≤ room_1.frames ∧ 8 + (3 + 11) + rm.locals ≤ room_1.locals) (hR1 : kc + rm.cells ≤ room_1.cells ∧ ks + rm.slots ≤ room_1.slots) (hF2 : rm2.frames + 1 ≤ room_1.frames ∧ 8 + (2 + 11) + rm2.locals ≤ room_1.locals) (hR2 : kc + rm.cells + rm2.cells ≤ room_1.cells ∧ ks + rm.slots + rm2.slots ≤ room_1.slots) (k : ∀ u : Nat → Nat, u 0 = q 0 → wLJ p l e s m b below meth c (wLI D ca A s sp1 u μ1 qm μm1) (kc + rm.cells + rm2.cells) (ks + rm.slots + rm2.slots) 1813 (wLv b (q 0) (qm 0) (nI i)) []) : wLJ p l e s m b below meth c (wLI D ca A s sp q μ qm μm) kc ks 1060 (wLv b (q 0) (qm 0) (nI i)) [] := by
  refine wl_aload_n 1060 K dL_law_1060 2 rfl rfl ?_
  refine wl_arg (j := 1) 1061 K hX.1 hX.2.1 hX.2.2.1 hX.2.2.2 (by omega) rfl dL_law_1061 dL_law_1062 dL_law_1063 dL_law_1064 dL_law_1065 ?_
  refine wl_Xi (As := [.int (xs (i + 1))]) 1066 [] K dL_law_1066 hM okX0_there q1082 hs rfl hF1 hR1 (Nat.le_of_ble_eq_true rfl) rfl ?_
  intro u hu0
  rw [← hu0]
  refine wl_aload_n 1069 K dL_law_1069 1 rfl rfl ?_
  refine wl_arg (j := 1) 1070 K hX.1 hX.2.1 hX.2.2.1 hX.2.2.2 (by omega) rfl dL_law_1070 dL_law_1071 dL_law_1072 dL_law_1073 dL_law_1074 ?_
  refine wl_Mi (As := [.int (xs (i + 1))]) 1075 [.int v] K dL_law_1075 hM2 okX6_there q1965 spM_00 rfl hF2 hR2 (Nat.le_of_ble_eq_true rfl) rfl ?_
  refine wl_icmp_eq (tgt := 1813) 1078 K dL_law_1078 (by decide) ?_
  rw [hu0]
  exact k u hu0
theorem wl_c36 {p : Program} {l : Launch} {e : Env} {s : State} {m : MethodId} {below : List Frame} {meth : Method} {c : Code} {b : Nat} {D : va_G} {ca : wCA} {A : Nat → Prop} {Z : (Nat → Prop) → State → Heap → Prop} {kc ks : Nat} {sp : List wCell} {q qm : Nat → Nat} {μ μm : wMem} {L i : Nat} {xs : Nat → Int32} {sp1 : List wCell} {μ1 μm1 : wMem} {v : Int32} {rm rm2 : Room} {fs : List (Nat × Nat)} (K : wLc p s m meth c b D ca A Z) (hX : wLs b L xs s A) (hi : i + 5 < L) (hM : wXi Z l yX0_takes (ws_ yX0_takes cX0_takes 3 (some .int)) rm D vwCl sp sp1 q ca [.ref (q 0), .int (xs (i + 1))] μ μ1 v) (hM2 : wMi l yX6_takes_2 cX6_takes_2 2 (some .int) rm2 D vwCl spM qm ca [.ref (qm 0), .int (xs (i + 1))] μm (v, μm1)) (hs : sp[0]? = some (.inl (0, fs))) (hF1 : rm.frames + 1 ≤ room_1.frames ∧ 8 + (3 + 11) + rm.locals ≤ room_1.locals) (hR1 : kc + rm.cells ≤ room_1.cells ∧ ks + rm.slots ≤ room_1.slots) (hF2 : rm2.frames + 1 ≤ room_1.frames ∧ 8 + (2 + 11) + rm2.locals ≤ room_1.locals) (hR2 : kc + rm.cells + rm2.cells ≤ room_1.cells ∧ ks + rm.slots + rm2.slots ≤ room_1.slots) (k : ∀ u : Nat → Nat, u 0 = q 0 → wLJ p l e s m b below meth c (wLI D ca A s sp1 u μ1 qm μm1) (kc + rm.cells + rm2.cells) (ks + rm.slots + rm2.slots) 1813 (wLv b (q 0) (qm 0) (nI i)) []) : wLJ p l e s m b below meth c (wLI D ca A s sp q μ qm μm) kc ks 1083 (wLv b (q 0) (qm 0) (nI i)) [] := by
  refine wl_aload_n 1083 K dL_law_1083 2 rfl rfl ?_
  refine wl_arg (j := 1) 1084 K hX.1 hX.2.1 hX.2.2.1 hX.2.2.2 (by omega) rfl dL_law_1084 dL_law_1085 dL_law_1086 dL_law_1087 dL_law_1088 ?_
  refine wl_Xi (As := [.int (xs (i + 1))]) 1089 [] K dL_law_1089 hM okX0_takes q1086 hs rfl hF1 hR1 (Nat.le_of_ble_eq_true rfl) rfl ?_
  intro u hu0
  rw [← hu0]
  refine wl_aload_n 1092 K dL_law_1092 1 rfl rfl ?_
  refine wl_arg (j := 1) 1093 K hX.1 hX.2.1 hX.2.2.1 hX.2.2.2 (by omega) rfl dL_law_1093 dL_law_1094 dL_law_1095 dL_law_1096 dL_law_1097 ?_
  refine wl_Mi (As := [.int (xs (i + 1))]) 1098 [.int v] K dL_law_1098 hM2 okX6_takes_2 q1973 spM_00 rfl hF2 hR2 (Nat.le_of_ble_eq_true rfl) rfl ?_
  refine wl_icmp_eq (tgt := 1813) 1101 K dL_law_1101 (by decide) ?_
  rw [hu0]
  exact k u hu0
theorem wl_c37 {p : Program} {l : Launch} {e : Env} {s : State} {m : MethodId} {below : List Frame} {meth : Method} {c : Code} {b : Nat} {D : va_G} {ca : wCA} {A : Nat → Prop} {Z : (Nat → Prop) → State → Heap → Prop} {kc ks : Nat} {sp : List wCell} {q qm : Nat → Nat} {μ μm : wMem} {L i : Nat} {xs : Nat → Int32} {sp1 : List wCell} {μ1 μm1 : wMem} {v : Int32} {rm rm2 : Room} {fs : List (Nat × Nat)} (K : wLc p s m meth c b D ca A Z) (hX : wLs b L xs s A) (hi : i + 5 < L) (hM : wXi Z l yX0_dares (ws_ yX0_dares cX0_dares 3 (some .int)) rm D vwCl sp sp1 q ca [.ref (q 0), .int (xs (i + 1))] μ μ1 v) (hM2 : wMi l yX6_dares cX6_dares 2 (some .int) rm2 D vwCl spM qm ca [.ref (qm 0), .int (xs (i + 1))] μm (v, μm1)) (hs : sp[0]? = some (.inl (0, fs))) (hF1 : rm.frames + 1 ≤ room_1.frames ∧ 8 + (3 + 11) + rm.locals ≤ room_1.locals) (hR1 : kc + rm.cells ≤ room_1.cells ∧ ks + rm.slots ≤ room_1.slots) (hF2 : rm2.frames + 1 ≤ room_1.frames ∧ 8 + (2 + 11) + rm2.locals ≤ room_1.locals) (hR2 : kc + rm.cells + rm2.cells ≤ room_1.cells ∧ ks + rm.slots + rm2.slots ≤ room_1.slots) (k : ∀ u : Nat → Nat, u 0 = q 0 → wLJ p l e s m b below meth c (wLI D ca A s sp1 u μ1 qm μm1) (kc + rm.cells + rm2.cells) (ks + rm.slots + rm2.slots) 1813 (wLv b (q 0) (qm 0) (nI i)) []) : wLJ p l e s m b below meth c (wLI D ca A s sp q μ qm μm) kc ks 1106 (wLv b (q 0) (qm 0) (nI i)) [] := by
  refine wl_aload_n 1106 K dL_law_1106 2 rfl rfl ?_
  refine wl_arg (j := 1) 1107 K hX.1 hX.2.1 hX.2.2.1 hX.2.2.2 (by omega) rfl dL_law_1107 dL_law_1108 dL_law_1109 dL_law_1110 dL_law_1111 ?_
  refine wl_Xi (As := [.int (xs (i + 1))]) 1112 [] K dL_law_1112 hM okX0_dares q1090 hs rfl hF1 hR1 (Nat.le_of_ble_eq_true rfl) rfl ?_
  intro u hu0
  rw [← hu0]
  refine wl_aload_n 1115 K dL_law_1115 1 rfl rfl ?_
  refine wl_arg (j := 1) 1116 K hX.1 hX.2.1 hX.2.2.1 hX.2.2.2 (by omega) rfl dL_law_1116 dL_law_1117 dL_law_1118 dL_law_1119 dL_law_1120 ?_
  refine wl_Mi (As := [.int (xs (i + 1))]) 1121 [.int v] K dL_law_1121 hM2 okX6_dares q1977 spM_00 rfl hF2 hR2 (Nat.le_of_ble_eq_true rfl) rfl ?_
  refine wl_icmp_eq (tgt := 1813) 1124 K dL_law_1124 (by decide) ?_
  rw [hu0]
  exact k u hu0
theorem wl_c38 {p : Program} {l : Launch} {e : Env} {s : State} {m : MethodId} {below : List Frame} {meth : Method} {c : Code} {b : Nat} {D : va_G} {ca : wCA} {A : Nat → Prop} {Z : (Nat → Prop) → State → Heap → Prop} {kc ks : Nat} {sp : List wCell} {q qm : Nat → Nat} {μ μm : wMem} {L i : Nat} {xs : Nat → Int32} {sp1 : List wCell} {μ1 μm1 : wMem} {v : Int32} {rm rm2 : Room} {fs : List (Nat × Nat)} (K : wLc p s m meth c b D ca A Z) (hX : wLs b L xs s A) (hi : i + 5 < L) (hM : wXi Z l yX0_lied (ws_ yX0_lied cX0_lied 3 (some .int)) rm D vwCl sp sp1 q ca [.ref (q 0), .int (xs (i + 1))] μ μ1 v) (hM2 : wMi l yX6_lied cX6_lied 2 (some .int) rm2 D vwCl spM qm ca [.ref (qm 0), .int (xs (i + 1))] μm (v, μm1)) (hs : sp[0]? = some (.inl (0, fs))) (hF1 : rm.frames + 1 ≤ room_1.frames ∧ 8 + (3 + 11) + rm.locals ≤ room_1.locals) (hR1 : kc + rm.cells ≤ room_1.cells ∧ ks + rm.slots ≤ room_1.slots) (hF2 : rm2.frames + 1 ≤ room_1.frames ∧ 8 + (2 + 11) + rm2.locals ≤ room_1.locals) (hR2 : kc + rm.cells + rm2.cells ≤ room_1.cells ∧ ks + rm.slots + rm2.slots ≤ room_1.slots) (k : ∀ u : Nat → Nat, u 0 = q 0 → wLJ p l e s m b below meth c (wLI D ca A s sp1 u μ1 qm μm1) (kc + rm.cells + rm2.cells) (ks + rm.slots + rm2.slots) 1813 (wLv b (q 0) (qm 0) (nI i)) []) : wLJ p l e s m b below meth c (wLI D ca A s sp q μ qm μm) kc ks 1129 (wLv b (q 0) (qm 0) (nI i)) [] := by
  refine wl_aload_n 1129 K dL_law_1129 2 rfl rfl ?_
  refine wl_arg (j := 1) 1130 K hX.1 hX.2.1 hX.2.2.1 hX.2.2.2 (by omega) rfl dL_law_1130 dL_law_1131 dL_law_1132 dL_law_1133 dL_law_1134 ?_
  refine wl_Xi (As := [.int (xs (i + 1))]) 1135 [] K dL_law_1135 hM okX0_lied q1094 hs rfl hF1 hR1 (Nat.le_of_ble_eq_true rfl) rfl ?_
  intro u hu0
  rw [← hu0]
  refine wl_aload_n 1138 K dL_law_1138 1 rfl rfl ?_
  refine wl_arg (j := 1) 1139 K hX.1 hX.2.1 hX.2.2.1 hX.2.2.2 (by omega) rfl dL_law_1139 dL_law_1140 dL_law_1141 dL_law_1142 dL_law_1143 ?_
  refine wl_Mi (As := [.int (xs (i + 1))]) 1144 [.int v] K dL_law_1144 hM2 okX6_lied q1981 spM_00 rfl hF2 hR2 (Nat.le_of_ble_eq_true rfl) rfl ?_
  refine wl_icmp_eq (tgt := 1813) 1147 K dL_law_1147 (by decide) ?_
  rw [hu0]
  exact k u hu0
theorem wl_c39 {p : Program} {l : Launch} {e : Env} {s : State} {m : MethodId} {below : List Frame} {meth : Method} {c : Code} {b : Nat} {D : va_G} {ca : wCA} {A : Nat → Prop} {Z : (Nat → Prop) → State → Heap → Prop} {kc ks : Nat} {sp : List wCell} {q qm : Nat → Nat} {μ μm : wMem} {L i : Nat} {xs : Nat → Int32} {sp1 : List wCell} {μ1 μm1 : wMem} {v : Int64} {rm rm2 : Room} {fs : List (Nat × Nat)} (K : wLc p s m meth c b D ca A Z) (hX : wLs b L xs s A) (hi : i + 5 < L) (hM : wXl Z l yX0_stamped (ws_ yX0_stamped cX0_stamped 6 (some .long)) rm D vwCl sp sp1 q ca [.ref (q 0), .int (xs (i + 1))] μ μ1 v) (hM2 : wMl l yX6_stamped cX6_stamped 3 (some .long) rm2 D vwCl spM qm ca [.ref (qm 0), .int (xs (i + 1))] μm (v, μm1)) (hs : sp[0]? = some (.inl (0, fs))) (hF1 : rm.frames + 1 ≤ room_1.frames ∧ 8 + (6 + 11) + rm.locals ≤ room_1.locals) (hR1 : kc + rm.cells ≤ room_1.cells ∧ ks + rm.slots ≤ room_1.slots) (hF2 : rm2.frames + 1 ≤ room_1.frames ∧ 8 + (3 + 11) + rm2.locals ≤ room_1.locals) (hR2 : kc + rm.cells + rm2.cells ≤ room_1.cells ∧ ks + rm.slots + rm2.slots ≤ room_1.slots) (k : ∀ u : Nat → Nat, u 0 = q 0 → wLJ p l e s m b below meth c (wLI D ca A s sp1 u μ1 qm μm1) (kc + rm.cells + rm2.cells) (ks + rm.slots + rm2.slots) 1813 (wLv b (q 0) (qm 0) (nI i)) []) : wLJ p l e s m b below meth c (wLI D ca A s sp q μ qm μm) kc ks 1152 (wLv b (q 0) (qm 0) (nI i)) [] := by
  refine wl_aload_n 1152 K dL_law_1152 2 rfl rfl ?_
  refine wl_arg (j := 1) 1153 K hX.1 hX.2.1 hX.2.2.1 hX.2.2.2 (by omega) rfl dL_law_1153 dL_law_1154 dL_law_1155 dL_law_1156 dL_law_1157 ?_
  refine wl_Xl (As := [.int (xs (i + 1))]) 1158 [] K dL_law_1158 hM okX0_stamped q1098 hs rfl hF1 hR1 (Nat.le_of_ble_eq_true rfl) rfl ?_
  intro u hu0
  rw [← hu0]
  refine wl_aload_n 1161 K dL_law_1161 1 rfl rfl ?_
  refine wl_arg (j := 1) 1162 K hX.1 hX.2.1 hX.2.2.1 hX.2.2.2 (by omega) rfl dL_law_1162 dL_law_1163 dL_law_1164 dL_law_1165 dL_law_1166 ?_
  refine wl_Ml (As := [.int (xs (i + 1))]) 1167 [.long v] K dL_law_1167 hM2 okX6_stamped q1985 spM_00 rfl hF2 hR2 (Nat.le_of_ble_eq_true rfl) rfl ?_
  refine wl_lcmp_eq 1170 1813 K dL_law_1170 dL_law_1171 (by decide) ?_
  rw [hu0]
  exact k u hu0
theorem wl_c40 {p : Program} {l : Launch} {e : Env} {s : State} {m : MethodId} {below : List Frame} {meth : Method} {c : Code} {b : Nat} {D : va_G} {ca : wCA} {A : Nat → Prop} {Z : (Nat → Prop) → State → Heap → Prop} {kc ks : Nat} {sp : List wCell} {q qm : Nat → Nat} {μ μm : wMem} {L i : Nat} {xs : Nat → Int32} {sp1 : List wCell} {μ1 μm1 : wMem} {v : Int32} {rm rm2 : Room} {fs : List (Nat × Nat)} (K : wLc p s m meth c b D ca A Z) (hX : wLs b L xs s A) (hi : i + 5 < L) (hM : wXi Z l yX0_had (ws_ yX0_had cX0_had 4 (some .int)) rm D vwCl sp sp1 q ca [.ref (q 0), .int (xs (i + 1)), .int (xs (i + 2))] μ μ1 v) (hM2 : wMi l yX6_had cX6_had 4 (some .int) rm2 D vwCl spM qm ca [.ref (qm 0), .int (xs (i + 1)), .int (xs (i + 2))] μm (v, μm1)) (hs : sp[0]? = some (.inl (0, fs))) (hF1 : rm.frames + 1 ≤ room_1.frames ∧ 8 + (4 + 11) + rm.locals ≤ room_1.locals) (hR1 : kc + rm.cells ≤ room_1.cells ∧ ks + rm.slots ≤ room_1.slots) (hF2 : rm2.frames + 1 ≤ room_1.frames ∧ 8 + (4 + 11) + rm2.locals ≤ room_1.locals) (hR2 : kc + rm.cells + rm2.cells ≤ room_1.cells ∧ ks + rm.slots + rm2.slots ≤ room_1.slots) (k : ∀ u : Nat → Nat, u 0 = q 0 → wLJ p l e s m b below meth c (wLI D ca A s sp1 u μ1 qm μm1) (kc + rm.cells + rm2.cells) (ks + rm.slots + rm2.slots) 1813 (wLv b (q 0) (qm 0) (nI i)) []) : wLJ p l e s m b below meth c (wLI D ca A s sp q μ qm μm) kc ks 1176 (wLv b (q 0) (qm 0) (nI i)) [] := by
  refine wl_aload_n 1176 K dL_law_1176 2 rfl rfl ?_
  refine wl_arg (j := 1) 1177 K hX.1 hX.2.1 hX.2.2.1 hX.2.2.2 (by omega) rfl dL_law_1177 dL_law_1178 dL_law_1179 dL_law_1180 dL_law_1181 ?_
  refine wl_arg (j := 2) 1182 K hX.1 hX.2.1 hX.2.2.1 hX.2.2.2 (by omega) rfl dL_law_1182 dL_law_1183 dL_law_1184 dL_law_1185 dL_law_1186 ?_
  refine wl_Xi (As := [.int (xs (i + 1)), .int (xs (i + 2))]) 1187 [] K dL_law_1187 hM okX0_had q1134 hs rfl hF1 hR1 (Nat.le_of_ble_eq_true rfl) rfl ?_
  intro u hu0
  rw [← hu0]
  refine wl_aload_n 1190 K dL_law_1190 1 rfl rfl ?_
  refine wl_arg (j := 1) 1191 K hX.1 hX.2.1 hX.2.2.1 hX.2.2.2 (by omega) rfl dL_law_1191 dL_law_1192 dL_law_1193 dL_law_1194 dL_law_1195 ?_
  refine wl_arg (j := 2) 1196 K hX.1 hX.2.1 hX.2.2.1 hX.2.2.2 (by omega) rfl dL_law_1196 dL_law_1197 dL_law_1198 dL_law_1199 dL_law_1200 ?_
  refine wl_Mi (As := [.int (xs (i + 1)), .int (xs (i + 2))]) 1201 [.int v] K dL_law_1201 hM2 okX6_had q2010 spM_00 rfl hF2 hR2 (Nat.le_of_ble_eq_true rfl) rfl ?_
  refine wl_icmp_eq (tgt := 1813) 1204 K dL_law_1204 (by decide) ?_
  rw [hu0]
  exact k u hu0
theorem wl_c41 {p : Program} {l : Launch} {e : Env} {s : State} {m : MethodId} {below : List Frame} {meth : Method} {c : Code} {b : Nat} {D : va_G} {ca : wCA} {A : Nat → Prop} {Z : (Nat → Prop) → State → Heap → Prop} {kc ks : Nat} {sp : List wCell} {q qm : Nat → Nat} {μ μm : wMem} {L i : Nat} {xs : Nat → Int32} {sp1 : List wCell} {μ1 μm1 : wMem} {v : Int32} {rm rm2 : Room} {fs : List (Nat × Nat)} (K : wLc p s m meth c b D ca A Z) (hX : wLs b L xs s A) (hi : i + 5 < L) (hM : wXi Z l yX0_sure (ws_ yX0_sure cX0_sure 6 (some .int)) rm D vwCl sp sp1 q ca [.ref (q 0), .int (xs (i + 1)), .int (xs (i + 2))] μ μ1 v) (hM2 : wMi l yX6_sure cX6_sure 4 (some .int) rm2 D vwCl spM qm ca [.ref (qm 0), .int (xs (i + 1)), .int (xs (i + 2))] μm (v, μm1)) (hs : sp[0]? = some (.inl (0, fs))) (hF1 : rm.frames + 1 ≤ room_1.frames ∧ 8 + (6 + 11) + rm.locals ≤ room_1.locals) (hR1 : kc + rm.cells ≤ room_1.cells ∧ ks + rm.slots ≤ room_1.slots) (hF2 : rm2.frames + 1 ≤ room_1.frames ∧ 8 + (4 + 11) + rm2.locals ≤ room_1.locals) (hR2 : kc + rm.cells + rm2.cells ≤ room_1.cells ∧ ks + rm.slots + rm2.slots ≤ room_1.slots) (k : ∀ u : Nat → Nat, u 0 = q 0 → wLJ p l e s m b below meth c (wLI D ca A s sp1 u μ1 qm μm1) (kc + rm.cells + rm2.cells) (ks + rm.slots + rm2.slots) 1813 (wLv b (q 0) (qm 0) (nI i)) []) : wLJ p l e s m b below meth c (wLI D ca A s sp q μ qm μm) kc ks 1209 (wLv b (q 0) (qm 0) (nI i)) [] := by
  refine wl_aload_n 1209 K dL_law_1209 2 rfl rfl ?_
  refine wl_arg (j := 1) 1210 K hX.1 hX.2.1 hX.2.2.1 hX.2.2.2 (by omega) rfl dL_law_1210 dL_law_1211 dL_law_1212 dL_law_1213 dL_law_1214 ?_
  refine wl_arg (j := 2) 1215 K hX.1 hX.2.1 hX.2.2.1 hX.2.2.2 (by omega) rfl dL_law_1215 dL_law_1216 dL_law_1217 dL_law_1218 dL_law_1219 ?_
  refine wl_Xi (As := [.int (xs (i + 1)), .int (xs (i + 2))]) 1220 [] K dL_law_1220 hM okX0_sure q1138 hs rfl hF1 hR1 (Nat.le_of_ble_eq_true rfl) rfl ?_
  intro u hu0
  rw [← hu0]
  refine wl_aload_n 1223 K dL_law_1223 1 rfl rfl ?_
  refine wl_arg (j := 1) 1224 K hX.1 hX.2.1 hX.2.2.1 hX.2.2.2 (by omega) rfl dL_law_1224 dL_law_1225 dL_law_1226 dL_law_1227 dL_law_1228 ?_
  refine wl_arg (j := 2) 1229 K hX.1 hX.2.1 hX.2.2.1 hX.2.2.2 (by omega) rfl dL_law_1229 dL_law_1230 dL_law_1231 dL_law_1232 dL_law_1233 ?_
  refine wl_Mi (As := [.int (xs (i + 1)), .int (xs (i + 2))]) 1234 [.int v] K dL_law_1234 hM2 okX6_sure q2022 spM_00 rfl hF2 hR2 (Nat.le_of_ble_eq_true rfl) rfl ?_
  refine wl_icmp_eq (tgt := 1813) 1237 K dL_law_1237 (by decide) ?_
  rw [hu0]
  exact k u hu0
theorem wl_c42 {p : Program} {l : Launch} {e : Env} {s : State} {m : MethodId} {below : List Frame} {meth : Method} {c : Code} {b : Nat} {D : va_G} {ca : wCA} {A : Nat → Prop} {Z : (Nat → Prop) → State → Heap → Prop} {kc ks : Nat} {sp : List wCell} {q qm : Nat → Nat} {μ μm : wMem} {L i : Nat} {xs : Nat → Int32} {sp1 : List wCell} {μ1 μm1 : wMem} {v : Int32} {rm rm2 : Room} {fs : List (Nat × Nat)} (K : wLc p s m meth c b D ca A Z) (hX : wLs b L xs s A) (hi : i + 5 < L) (hM : wXi Z l yX0_dared (ws_ yX0_dared cX0_dared 5 (some .int)) rm D vwCl sp sp1 q ca [.ref (q 0), .int (xs (i + 1))] μ μ1 v) (hM2 : wMi l yX6_dared cX6_dared 3 (some .int) rm2 D vwCl spM qm ca [.ref (qm 0), .int (xs (i + 1))] μm (v, μm1)) (hs : sp[0]? = some (.inl (0, fs))) (hF1 : rm.frames + 1 ≤ room_1.frames ∧ 8 + (5 + 11) + rm.locals ≤ room_1.locals) (hR1 : kc + rm.cells ≤ room_1.cells ∧ ks + rm.slots ≤ room_1.slots) (hF2 : rm2.frames + 1 ≤ room_1.frames ∧ 8 + (3 + 11) + rm2.locals ≤ room_1.locals) (hR2 : kc + rm.cells + rm2.cells ≤ room_1.cells ∧ ks + rm.slots + rm2.slots ≤ room_1.slots) (k : ∀ u : Nat → Nat, u 0 = q 0 → wLJ p l e s m b below meth c (wLI D ca A s sp1 u μ1 qm μm1) (kc + rm.cells + rm2.cells) (ks + rm.slots + rm2.slots) 1813 (wLv b (q 0) (qm 0) (nI i)) []) : wLJ p l e s m b below meth c (wLI D ca A s sp q μ qm μm) kc ks 1242 (wLv b (q 0) (qm 0) (nI i)) [] := by
  refine wl_aload_n 1242 K dL_law_1242 2 rfl rfl ?_
  refine wl_arg (j := 1) 1243 K hX.1 hX.2.1 hX.2.2.1 hX.2.2.2 (by omega) rfl dL_law_1243 dL_law_1244 dL_law_1245 dL_law_1246 dL_law_1247 ?_
  refine wl_Xi (As := [.int (xs (i + 1))]) 1248 [] K dL_law_1248 hM okX0_dared q1142 hs rfl hF1 hR1 (Nat.le_of_ble_eq_true rfl) rfl ?_
  intro u hu0
  rw [← hu0]
  refine wl_aload_n 1251 K dL_law_1251 1 rfl rfl ?_
  refine wl_arg (j := 1) 1252 K hX.1 hX.2.1 hX.2.2.1 hX.2.2.2 (by omega) rfl dL_law_1252 dL_law_1253 dL_law_1254 dL_law_1255 dL_law_1256 ?_
  refine wl_Mi (As := [.int (xs (i + 1))]) 1257 [.int v] K dL_law_1257 hM2 okX6_dared q2026 spM_00 rfl hF2 hR2 (Nat.le_of_ble_eq_true rfl) rfl ?_
  refine wl_icmp_eq (tgt := 1813) 1260 K dL_law_1260 (by decide) ?_
  rw [hu0]
  exact k u hu0
theorem wl_c43 {p : Program} {l : Launch} {e : Env} {s : State} {m : MethodId} {below : List Frame} {meth : Method} {c : Code} {b : Nat} {D : va_G} {ca : wCA} {A : Nat → Prop} {Z : (Nat → Prop) → State → Heap → Prop} {kc ks : Nat} {sp : List wCell} {q qm : Nat → Nat} {μ μm : wMem} {L i : Nat} {xs : Nat → Int32} {sp1 : List wCell} {μ1 μm1 : wMem} {v : Int32} {rm rm2 : Room} {fs : List (Nat × Nat)} (K : wLc p s m meth c b D ca A Z) (hX : wLs b L xs s A) (hi : i + 5 < L) (hM : wXi Z l yX0_alone (ws_ yX0_alone cX0_alone 3 (some .int)) rm D vwCl sp sp1 q ca [.ref (q 0), .int (xs (i + 1)), .int (xs (i + 2))] μ μ1 v) (hM2 : wMi l yX6_alone cX6_alone 3 (some .int) rm2 D vwCl spM qm ca [.ref (qm 0), .int (xs (i + 1)), .int (xs (i + 2))] μm (v, μm1)) (hs : sp[0]? = some (.inl (0, fs))) (hF1 : rm.frames + 1 ≤ room_1.frames ∧ 8 + (3 + 11) + rm.locals ≤ room_1.locals) (hR1 : kc + rm.cells ≤ room_1.cells ∧ ks + rm.slots ≤ room_1.slots) (hF2 : rm2.frames + 1 ≤ room_1.frames ∧ 8 + (3 + 11) + rm2.locals ≤ room_1.locals) (hR2 : kc + rm.cells + rm2.cells ≤ room_1.cells ∧ ks + rm.slots + rm2.slots ≤ room_1.slots) (k : ∀ u : Nat → Nat, u 0 = q 0 → wLJ p l e s m b below meth c (wLI D ca A s sp1 u μ1 qm μm1) (kc + rm.cells + rm2.cells) (ks + rm.slots + rm2.slots) 1813 (wLv b (q 0) (qm 0) (nI i)) []) : wLJ p l e s m b below meth c (wLI D ca A s sp q μ qm μm) kc ks 1265 (wLv b (q 0) (qm 0) (nI i)) [] := by
  refine wl_aload_n 1265 K dL_law_1265 2 rfl rfl ?_
  refine wl_arg (j := 1) 1266 K hX.1 hX.2.1 hX.2.2.1 hX.2.2.2 (by omega) rfl dL_law_1266 dL_law_1267 dL_law_1268 dL_law_1269 dL_law_1270 ?_
  refine wl_arg (j := 2) 1271 K hX.1 hX.2.1 hX.2.2.1 hX.2.2.2 (by omega) rfl dL_law_1271 dL_law_1272 dL_law_1273 dL_law_1274 dL_law_1275 ?_
  refine wl_Xi (As := [.int (xs (i + 1)), .int (xs (i + 2))]) 1276 [] K dL_law_1276 hM okX0_alone q1146 hs rfl hF1 hR1 (Nat.le_of_ble_eq_true rfl) rfl ?_
  intro u hu0
  rw [← hu0]
  refine wl_aload_n 1279 K dL_law_1279 1 rfl rfl ?_
  refine wl_arg (j := 1) 1280 K hX.1 hX.2.1 hX.2.2.1 hX.2.2.2 (by omega) rfl dL_law_1280 dL_law_1281 dL_law_1282 dL_law_1283 dL_law_1284 ?_
  refine wl_arg (j := 2) 1285 K hX.1 hX.2.1 hX.2.2.1 hX.2.2.2 (by omega) rfl dL_law_1285 dL_law_1286 dL_law_1287 dL_law_1288 dL_law_1289 ?_
  refine wl_Mi (As := [.int (xs (i + 1)), .int (xs (i + 2))]) 1290 [.int v] K dL_law_1290 hM2 okX6_alone q2030 spM_00 rfl hF2 hR2 (Nat.le_of_ble_eq_true rfl) rfl ?_
  refine wl_icmp_eq (tgt := 1813) 1293 K dL_law_1293 (by decide) ?_
  rw [hu0]
  exact k u hu0
theorem wl_c44 {p : Program} {l : Launch} {e : Env} {s : State} {m : MethodId} {below : List Frame} {meth : Method} {c : Code} {b : Nat} {D : va_G} {ca : wCA} {A : Nat → Prop} {Z : (Nat → Prop) → State → Heap → Prop} {kc ks : Nat} {sp : List wCell} {q qm : Nat → Nat} {μ μm : wMem} {L i : Nat} {xs : Nat → Int32} {sp1 : List wCell} {μ1 μm1 : wMem} {v : Int32} {rm rm2 : Room} {fs : List (Nat × Nat)} (K : wLc p s m meth c b D ca A Z) (hX : wLs b L xs s A) (hi : i + 5 < L) (hM : wXi Z l yX0_worth (ws_ yX0_worth cX0_worth 3 (some .int)) rm D vwCl sp sp1 q ca [.ref (q 0), .int (xs (i + 1)), .int (xs (i + 2))] μ μ1 v) (hM2 : wMi l yX6_worth cX6_worth 4 (some .int) rm2 D vwCl spM qm ca [.ref (qm 0), .int (xs (i + 1)), .int (xs (i + 2))] μm (v, μm1)) (hs : sp[0]? = some (.inl (0, fs))) (hF1 : rm.frames + 1 ≤ room_1.frames ∧ 8 + (3 + 11) + rm.locals ≤ room_1.locals) (hR1 : kc + rm.cells ≤ room_1.cells ∧ ks + rm.slots ≤ room_1.slots) (hF2 : rm2.frames + 1 ≤ room_1.frames ∧ 8 + (4 + 11) + rm2.locals ≤ room_1.locals) (hR2 : kc + rm.cells + rm2.cells ≤ room_1.cells ∧ ks + rm.slots + rm2.slots ≤ room_1.slots) (k : ∀ u : Nat → Nat, u 0 = q 0 → wLJ p l e s m b below meth c (wLI D ca A s sp1 u μ1 qm μm1) (kc + rm.cells + rm2.cells) (ks + rm.slots + rm2.slots) 1813 (wLv b (q 0) (qm 0) (nI i)) []) : wLJ p l e s m b below meth c (wLI D ca A s sp q μ qm μm) kc ks 1298 (wLv b (q 0) (qm 0) (nI i)) [] := by
  refine wl_aload_n 1298 K dL_law_1298 2 rfl rfl ?_
  refine wl_arg (j := 1) 1299 K hX.1 hX.2.1 hX.2.2.1 hX.2.2.2 (by omega) rfl dL_law_1299 dL_law_1300 dL_law_1301 dL_law_1302 dL_law_1303 ?_
  refine wl_arg (j := 2) 1304 K hX.1 hX.2.1 hX.2.2.1 hX.2.2.2 (by omega) rfl dL_law_1304 dL_law_1305 dL_law_1306 dL_law_1307 dL_law_1308 ?_
  refine wl_Xi (As := [.int (xs (i + 1)), .int (xs (i + 2))]) 1309 [] K dL_law_1309 hM okX0_worth q1151 hs rfl hF1 hR1 (Nat.le_of_ble_eq_true rfl) rfl ?_
  intro u hu0
  rw [← hu0]
  refine wl_aload_n 1312 K dL_law_1312 1 rfl rfl ?_
  refine wl_arg (j := 1) 1313 K hX.1 hX.2.1 hX.2.2.1 hX.2.2.2 (by omega) rfl dL_law_1313 dL_law_1314 dL_law_1315 dL_law_1316 dL_law_1317 ?_
  refine wl_arg (j := 2) 1318 K hX.1 hX.2.1 hX.2.2.1 hX.2.2.2 (by omega) rfl dL_law_1318 dL_law_1319 dL_law_1320 dL_law_1321 dL_law_1322 ?_
  refine wl_Mi (As := [.int (xs (i + 1)), .int (xs (i + 2))]) 1323 [.int v] K dL_law_1323 hM2 okX6_worth q2035 spM_00 rfl hF2 hR2 (Nat.le_of_ble_eq_true rfl) rfl ?_
  refine wl_icmp_eq (tgt := 1813) 1326 K dL_law_1326 (by decide) ?_
  rw [hu0]
  exact k u hu0
theorem wl_c45 {p : Program} {l : Launch} {e : Env} {s : State} {m : MethodId} {below : List Frame} {meth : Method} {c : Code} {b : Nat} {D : va_G} {ca : wCA} {A : Nat → Prop} {Z : (Nat → Prop) → State → Heap → Prop} {kc ks : Nat} {sp : List wCell} {q qm : Nat → Nat} {μ μm : wMem} {L i : Nat} {xs : Nat → Int32} {sp1 : List wCell} {μ1 μm1 : wMem} {v : Int32} {rm rm2 : Room} {fs : List (Nat × Nat)} (K : wLc p s m meth c b D ca A Z) (hX : wLs b L xs s A) (hi : i + 5 < L) (hM : wXi Z l yX0_whom (ws_ yX0_whom cX0_whom 6 (some .int)) rm D vwCl sp sp1 q ca [.ref (q 0), .int (xs (i + 1))] μ μ1 v) (hM2 : wMi l yX6_whom cX6_whom 7 (some .int) rm2 D vwCl spM qm ca [.ref (qm 0), .int (xs (i + 1))] μm (v, μm1)) (hs : sp[0]? = some (.inl (0, fs))) (hF1 : rm.frames + 1 ≤ room_1.frames ∧ 8 + (6 + 11) + rm.locals ≤ room_1.locals) (hR1 : kc + rm.cells ≤ room_1.cells ∧ ks + rm.slots ≤ room_1.slots) (hF2 : rm2.frames + 1 ≤ room_1.frames ∧ 8 + (7 + 11) + rm2.locals ≤ room_1.locals) (hR2 : kc + rm.cells + rm2.cells ≤ room_1.cells ∧ ks + rm.slots + rm2.slots ≤ room_1.slots) (k : ∀ u : Nat → Nat, u 0 = q 0 → wLJ p l e s m b below meth c (wLI D ca A s sp1 u μ1 qm μm1) (kc + rm.cells + rm2.cells) (ks + rm.slots + rm2.slots) 1813 (wLv b (q 0) (qm 0) (nI i)) []) : wLJ p l e s m b below meth c (wLI D ca A s sp q μ qm μm) kc ks 1331 (wLv b (q 0) (qm 0) (nI i)) [] := by
  refine wl_aload_n 1331 K dL_law_1331 2 rfl rfl ?_
  refine wl_arg (j := 1) 1332 K hX.1 hX.2.1 hX.2.2.1 hX.2.2.2 (by omega) rfl dL_law_1332 dL_law_1333 dL_law_1334 dL_law_1335 dL_law_1336 ?_
  refine wl_Xi (As := [.int (xs (i + 1))]) 1337 [] K dL_law_1337 hM okX0_whom q1159 hs rfl hF1 hR1 (Nat.le_of_ble_eq_true rfl) rfl ?_
  intro u hu0
  rw [← hu0]
  refine wl_aload_n 1340 K dL_law_1340 1 rfl rfl ?_
  refine wl_arg (j := 1) 1341 K hX.1 hX.2.1 hX.2.2.1 hX.2.2.2 (by omega) rfl dL_law_1341 dL_law_1342 dL_law_1343 dL_law_1344 dL_law_1345 ?_
  refine wl_Mi (As := [.int (xs (i + 1))]) 1346 [.int v] K dL_law_1346 hM2 okX6_whom q2043 spM_00 rfl hF2 hR2 (Nat.le_of_ble_eq_true rfl) rfl ?_
  refine wl_icmp_eq (tgt := 1813) 1349 K dL_law_1349 (by decide) ?_
  rw [hu0]
  exact k u hu0
theorem wl_c46 {p : Program} {l : Launch} {e : Env} {s : State} {m : MethodId} {below : List Frame} {meth : Method} {c : Code} {b : Nat} {D : va_G} {ca : wCA} {A : Nat → Prop} {Z : (Nat → Prop) → State → Heap → Prop} {kc ks : Nat} {sp : List wCell} {q qm : Nat → Nat} {μ μm : wMem} {L i : Nat} {xs : Nat → Int32} {sp1 : List wCell} {μ1 μm1 : wMem} {v : Int32} {rm rm2 : Room} {fs : List (Nat × Nat)} (K : wLc p s m meth c b D ca A Z) (hX : wLs b L xs s A) (hi : i + 5 < L) (hM : wXi Z l yX0_blur (ws_ yX0_blur cX0_blur 5 (some .int)) rm D vwCl sp sp1 q ca [.ref (q 0), .int (xs (i + 1))] μ μ1 v) (hM2 : wMi l yX6_blur cX6_blur 5 (some .int) rm2 D vwCl spM qm ca [.ref (qm 0), .int (xs (i + 1))] μm (v, μm1)) (hs : sp[0]? = some (.inl (0, fs))) (hF1 : rm.frames + 1 ≤ room_1.frames ∧ 8 + (5 + 11) + rm.locals ≤ room_1.locals) (hR1 : kc + rm.cells ≤ room_1.cells ∧ ks + rm.slots ≤ room_1.slots) (hF2 : rm2.frames + 1 ≤ room_1.frames ∧ 8 + (5 + 11) + rm2.locals ≤ room_1.locals) (hR2 : kc + rm.cells + rm2.cells ≤ room_1.cells ∧ ks + rm.slots + rm2.slots ≤ room_1.slots) (k : ∀ u : Nat → Nat, u 0 = q 0 → wLJ p l e s m b below meth c (wLI D ca A s sp1 u μ1 qm μm1) (kc + rm.cells + rm2.cells) (ks + rm.slots + rm2.slots) 1813 (wLv b (q 0) (qm 0) (nI i)) []) : wLJ p l e s m b below meth c (wLI D ca A s sp q μ qm μm) kc ks 1354 (wLv b (q 0) (qm 0) (nI i)) [] := by
  refine wl_aload_n 1354 K dL_law_1354 2 rfl rfl ?_
  refine wl_arg (j := 1) 1355 K hX.1 hX.2.1 hX.2.2.1 hX.2.2.2 (by omega) rfl dL_law_1355 dL_law_1356 dL_law_1357 dL_law_1358 dL_law_1359 ?_
  refine wl_Xi (As := [.int (xs (i + 1))]) 1360 [] K dL_law_1360 hM okX0_blur q1163 hs rfl hF1 hR1 (Nat.le_of_ble_eq_true rfl) rfl ?_
  intro u hu0
  rw [← hu0]
  refine wl_aload_n 1363 K dL_law_1363 1 rfl rfl ?_
  refine wl_arg (j := 1) 1364 K hX.1 hX.2.1 hX.2.2.1 hX.2.2.2 (by omega) rfl dL_law_1364 dL_law_1365 dL_law_1366 dL_law_1367 dL_law_1368 ?_
  refine wl_Mi (As := [.int (xs (i + 1))]) 1369 [.int v] K dL_law_1369 hM2 okX6_blur q2047 spM_00 rfl hF2 hR2 (Nat.le_of_ble_eq_true rfl) rfl ?_
  refine wl_icmp_eq (tgt := 1813) 1372 K dL_law_1372 (by decide) ?_
  rw [hu0]
  exact k u hu0
theorem wl_c47 {p : Program} {l : Launch} {e : Env} {s : State} {m : MethodId} {below : List Frame} {meth : Method} {c : Code} {b : Nat} {D : va_G} {ca : wCA} {A : Nat → Prop} {Z : (Nat → Prop) → State → Heap → Prop} {kc ks : Nat} {sp : List wCell} {q qm : Nat → Nat} {μ μm : wMem} {L i : Nat} {xs : Nat → Int32} {sp1 : List wCell} {μ1 μm1 : wMem} {v : Int32} {rm rm2 : Room} {fs : List (Nat × Nat)} (K : wLc p s m meth c b D ca A Z) (hX : wLs b L xs s A) (hi : i + 5 < L) (hM : wXi Z l yX0_looks (ws_ yX0_looks cX0_looks 5 (some .int)) rm D vwCl sp sp1 q ca [.ref (q 0), .int (xs (i + 1))] μ μ1 v) (hM2 : wMi l yX6_looks cX6_looks 5 (some .int) rm2 D vwCl spM qm ca [.ref (qm 0), .int (xs (i + 1))] μm (v, μm1)) (hs : sp[0]? = some (.inl (0, fs))) (hF1 : rm.frames + 1 ≤ room_1.frames ∧ 8 + (5 + 11) + rm.locals ≤ room_1.locals) (hR1 : kc + rm.cells ≤ room_1.cells ∧ ks + rm.slots ≤ room_1.slots) (hF2 : rm2.frames + 1 ≤ room_1.frames ∧ 8 + (5 + 11) + rm2.locals ≤ room_1.locals) (hR2 : kc + rm.cells + rm2.cells ≤ room_1.cells ∧ ks + rm.slots + rm2.slots ≤ room_1.slots) (k : ∀ u : Nat → Nat, u 0 = q 0 → wLJ p l e s m b below meth c (wLI D ca A s sp1 u μ1 qm μm1) (kc + rm.cells + rm2.cells) (ks + rm.slots + rm2.slots) 1813 (wLv b (q 0) (qm 0) (nI i)) []) : wLJ p l e s m b below meth c (wLI D ca A s sp q μ qm μm) kc ks 1377 (wLv b (q 0) (qm 0) (nI i)) [] := by
  refine wl_aload_n 1377 K dL_law_1377 2 rfl rfl ?_
  refine wl_arg (j := 1) 1378 K hX.1 hX.2.1 hX.2.2.1 hX.2.2.2 (by omega) rfl dL_law_1378 dL_law_1379 dL_law_1380 dL_law_1381 dL_law_1382 ?_
  refine wl_Xi (As := [.int (xs (i + 1))]) 1383 [] K dL_law_1383 hM okX0_looks q1167 hs rfl hF1 hR1 (Nat.le_of_ble_eq_true rfl) rfl ?_
  intro u hu0
  rw [← hu0]
  refine wl_aload_n 1386 K dL_law_1386 1 rfl rfl ?_
  refine wl_arg (j := 1) 1387 K hX.1 hX.2.1 hX.2.2.1 hX.2.2.2 (by omega) rfl dL_law_1387 dL_law_1388 dL_law_1389 dL_law_1390 dL_law_1391 ?_
  refine wl_Mi (As := [.int (xs (i + 1))]) 1392 [.int v] K dL_law_1392 hM2 okX6_looks q2055 spM_00 rfl hF2 hR2 (Nat.le_of_ble_eq_true rfl) rfl ?_
  refine wl_icmp_eq (tgt := 1813) 1395 K dL_law_1395 (by decide) ?_
  rw [hu0]
  exact k u hu0
theorem wl_c48 {p : Program} {l : Launch} {e : Env} {s : State} {m : MethodId} {below : List Frame} {meth : Method} {c : Code} {b : Nat} {D : va_G} {ca : wCA} {A : Nat → Prop} {Z : (Nat → Prop) → State → Heap → Prop} {kc ks : Nat} {sp : List wCell} {q qm : Nat → Nat} {μ μm : wMem} {L i : Nat} {xs : Nat → Int32} {sp1 : List wCell} {μ1 μm1 : wMem} {v : Int32} {rm rm2 : Room} {fs : List (Nat × Nat)} (K : wLc p s m meth c b D ca A Z) (hX : wLs b L xs s A) (hi : i + 5 < L) (hM : wXi Z l yX0_drawn (ws_ yX0_drawn cX0_drawn 3 (some .int)) rm D vwCl sp sp1 q ca [.ref (q 0), .int (xs (i + 1)), .int (xs (i + 2))] μ μ1 v) (hM2 : wMi l yX6_drawn cX6_drawn 4 (some .int) rm2 D vwCl spM qm ca [.ref (qm 0), .int (xs (i + 1)), .int (xs (i + 2))] μm (v, μm1)) (hs : sp[0]? = some (.inl (0, fs))) (hF1 : rm.frames + 1 ≤ room_1.frames ∧ 8 + (3 + 11) + rm.locals ≤ room_1.locals) (hR1 : kc + rm.cells ≤ room_1.cells ∧ ks + rm.slots ≤ room_1.slots) (hF2 : rm2.frames + 1 ≤ room_1.frames ∧ 8 + (4 + 11) + rm2.locals ≤ room_1.locals) (hR2 : kc + rm.cells + rm2.cells ≤ room_1.cells ∧ ks + rm.slots + rm2.slots ≤ room_1.slots) (k : ∀ u : Nat → Nat, u 0 = q 0 → wLJ p l e s m b below meth c (wLI D ca A s sp1 u μ1 qm μm1) (kc + rm.cells + rm2.cells) (ks + rm.slots + rm2.slots) 1813 (wLv b (q 0) (qm 0) (nI i)) []) : wLJ p l e s m b below meth c (wLI D ca A s sp q μ qm μm) kc ks 1400 (wLv b (q 0) (qm 0) (nI i)) [] := by
  refine wl_aload_n 1400 K dL_law_1400 2 rfl rfl ?_
  refine wl_arg (j := 1) 1401 K hX.1 hX.2.1 hX.2.2.1 hX.2.2.2 (by omega) rfl dL_law_1401 dL_law_1402 dL_law_1403 dL_law_1404 dL_law_1405 ?_
  refine wl_arg (j := 2) 1406 K hX.1 hX.2.1 hX.2.2.1 hX.2.2.2 (by omega) rfl dL_law_1406 dL_law_1407 dL_law_1408 dL_law_1409 dL_law_1410 ?_
  refine wl_Xi (As := [.int (xs (i + 1)), .int (xs (i + 2))]) 1411 [] K dL_law_1411 hM okX0_drawn q1171 hs rfl hF1 hR1 (Nat.le_of_ble_eq_true rfl) rfl ?_
  intro u hu0
  rw [← hu0]
  refine wl_aload_n 1414 K dL_law_1414 1 rfl rfl ?_
  refine wl_arg (j := 1) 1415 K hX.1 hX.2.1 hX.2.2.1 hX.2.2.2 (by omega) rfl dL_law_1415 dL_law_1416 dL_law_1417 dL_law_1418 dL_law_1419 ?_
  refine wl_arg (j := 2) 1420 K hX.1 hX.2.1 hX.2.2.1 hX.2.2.2 (by omega) rfl dL_law_1420 dL_law_1421 dL_law_1422 dL_law_1423 dL_law_1424 ?_
  refine wl_Mi (As := [.int (xs (i + 1)), .int (xs (i + 2))]) 1425 [.int v] K dL_law_1425 hM2 okX6_drawn q2059 spM_00 rfl hF2 hR2 (Nat.le_of_ble_eq_true rfl) rfl ?_
  refine wl_icmp_eq (tgt := 1813) 1428 K dL_law_1428 (by decide) ?_
  rw [hu0]
  exact k u hu0
theorem wl_c49 {p : Program} {l : Launch} {e : Env} {s : State} {m : MethodId} {below : List Frame} {meth : Method} {c : Code} {b : Nat} {D : va_G} {ca : wCA} {A : Nat → Prop} {Z : (Nat → Prop) → State → Heap → Prop} {kc ks : Nat} {sp : List wCell} {q qm : Nat → Nat} {μ μm : wMem} {L i : Nat} {xs : Nat → Int32} {sp1 : List wCell} {μ1 μm1 : wMem} {v : Int32} {rm rm2 : Room} {fs : List (Nat × Nat)} (K : wLc p s m meth c b D ca A Z) (hX : wLs b L xs s A) (hi : i + 5 < L) (hM : wXi Z l yX0_luck (ws_ yX0_luck cX0_luck 5 (some .int)) rm D vwCl sp sp1 q ca [.ref (q 0), .int (xs (i + 1)), .int (xs (i + 2))] μ μ1 v) (hM2 : wMi l yX6_luck cX6_luck 5 (some .int) rm2 D vwCl spM qm ca [.ref (qm 0), .int (xs (i + 1)), .int (xs (i + 2))] μm (v, μm1)) (hs : sp[0]? = some (.inl (0, fs))) (hF1 : rm.frames + 1 ≤ room_1.frames ∧ 8 + (5 + 11) + rm.locals ≤ room_1.locals) (hR1 : kc + rm.cells ≤ room_1.cells ∧ ks + rm.slots ≤ room_1.slots) (hF2 : rm2.frames + 1 ≤ room_1.frames ∧ 8 + (5 + 11) + rm2.locals ≤ room_1.locals) (hR2 : kc + rm.cells + rm2.cells ≤ room_1.cells ∧ ks + rm.slots + rm2.slots ≤ room_1.slots) (k : ∀ u : Nat → Nat, u 0 = q 0 → wLJ p l e s m b below meth c (wLI D ca A s sp1 u μ1 qm μm1) (kc + rm.cells + rm2.cells) (ks + rm.slots + rm2.slots) 1813 (wLv b (q 0) (qm 0) (nI i)) []) : wLJ p l e s m b below meth c (wLI D ca A s sp q μ qm μm) kc ks 1433 (wLv b (q 0) (qm 0) (nI i)) [] := by
  refine wl_aload_n 1433 K dL_law_1433 2 rfl rfl ?_
  refine wl_arg (j := 1) 1434 K hX.1 hX.2.1 hX.2.2.1 hX.2.2.2 (by omega) rfl dL_law_1434 dL_law_1435 dL_law_1436 dL_law_1437 dL_law_1438 ?_
  refine wl_arg (j := 2) 1439 K hX.1 hX.2.1 hX.2.2.1 hX.2.2.2 (by omega) rfl dL_law_1439 dL_law_1440 dL_law_1441 dL_law_1442 dL_law_1443 ?_
  refine wl_Xi (As := [.int (xs (i + 1)), .int (xs (i + 2))]) 1444 [] K dL_law_1444 hM okX0_luck q1187 hs rfl hF1 hR1 (Nat.le_of_ble_eq_true rfl) rfl ?_
  intro u hu0
  rw [← hu0]
  refine wl_aload_n 1447 K dL_law_1447 1 rfl rfl ?_
  refine wl_arg (j := 1) 1448 K hX.1 hX.2.1 hX.2.2.1 hX.2.2.2 (by omega) rfl dL_law_1448 dL_law_1449 dL_law_1450 dL_law_1451 dL_law_1452 ?_
  refine wl_arg (j := 2) 1453 K hX.1 hX.2.1 hX.2.2.1 hX.2.2.2 (by omega) rfl dL_law_1453 dL_law_1454 dL_law_1455 dL_law_1456 dL_law_1457 ?_
  refine wl_Mi (As := [.int (xs (i + 1)), .int (xs (i + 2))]) 1458 [.int v] K dL_law_1458 hM2 okX6_luck q2072 spM_00 rfl hF2 hR2 (Nat.le_of_ble_eq_true rfl) rfl ?_
  refine wl_icmp_eq (tgt := 1813) 1461 K dL_law_1461 (by decide) ?_
  rw [hu0]
  exact k u hu0
theorem wl_c50 {p : Program} {l : Launch} {e : Env} {s : State} {m : MethodId} {below : List Frame} {meth : Method} {c : Code} {b : Nat} {D : va_G} {ca : wCA} {A : Nat → Prop} {Z : (Nat → Prop) → State → Heap → Prop} {kc ks : Nat} {sp : List wCell} {q qm : Nat → Nat} {μ μm : wMem} {L i : Nat} {xs : Nat → Int32} {sp1 : List wCell} {μ1 μm1 : wMem} {v : Int32} {rm rm2 : Room} {fs : List (Nat × Nat)} (K : wLc p s m meth c b D ca A Z) (hX : wLs b L xs s A) (hi : i + 5 < L) (hM : wXi Z l yX0_grow (ws_ yX0_grow cX0_grow 4 (some .int)) rm D vwCl sp sp1 q ca [.ref (q 0), .int (xs (i + 1)), .int (xs (i + 2))] μ μ1 v) (hM2 : wMi l yX6_grow cX6_grow 4 (some .int) rm2 D vwCl spM qm ca [.ref (qm 0), .int (xs (i + 1)), .int (xs (i + 2))] μm (v, μm1)) (hs : sp[0]? = some (.inl (0, fs))) (hF1 : rm.frames + 1 ≤ room_1.frames ∧ 8 + (4 + 11) + rm.locals ≤ room_1.locals) (hR1 : kc + rm.cells ≤ room_1.cells ∧ ks + rm.slots ≤ room_1.slots) (hF2 : rm2.frames + 1 ≤ room_1.frames ∧ 8 + (4 + 11) + rm2.locals ≤ room_1.locals) (hR2 : kc + rm.cells + rm2.cells ≤ room_1.cells ∧ ks + rm.slots + rm2.slots ≤ room_1.slots) (k : ∀ u : Nat → Nat, u 0 = q 0 → wLJ p l e s m b below meth c (wLI D ca A s sp1 u μ1 qm μm1) (kc + rm.cells + rm2.cells) (ks + rm.slots + rm2.slots) 1813 (wLv b (q 0) (qm 0) (nI i)) []) : wLJ p l e s m b below meth c (wLI D ca A s sp q μ qm μm) kc ks 1466 (wLv b (q 0) (qm 0) (nI i)) [] := by
  refine wl_aload_n 1466 K dL_law_1466 2 rfl rfl ?_
  refine wl_arg (j := 1) 1467 K hX.1 hX.2.1 hX.2.2.1 hX.2.2.2 (by omega) rfl dL_law_1467 dL_law_1468 dL_law_1469 dL_law_1470 dL_law_1471 ?_
  refine wl_arg (j := 2) 1472 K hX.1 hX.2.1 hX.2.2.1 hX.2.2.2 (by omega) rfl dL_law_1472 dL_law_1473 dL_law_1474 dL_law_1475 dL_law_1476 ?_
  refine wl_Xi (As := [.int (xs (i + 1)), .int (xs (i + 2))]) 1477 [] K dL_law_1477 hM okX0_grow q1192 hs rfl hF1 hR1 (Nat.le_of_ble_eq_true rfl) rfl ?_
  intro u hu0
  rw [← hu0]
  refine wl_aload_n 1480 K dL_law_1480 1 rfl rfl ?_
  refine wl_arg (j := 1) 1481 K hX.1 hX.2.1 hX.2.2.1 hX.2.2.2 (by omega) rfl dL_law_1481 dL_law_1482 dL_law_1483 dL_law_1484 dL_law_1485 ?_
  refine wl_arg (j := 2) 1486 K hX.1 hX.2.1 hX.2.2.1 hX.2.2.2 (by omega) rfl dL_law_1486 dL_law_1487 dL_law_1488 dL_law_1489 dL_law_1490 ?_
  refine wl_Mi (As := [.int (xs (i + 1)), .int (xs (i + 2))]) 1491 [.int v] K dL_law_1491 hM2 okX6_grow q2077 spM_00 rfl hF2 hR2 (Nat.le_of_ble_eq_true rfl) rfl ?_
  refine wl_icmp_eq (tgt := 1813) 1494 K dL_law_1494 (by decide) ?_
  rw [hu0]
  exact k u hu0
theorem wl_c51 {p : Program} {l : Launch} {e : Env} {s : State} {m : MethodId} {below : List Frame} {meth : Method} {c : Code} {b : Nat} {D : va_G} {ca : wCA} {A : Nat → Prop} {Z : (Nat → Prop) → State → Heap → Prop} {kc ks : Nat} {sp : List wCell} {q qm : Nat → Nat} {μ μm : wMem} {L i : Nat} {xs : Nat → Int32} {sp1 : List wCell} {μ1 μm1 : wMem} {v : Int32} {rm rm2 : Room} {fs : List (Nat × Nat)} (K : wLc p s m meth c b D ca A Z) (hX : wLs b L xs s A) (hi : i + 5 < L) (hM : wXi Z l yX0_guard (ws_ yX0_guard cX0_guard 4 (some .int)) rm D vwCl sp sp1 q ca [.ref (q 0), .int (xs (i + 1)), .int (xs (i + 2))] μ μ1 v) (hM2 : wMi l yX6_guard cX6_guard 4 (some .int) rm2 D vwCl spM qm ca [.ref (qm 0), .int (xs (i + 1)), .int (xs (i + 2))] μm (v, μm1)) (hs : sp[0]? = some (.inl (0, fs))) (hF1 : rm.frames + 1 ≤ room_1.frames ∧ 8 + (4 + 11) + rm.locals ≤ room_1.locals) (hR1 : kc + rm.cells ≤ room_1.cells ∧ ks + rm.slots ≤ room_1.slots) (hF2 : rm2.frames + 1 ≤ room_1.frames ∧ 8 + (4 + 11) + rm2.locals ≤ room_1.locals) (hR2 : kc + rm.cells + rm2.cells ≤ room_1.cells ∧ ks + rm.slots + rm2.slots ≤ room_1.slots) (k : ∀ u : Nat → Nat, u 0 = q 0 → wLJ p l e s m b below meth c (wLI D ca A s sp1 u μ1 qm μm1) (kc + rm.cells + rm2.cells) (ks + rm.slots + rm2.slots) 1813 (wLv b (q 0) (qm 0) (nI i)) []) : wLJ p l e s m b below meth c (wLI D ca A s sp q μ qm μm) kc ks 1499 (wLv b (q 0) (qm 0) (nI i)) [] := by
  refine wl_aload_n 1499 K dL_law_1499 2 rfl rfl ?_
  refine wl_arg (j := 1) 1500 K hX.1 hX.2.1 hX.2.2.1 hX.2.2.2 (by omega) rfl dL_law_1500 dL_law_1501 dL_law_1502 dL_law_1503 dL_law_1504 ?_
  refine wl_arg (j := 2) 1505 K hX.1 hX.2.1 hX.2.2.1 hX.2.2.2 (by omega) rfl dL_law_1505 dL_law_1506 dL_law_1507 dL_law_1508 dL_law_1509 ?_
  refine wl_Xi (As := [.int (xs (i + 1)), .int (xs (i + 2))]) 1510 [] K dL_law_1510 hM okX0_guard q1196 hs rfl hF1 hR1 (Nat.le_of_ble_eq_true rfl) rfl ?_
  intro u hu0
  rw [← hu0]
  refine wl_aload_n 1513 K dL_law_1513 1 rfl rfl ?_
  refine wl_arg (j := 1) 1514 K hX.1 hX.2.1 hX.2.2.1 hX.2.2.2 (by omega) rfl dL_law_1514 dL_law_1515 dL_law_1516 dL_law_1517 dL_law_1518 ?_
  refine wl_arg (j := 2) 1519 K hX.1 hX.2.1 hX.2.2.1 hX.2.2.2 (by omega) rfl dL_law_1519 dL_law_1520 dL_law_1521 dL_law_1522 dL_law_1523 ?_
  refine wl_Mi (As := [.int (xs (i + 1)), .int (xs (i + 2))]) 1524 [.int v] K dL_law_1524 hM2 okX6_guard q2081 spM_00 rfl hF2 hR2 (Nat.le_of_ble_eq_true rfl) rfl ?_
  refine wl_icmp_eq (tgt := 1813) 1527 K dL_law_1527 (by decide) ?_
  rw [hu0]
  exact k u hu0
theorem wl_c52 {p : Program} {l : Launch} {e : Env} {s : State} {m : MethodId} {below : List Frame} {meth : Method} {c : Code} {b : Nat} {D : va_G} {ca : wCA} {A : Nat → Prop} {Z : (Nat → Prop) → State → Heap → Prop} {kc ks : Nat} {sp : List wCell} {q qm : Nat → Nat} {μ μm : wMem} {L i : Nat} {xs : Nat → Int32} {sp1 : List wCell} {μ1 μm1 : wMem} {v : Int32} {rm rm2 : Room} {fs : List (Nat × Nat)} (K : wLc p s m meth c b D ca A Z) (hX : wLs b L xs s A) (hi : i + 5 < L) (hM : wXi Z l yX0_stay (ws_ yX0_stay cX0_stay 4 (some .int)) rm D vwCl sp sp1 q ca [.ref (q 0), .int (xs (i + 1)), .int (xs (i + 2))] μ μ1 v) (hM2 : wMi l yX6_stay cX6_stay 4 (some .int) rm2 D vwCl spM qm ca [.ref (qm 0), .int (xs (i + 1)), .int (xs (i + 2))] μm (v, μm1)) (hs : sp[0]? = some (.inl (0, fs))) (hF1 : rm.frames + 1 ≤ room_1.frames ∧ 8 + (4 + 11) + rm.locals ≤ room_1.locals) (hR1 : kc + rm.cells ≤ room_1.cells ∧ ks + rm.slots ≤ room_1.slots) (hF2 : rm2.frames + 1 ≤ room_1.frames ∧ 8 + (4 + 11) + rm2.locals ≤ room_1.locals) (hR2 : kc + rm.cells + rm2.cells ≤ room_1.cells ∧ ks + rm.slots + rm2.slots ≤ room_1.slots) (k : ∀ u : Nat → Nat, u 0 = q 0 → wLJ p l e s m b below meth c (wLI D ca A s sp1 u μ1 qm μm1) (kc + rm.cells + rm2.cells) (ks + rm.slots + rm2.slots) 1813 (wLv b (q 0) (qm 0) (nI i)) []) : wLJ p l e s m b below meth c (wLI D ca A s sp q μ qm μm) kc ks 1532 (wLv b (q 0) (qm 0) (nI i)) [] := by
  refine wl_aload_n 1532 K dL_law_1532 2 rfl rfl ?_
  refine wl_arg (j := 1) 1533 K hX.1 hX.2.1 hX.2.2.1 hX.2.2.2 (by omega) rfl dL_law_1533 dL_law_1534 dL_law_1535 dL_law_1536 dL_law_1537 ?_
  refine wl_arg (j := 2) 1538 K hX.1 hX.2.1 hX.2.2.1 hX.2.2.2 (by omega) rfl dL_law_1538 dL_law_1539 dL_law_1540 dL_law_1541 dL_law_1542 ?_
  refine wl_Xi (As := [.int (xs (i + 1)), .int (xs (i + 2))]) 1543 [] K dL_law_1543 hM okX0_stay q1200 hs rfl hF1 hR1 (Nat.le_of_ble_eq_true rfl) rfl ?_
  intro u hu0
  rw [← hu0]
  refine wl_aload_n 1546 K dL_law_1546 1 rfl rfl ?_
  refine wl_arg (j := 1) 1547 K hX.1 hX.2.1 hX.2.2.1 hX.2.2.2 (by omega) rfl dL_law_1547 dL_law_1548 dL_law_1549 dL_law_1550 dL_law_1551 ?_
  refine wl_arg (j := 2) 1552 K hX.1 hX.2.1 hX.2.2.1 hX.2.2.2 (by omega) rfl dL_law_1552 dL_law_1553 dL_law_1554 dL_law_1555 dL_law_1556 ?_
  refine wl_Mi (As := [.int (xs (i + 1)), .int (xs (i + 2))]) 1557 [.int v] K dL_law_1557 hM2 okX6_stay q2085 spM_00 rfl hF2 hR2 (Nat.le_of_ble_eq_true rfl) rfl ?_
  refine wl_icmp_eq (tgt := 1813) 1560 K dL_law_1560 (by decide) ?_
  rw [hu0]
  exact k u hu0
theorem wl_c53 {p : Program} {l : Launch} {e : Env} {s : State} {m : MethodId} {below : List Frame} {meth : Method} {c : Code} {b : Nat} {D : va_G} {ca : wCA} {A : Nat → Prop} {Z : (Nat → Prop) → State → Heap → Prop} {kc ks : Nat} {sp : List wCell} {q qm : Nat → Nat} {μ μm : wMem} {L i : Nat} {xs : Nat → Int32} {sp1 : List wCell} {μ1 μm1 : wMem} {v : Int32} {rm rm2 : Room} {fs : List (Nat × Nat)} (K : wLc p s m meth c b D ca A Z) (hX : wLs b L xs s A) (hi : i + 5 < L) (hM : wXi Z l yX0_count (ws_ yX0_count cX0_count 4 (some .int)) rm D vwCl sp sp1 q ca [.ref (q 0), .int (xs (i + 1))] μ μ1 v) (hM2 : wMi l yX6_count cX6_count 4 (some .int) rm2 D vwCl spM qm ca [.ref (qm 0), .int (xs (i + 1))] μm (v, μm1)) (hs : sp[0]? = some (.inl (0, fs))) (hF1 : rm.frames + 1 ≤ room_1.frames ∧ 8 + (4 + 11) + rm.locals ≤ room_1.locals) (hR1 : kc + rm.cells ≤ room_1.cells ∧ ks + rm.slots ≤ room_1.slots) (hF2 : rm2.frames + 1 ≤ room_1.frames ∧ 8 + (4 + 11) + rm2.locals ≤ room_1.locals) (hR2 : kc + rm.cells + rm2.cells ≤ room_1.cells ∧ ks + rm.slots + rm2.slots ≤ room_1.slots) (k : ∀ u : Nat → Nat, u 0 = q 0 → wLJ p l e s m b below meth c (wLI D ca A s sp1 u μ1 qm μm1) (kc + rm.cells + rm2.cells) (ks + rm.slots + rm2.slots) 1813 (wLv b (q 0) (qm 0) (nI i)) []) : wLJ p l e s m b below meth c (wLI D ca A s sp q μ qm μm) kc ks 1565 (wLv b (q 0) (qm 0) (nI i)) [] := by
  refine wl_aload_n 1565 K dL_law_1565 2 rfl rfl ?_
  refine wl_arg (j := 1) 1566 K hX.1 hX.2.1 hX.2.2.1 hX.2.2.2 (by omega) rfl dL_law_1566 dL_law_1567 dL_law_1568 dL_law_1569 dL_law_1570 ?_
  refine wl_Xi (As := [.int (xs (i + 1))]) 1571 [] K dL_law_1571 hM okX0_count q1204 hs rfl hF1 hR1 (Nat.le_of_ble_eq_true rfl) rfl ?_
  intro u hu0
  rw [← hu0]
  refine wl_aload_n 1574 K dL_law_1574 1 rfl rfl ?_
  refine wl_arg (j := 1) 1575 K hX.1 hX.2.1 hX.2.2.1 hX.2.2.2 (by omega) rfl dL_law_1575 dL_law_1576 dL_law_1577 dL_law_1578 dL_law_1579 ?_
  refine wl_Mi (As := [.int (xs (i + 1))]) 1580 [.int v] K dL_law_1580 hM2 okX6_count q2089 spM_00 rfl hF2 hR2 (Nat.le_of_ble_eq_true rfl) rfl ?_
  refine wl_icmp_eq (tgt := 1813) 1583 K dL_law_1583 (by decide) ?_
  rw [hu0]
  exact k u hu0
theorem wl_c54 {p : Program} {l : Launch} {e : Env} {s : State} {m : MethodId} {below : List Frame} {meth : Method} {c : Code} {b : Nat} {D : va_G} {ca : wCA} {A : Nat → Prop} {Z : (Nat → Prop) → State → Heap → Prop} {kc ks : Nat} {sp : List wCell} {q qm : Nat → Nat} {μ μm : wMem} {L i : Nat} {xs : Nat → Int32} {sp1 : List wCell} {μ1 μm1 : wMem} {v : Int32} {rm rm2 : Room} {fs : List (Nat × Nat)} (K : wLc p s m meth c b D ca A Z) (hX : wLs b L xs s A) (hi : i + 5 < L) (hM : wXi Z l yX0_image (ws_ yX0_image cX0_image 2 (some .int)) rm D vwCl sp sp1 q ca [.ref (q 0), .int (xs (i + 1))] μ μ1 v) (hM2 : wMi l yX6_image cX6_image 2 (some .int) rm2 D vwCl spM qm ca [.ref (qm 0), .int (xs (i + 1))] μm (v, μm1)) (hs : sp[0]? = some (.inl (0, fs))) (hF1 : rm.frames + 1 ≤ room_1.frames ∧ 8 + (2 + 11) + rm.locals ≤ room_1.locals) (hR1 : kc + rm.cells ≤ room_1.cells ∧ ks + rm.slots ≤ room_1.slots) (hF2 : rm2.frames + 1 ≤ room_1.frames ∧ 8 + (2 + 11) + rm2.locals ≤ room_1.locals) (hR2 : kc + rm.cells + rm2.cells ≤ room_1.cells ∧ ks + rm.slots + rm2.slots ≤ room_1.slots) (k : ∀ u : Nat → Nat, u 0 = q 0 → wLJ p l e s m b below meth c (wLI D ca A s sp1 u μ1 qm μm1) (kc + rm.cells + rm2.cells) (ks + rm.slots + rm2.slots) 1813 (wLv b (q 0) (qm 0) (nI i)) []) : wLJ p l e s m b below meth c (wLI D ca A s sp q μ qm μm) kc ks 1588 (wLv b (q 0) (qm 0) (nI i)) [] := by
  refine wl_aload_n 1588 K dL_law_1588 2 rfl rfl ?_
  refine wl_arg (j := 1) 1589 K hX.1 hX.2.1 hX.2.2.1 hX.2.2.2 (by omega) rfl dL_law_1589 dL_law_1590 dL_law_1591 dL_law_1592 dL_law_1593 ?_
  refine wl_Xi (As := [.int (xs (i + 1))]) 1594 [] K dL_law_1594 hM okX0_image q1208 hs rfl hF1 hR1 (Nat.le_of_ble_eq_true rfl) rfl ?_
  intro u hu0
  rw [← hu0]
  refine wl_aload_n 1597 K dL_law_1597 1 rfl rfl ?_
  refine wl_arg (j := 1) 1598 K hX.1 hX.2.1 hX.2.2.1 hX.2.2.2 (by omega) rfl dL_law_1598 dL_law_1599 dL_law_1600 dL_law_1601 dL_law_1602 ?_
  refine wl_Mi (As := [.int (xs (i + 1))]) 1603 [.int v] K dL_law_1603 hM2 okX6_image q2093 spM_00 rfl hF2 hR2 (Nat.le_of_ble_eq_true rfl) rfl ?_
  refine wl_icmp_eq (tgt := 1813) 1606 K dL_law_1606 (by decide) ?_
  rw [hu0]
  exact k u hu0
theorem wl_c55 {p : Program} {l : Launch} {e : Env} {s : State} {m : MethodId} {below : List Frame} {meth : Method} {c : Code} {b : Nat} {D : va_G} {ca : wCA} {A : Nat → Prop} {Z : (Nat → Prop) → State → Heap → Prop} {kc ks : Nat} {sp : List wCell} {q qm : Nat → Nat} {μ μm : wMem} {L i : Nat} {xs : Nat → Int32} {sp1 : List wCell} {μ1 μm1 : wMem} {v : Int32} {rm rm2 : Room} {fs : List (Nat × Nat)} (K : wLc p s m meth c b D ca A Z) (hX : wLs b L xs s A) (hi : i + 5 < L) (hM : wXi Z l yX0_back (ws_ yX0_back cX0_back 2 (some .int)) rm D vwCl sp sp1 q ca [.ref (q 0), .int (xs (i + 1))] μ μ1 v) (hM2 : wMi l yX6_back cX6_back 2 (some .int) rm2 D vwCl spM qm ca [.ref (qm 0), .int (xs (i + 1))] μm (v, μm1)) (hs : sp[0]? = some (.inl (0, fs))) (hF1 : rm.frames + 1 ≤ room_1.frames ∧ 8 + (2 + 11) + rm.locals ≤ room_1.locals) (hR1 : kc + rm.cells ≤ room_1.cells ∧ ks + rm.slots ≤ room_1.slots) (hF2 : rm2.frames + 1 ≤ room_1.frames ∧ 8 + (2 + 11) + rm2.locals ≤ room_1.locals) (hR2 : kc + rm.cells + rm2.cells ≤ room_1.cells ∧ ks + rm.slots + rm2.slots ≤ room_1.slots) (k : ∀ u : Nat → Nat, u 0 = q 0 → wLJ p l e s m b below meth c (wLI D ca A s sp1 u μ1 qm μm1) (kc + rm.cells + rm2.cells) (ks + rm.slots + rm2.slots) 1813 (wLv b (q 0) (qm 0) (nI i)) []) : wLJ p l e s m b below meth c (wLI D ca A s sp q μ qm μm) kc ks 1611 (wLv b (q 0) (qm 0) (nI i)) [] := by
  refine wl_aload_n 1611 K dL_law_1611 2 rfl rfl ?_
  refine wl_arg (j := 1) 1612 K hX.1 hX.2.1 hX.2.2.1 hX.2.2.2 (by omega) rfl dL_law_1612 dL_law_1613 dL_law_1614 dL_law_1615 dL_law_1616 ?_
  refine wl_Xi (As := [.int (xs (i + 1))]) 1617 [] K dL_law_1617 hM okX0_back q1296 hs rfl hF1 hR1 (Nat.le_of_ble_eq_true rfl) rfl ?_
  intro u hu0
  rw [← hu0]
  refine wl_aload_n 1620 K dL_law_1620 1 rfl rfl ?_
  refine wl_arg (j := 1) 1621 K hX.1 hX.2.1 hX.2.2.1 hX.2.2.2 (by omega) rfl dL_law_1621 dL_law_1622 dL_law_1623 dL_law_1624 dL_law_1625 ?_
  refine wl_Mi (As := [.int (xs (i + 1))]) 1626 [.int v] K dL_law_1626 hM2 okX6_back q2098 spM_00 rfl hF2 hR2 (Nat.le_of_ble_eq_true rfl) rfl ?_
  refine wl_icmp_eq (tgt := 1813) 1629 K dL_law_1629 (by decide) ?_
  rw [hu0]
  exact k u hu0
theorem wl_c56 {p : Program} {l : Launch} {e : Env} {s : State} {m : MethodId} {below : List Frame} {meth : Method} {c : Code} {b : Nat} {D : va_G} {ca : wCA} {A : Nat → Prop} {Z : (Nat → Prop) → State → Heap → Prop} {kc ks : Nat} {sp : List wCell} {q qm : Nat → Nat} {μ μm : wMem} {L i : Nat} {xs : Nat → Int32} {sp1 : List wCell} {μ1 μm1 : wMem} {v : Int32} {rm rm2 : Room} {fs : List (Nat × Nat)} (K : wLc p s m meth c b D ca A Z) (hX : wLs b L xs s A) (hi : i + 5 < L) (hM : wXi Z l yX0_row (wsW_ yX0_row cX0_row 5 (some .int) hhX0_row) rm D vwCl sp sp1 q ca [.ref (q 0), .int (xs (i + 1)), .int (xs (i + 2)), .int (xs (i + 3))] μ μ1 v) (hM2 : wMi l yX6_row cX6_row 5 (some .int) rm2 D vwCl spM qm ca [.ref (qm 0), .int (xs (i + 1)), .int (xs (i + 2)), .int (xs (i + 3))] μm (v, μm1)) (hs : sp[0]? = some (.inl (0, fs))) (hF1 : rm.frames + 1 ≤ room_1.frames ∧ 8 + (5 + 11) + rm.locals ≤ room_1.locals) (hR1 : kc + rm.cells ≤ room_1.cells ∧ ks + rm.slots ≤ room_1.slots) (hF2 : rm2.frames + 1 ≤ room_1.frames ∧ 8 + (5 + 11) + rm2.locals ≤ room_1.locals) (hR2 : kc + rm.cells + rm2.cells ≤ room_1.cells ∧ ks + rm.slots + rm2.slots ≤ room_1.slots) (k : ∀ u : Nat → Nat, u 0 = q 0 → wLJ p l e s m b below meth c (wLI D ca A s sp1 u μ1 qm μm1) (kc + rm.cells + rm2.cells) (ks + rm.slots + rm2.slots) 1813 (wLv b (q 0) (qm 0) (nI i)) []) : wLJ p l e s m b below meth c (wLI D ca A s sp q μ qm μm) kc ks 1634 (wLv b (q 0) (qm 0) (nI i)) [] := by
  refine wl_aload_n 1634 K dL_law_1634 2 rfl rfl ?_
  refine wl_arg (j := 1) 1635 K hX.1 hX.2.1 hX.2.2.1 hX.2.2.2 (by omega) rfl dL_law_1635 dL_law_1636 dL_law_1637 dL_law_1638 dL_law_1639 ?_
  refine wl_arg (j := 2) 1640 K hX.1 hX.2.1 hX.2.2.1 hX.2.2.2 (by omega) rfl dL_law_1640 dL_law_1641 dL_law_1642 dL_law_1643 dL_law_1644 ?_
  refine wl_arg (j := 3) 1645 K hX.1 hX.2.1 hX.2.2.1 hX.2.2.2 (by omega) rfl dL_law_1645 dL_law_1646 dL_law_1647 dL_law_1648 dL_law_1649 ?_
  refine wl_XiW (As := [.int (xs (i + 1)), .int (xs (i + 2)), .int (xs (i + 3))]) 1650 [] K dL_law_1650 hM okX0_row q1308 hs rfl hF1 hR1 (Nat.le_of_ble_eq_true rfl) rfl ?_
  intro u hu0
  rw [← hu0]
  refine wl_aload_n 1653 K dL_law_1653 1 rfl rfl ?_
  refine wl_arg (j := 1) 1654 K hX.1 hX.2.1 hX.2.2.1 hX.2.2.2 (by omega) rfl dL_law_1654 dL_law_1655 dL_law_1656 dL_law_1657 dL_law_1658 ?_
  refine wl_arg (j := 2) 1659 K hX.1 hX.2.1 hX.2.2.1 hX.2.2.2 (by omega) rfl dL_law_1659 dL_law_1660 dL_law_1661 dL_law_1662 dL_law_1663 ?_
  refine wl_arg (j := 3) 1664 K hX.1 hX.2.1 hX.2.2.1 hX.2.2.2 (by omega) rfl dL_law_1664 dL_law_1665 dL_law_1666 dL_law_1667 dL_law_1668 ?_
  refine wl_Mi (As := [.int (xs (i + 1)), .int (xs (i + 2)), .int (xs (i + 3))]) 1669 [.int v] K dL_law_1669 hM2 okX6_row q1544 spM_00 rfl hF2 hR2 (Nat.le_of_ble_eq_true rfl) rfl ?_
  refine wl_icmp_eq (tgt := 1813) 1672 K dL_law_1672 (by decide) ?_
  rw [hu0]
  exact k u hu0
theorem wl_c57 {p : Program} {l : Launch} {e : Env} {s : State} {m : MethodId} {below : List Frame} {meth : Method} {c : Code} {b : Nat} {D : va_G} {ca : wCA} {A : Nat → Prop} {Z : (Nat → Prop) → State → Heap → Prop} {kc ks : Nat} {sp : List wCell} {q qm : Nat → Nat} {μ μm : wMem} {L i : Nat} {xs : Nat → Int32} {sp1 : List wCell} {μ1 μm1 : wMem} {v : Int32} {rm rm2 : Room} {fs : List (Nat × Nat)} (K : wLc p s m meth c b D ca A Z) (hX : wLs b L xs s A) (hi : i + 5 < L) (hM : wXi Z l yX0_write (wsW_ yX0_write cX0_write 6 (some .int) hhX0_write) rm D vwCl sp sp1 q ca [.ref (q 0), .int (xs (i + 1)), .int (xs (i + 2)), .long (wLw (xs (i + 3)) (xs (i + 4)))] μ μ1 v) (hM2 : wMi l yX6_write cX6_write 5 (some .int) rm2 D vwCl spM qm ca [.ref (qm 0), .int (xs (i + 1)), .int (xs (i + 2)), .long (wLw (xs (i + 3)) (xs (i + 4)))] μm (v, μm1)) (hs : sp[0]? = some (.inl (0, fs))) (hF1 : rm.frames + 1 ≤ room_1.frames ∧ 8 + (6 + 11) + rm.locals ≤ room_1.locals) (hR1 : kc + rm.cells ≤ room_1.cells ∧ ks + rm.slots ≤ room_1.slots) (hF2 : rm2.frames + 1 ≤ room_1.frames ∧ 8 + (5 + 11) + rm2.locals ≤ room_1.locals) (hR2 : kc + rm.cells + rm2.cells ≤ room_1.cells ∧ ks + rm.slots + rm2.slots ≤ room_1.slots) (k : ∀ u : Nat → Nat, u 0 = q 0 → wLJ p l e s m b below meth c (wLI D ca A s sp1 u μ1 qm μm1) (kc + rm.cells + rm2.cells) (ks + rm.slots + rm2.slots) 1813 (wLv b (q 0) (qm 0) (nI i)) []) : wLJ p l e s m b below meth c (wLI D ca A s sp q μ qm μm) kc ks 1677 (wLv b (q 0) (qm 0) (nI i)) [] := by
  refine wl_aload_n 1677 K dL_law_1677 2 rfl rfl ?_
  refine wl_arg (j := 1) 1678 K hX.1 hX.2.1 hX.2.2.1 hX.2.2.2 (by omega) rfl dL_law_1678 dL_law_1679 dL_law_1680 dL_law_1681 dL_law_1682 ?_
  refine wl_arg (j := 2) 1683 K hX.1 hX.2.1 hX.2.2.1 hX.2.2.2 (by omega) rfl dL_law_1683 dL_law_1684 dL_law_1685 dL_law_1686 dL_law_1687 ?_
  refine wl_arg (j := 3) 1688 K hX.1 hX.2.1 hX.2.2.1 hX.2.2.2 (by omega) rfl dL_law_1688 dL_law_1689 dL_law_1690 dL_law_1691 dL_law_1692 ?_
  refine wl_i2l 1693 K dL_law_1693 ?_
  refine wl_bipush 1694 K dL_law_1694 (v := 32) rfl ?_
  refine wl_lshl 1696 K dL_law_1696 ?_
  refine wl_arg (j := 4) 1697 K hX.1 hX.2.1 hX.2.2.1 hX.2.2.2 (by omega) rfl dL_law_1697 dL_law_1698 dL_law_1699 dL_law_1700 dL_law_1701 ?_
  refine wl_i2l 1702 K dL_law_1702 ?_
  refine wl_ldc2 1703 K dL_law_1703 q2102 ?_
  refine wl_land 1706 K dL_law_1706 ?_
  refine wl_lor 1707 K dL_law_1707 ?_
  refine wl_XiW (As := [.int (xs (i + 1)), .int (xs (i + 2)), .long (wLw (xs (i + 3)) (xs (i + 4)))]) 1708 [] K dL_law_1708 hM okX0_write q1344 hs rfl hF1 hR1 (Nat.le_of_ble_eq_true rfl) rfl ?_
  intro u hu0
  rw [← hu0]
  refine wl_aload_n 1711 K dL_law_1711 1 rfl rfl ?_
  refine wl_arg (j := 1) 1712 K hX.1 hX.2.1 hX.2.2.1 hX.2.2.2 (by omega) rfl dL_law_1712 dL_law_1713 dL_law_1714 dL_law_1715 dL_law_1716 ?_
  refine wl_arg (j := 2) 1717 K hX.1 hX.2.1 hX.2.2.1 hX.2.2.2 (by omega) rfl dL_law_1717 dL_law_1718 dL_law_1719 dL_law_1720 dL_law_1721 ?_
  refine wl_arg (j := 3) 1722 K hX.1 hX.2.1 hX.2.2.1 hX.2.2.2 (by omega) rfl dL_law_1722 dL_law_1723 dL_law_1724 dL_law_1725 dL_law_1726 ?_
  refine wl_i2l 1727 K dL_law_1727 ?_
  refine wl_bipush 1728 K dL_law_1728 (v := 32) rfl ?_
  refine wl_lshl 1730 K dL_law_1730 ?_
  refine wl_arg (j := 4) 1731 K hX.1 hX.2.1 hX.2.2.1 hX.2.2.2 (by omega) rfl dL_law_1731 dL_law_1732 dL_law_1733 dL_law_1734 dL_law_1735 ?_
  refine wl_i2l 1736 K dL_law_1736 ?_
  refine wl_ldc2 1737 K dL_law_1737 q2102 ?_
  refine wl_land 1740 K dL_law_1740 ?_
  refine wl_lor 1741 K dL_law_1741 ?_
  refine wl_Mi (As := [.int (xs (i + 1)), .int (xs (i + 2)), .long (wLw (xs (i + 3)) (xs (i + 4)))]) 1742 [.int v] K dL_law_1742 hM2 okX6_write q1555 spM_00 rfl hF2 hR2 (Nat.le_of_ble_eq_true rfl) rfl ?_
  refine wl_icmp_eq (tgt := 1813) 1745 K dL_law_1745 (by decide) ?_
  rw [hu0]
  exact k u hu0
theorem wl_c58 {p : Program} {l : Launch} {e : Env} {s : State} {m : MethodId} {below : List Frame} {meth : Method} {c : Code} {b : Nat} {D : va_G} {ca : wCA} {A : Nat → Prop} {Z : (Nat → Prop) → State → Heap → Prop} {kc ks : Nat} {sp : List wCell} {q qm : Nat → Nat} {μ μm : wMem} {L i : Nat} {xs : Nat → Int32} {sp1 : List wCell} {μ1 μm1 : wMem} {v : Int32} {rm rm2 : Room} {fs : List (Nat × Nat)} (K : wLc p s m meth c b D ca A Z) (hX : wLs b L xs s A) (hi : i + 5 < L) (hM : wXi Z l yX0_paste (wsW_ yX0_paste cX0_paste 7 (some .int) hhX0_paste) rm D vwCl sp sp1 q ca [.ref (q 0), .int (xs (i + 1)), .int (xs (i + 2)), .int (xs (i + 3)), .int (xs (i + 4)), .int (xs (i + 5))] μ μ1 v) (hM2 : wMi l yX6_paste cX6_paste 7 (some .int) rm2 D vwCl spM qm ca [.ref (qm 0), .int (xs (i + 1)), .int (xs (i + 2)), .int (xs (i + 3)), .int (xs (i + 4)), .int (xs (i + 5))] μm (v, μm1)) (hs : sp[0]? = some (.inl (0, fs))) (hF1 : rm.frames + 1 ≤ room_1.frames ∧ 8 + (7 + 11) + rm.locals ≤ room_1.locals) (hR1 : kc + rm.cells ≤ room_1.cells ∧ ks + rm.slots ≤ room_1.slots) (hF2 : rm2.frames + 1 ≤ room_1.frames ∧ 8 + (7 + 11) + rm2.locals ≤ room_1.locals) (hR2 : kc + rm.cells + rm2.cells ≤ room_1.cells ∧ ks + rm.slots + rm2.slots ≤ room_1.slots) (k : ∀ u : Nat → Nat, u 0 = q 0 → wLJ p l e s m b below meth c (wLI D ca A s sp1 u μ1 qm μm1) (kc + rm.cells + rm2.cells) (ks + rm.slots + rm2.slots) 1813 (wLv b (q 0) (qm 0) (nI i)) []) : wLJ p l e s m b below meth c (wLI D ca A s sp q μ qm μm) kc ks 1750 (wLv b (q 0) (qm 0) (nI i)) [] := by
  refine wl_aload_n 1750 K dL_law_1750 2 rfl rfl ?_
  refine wl_arg (j := 1) 1751 K hX.1 hX.2.1 hX.2.2.1 hX.2.2.2 (by omega) rfl dL_law_1751 dL_law_1752 dL_law_1753 dL_law_1754 dL_law_1755 ?_
  refine wl_arg (j := 2) 1756 K hX.1 hX.2.1 hX.2.2.1 hX.2.2.2 (by omega) rfl dL_law_1756 dL_law_1757 dL_law_1758 dL_law_1759 dL_law_1760 ?_
  refine wl_arg (j := 3) 1761 K hX.1 hX.2.1 hX.2.2.1 hX.2.2.2 (by omega) rfl dL_law_1761 dL_law_1762 dL_law_1763 dL_law_1764 dL_law_1765 ?_
  refine wl_arg (j := 4) 1766 K hX.1 hX.2.1 hX.2.2.1 hX.2.2.2 (by omega) rfl dL_law_1766 dL_law_1767 dL_law_1768 dL_law_1769 dL_law_1770 ?_
  refine wl_arg (j := 5) 1771 K hX.1 hX.2.1 hX.2.2.1 hX.2.2.2 (by omega) rfl dL_law_1771 dL_law_1772 dL_law_1773 dL_law_1774 dL_law_1775 ?_
  refine wl_XiW (As := [.int (xs (i + 1)), .int (xs (i + 2)), .int (xs (i + 3)), .int (xs (i + 4)), .int (xs (i + 5))]) 1776 [] K dL_law_1776 hM okX0_paste q1371 hs rfl hF1 hR1 (Nat.le_of_ble_eq_true rfl) rfl ?_
  intro u hu0
  rw [← hu0]
  refine wl_aload_n 1779 K dL_law_1779 1 rfl rfl ?_
  refine wl_arg (j := 1) 1780 K hX.1 hX.2.1 hX.2.2.1 hX.2.2.2 (by omega) rfl dL_law_1780 dL_law_1781 dL_law_1782 dL_law_1783 dL_law_1784 ?_
  refine wl_arg (j := 2) 1785 K hX.1 hX.2.1 hX.2.2.1 hX.2.2.2 (by omega) rfl dL_law_1785 dL_law_1786 dL_law_1787 dL_law_1788 dL_law_1789 ?_
  refine wl_arg (j := 3) 1790 K hX.1 hX.2.1 hX.2.2.1 hX.2.2.2 (by omega) rfl dL_law_1790 dL_law_1791 dL_law_1792 dL_law_1793 dL_law_1794 ?_
  refine wl_arg (j := 4) 1795 K hX.1 hX.2.1 hX.2.2.1 hX.2.2.2 (by omega) rfl dL_law_1795 dL_law_1796 dL_law_1797 dL_law_1798 dL_law_1799 ?_
  refine wl_arg (j := 5) 1800 K hX.1 hX.2.1 hX.2.2.1 hX.2.2.2 (by omega) rfl dL_law_1800 dL_law_1801 dL_law_1802 dL_law_1803 dL_law_1804 ?_
  refine wl_Mi (As := [.int (xs (i + 1)), .int (xs (i + 2)), .int (xs (i + 3)), .int (xs (i + 4)), .int (xs (i + 5))]) 1805 [.int v] K dL_law_1805 hM2 okX6_paste q1562 spM_00 rfl hF2 hR2 (Nat.le_of_ble_eq_true rfl) rfl ?_
  refine wl_icmp_eq (tgt := 1813) 1808 K dL_law_1808 (by decide) ?_
  rw [hu0]
  exact k u hu0
