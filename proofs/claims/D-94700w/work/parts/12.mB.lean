/-! printed by gen.py: what the bytecode does -/
set_option maxRecDepth 100000
-- BracketRoom.<init>()V
abbrev Y_X0_init : JY := (cX0_init, yX0_init.cls, 2, 5, yX0_init.name, none, [])
noncomputable def X0_init_L421 (x0 : Nat) (x1 : Int32) : JM Mem (Unit ⊕ (Int32)) :=
  if 5 < x1 then
    jinl (jp ())
  else
  jb (jgetA 0 28 x0) fun v34 =>
  jb (jnew (.inl 4) 3) fun v35 =>
  jb ((jpay 7 35 (f_X5_init v35))) fun _ =>
  jb (jast_a 8 4 v34 x1 v35) fun _ =>
  jcont (x1 + 1)
theorem j_X0_init_L421 (D : va_G) (dA : Nat → ClassId) (x0 : Nat) (x1 : Int32) : J (PM D dA true) Y_X0_init [(0, .ref x0), (1, .int x1)] [] 421 (X0_init_L421 x0 x1) (FLoop (FRet injU) 421 (fun (t : Int32) => [(0, .ref x0), (1, .int t)])) := by
  unfold X0_init_L421
  refine J_iload_n dX0_init_421 rfl 1 rfl ?_
  refine J_iconst (v := 5) dX0_init_422 (by decide) ?_
  refine J_icmp_gt (tgt := 445) dX0_init_423 rfl ?_ ?_
  · refine J_inl ?_
    exact J_return dX0_init_445 rfl
  refine J_aload_n dX0_init_426 rfl 0 rfl ?_
  refine J_getA dX0_init_427 fl_X0_108 rfl (fun v34 => ?_)
  refine J_iload_n dX0_init_430 rfl 1 rfl ?_
  refine J_new (c := 4) dX0_init_431 (by decide) (by decide) q403 q404 q195 (fun v35 => ?_)
  refine J_dup dX0_init_434 rfl ?_
  refine J_callINV (as := []) dX0_init_435 rfl (Nat.le_of_ble_eq_true rfl) (cw_X5_init _ (by decide)) rfl q405 q406 q407 np_X5_init (i_X5_init v35) jad_pay rfl ?_
  refine J_aasta dX0_init_438 (by decide) (by decide) rfl ?_
  refine J_iinc (v := x1 + 1) (env' := [(1, .int (x1 + 1)), (0, .ref x0)]) dX0_init_439 1 rfl rfl (by decide) rfl ?_
  refine J_goto (tgt := 421) dX0_init_442 rfl ?_
  exact J_cont [1, 0] rfl
noncomputable def X0_init_b419 (x0 : Nat) : JM Mem Unit :=
  jloop (fun (t : Int32) => X0_init_L421 x0 t) 0
theorem j_X0_init_b419 (D : va_G) (dA : Nat → ClassId) (x0 : Nat) : J (PM D dA true) Y_X0_init [(0, .ref x0)] [] 419 (X0_init_b419 x0) (FRet injU) := by
  unfold X0_init_b419
  refine J_iconst (v := 0) dX0_init_419 (by decide) ?_
  refine J_istore_n (env' := [(1, .int 0), (0, .ref x0)]) dX0_init_420 rfl (by decide) rfl ?_
  refine J_loop (he := fun (t : Int32) => [(0, .ref x0), (1, .int t)]) [1, 0] rfl (fun t => ?_)
  exact j_X0_init_L421 D dA x0 t
noncomputable def X0_init_L391 (x0 : Nat) (x1 : Int32) : JM Mem (Unit ⊕ (Int32)) :=
  jb (jgetA 0 39 x0) fun v32 =>
  jb (jalen v32) fun v33 =>
  if v33 ≤ x1 then
    jinl (X0_init_b419 x0)
  else
  jb (jgetA 0 39 x0) fun v36 =>
  jb (jnew (.inl 3) 3) fun v37 =>
  jb ((jpay 31 155 (f_X4_init v37))) fun _ =>
  jb (jast_a 7 3 v36 x1 v37) fun _ =>
  jcont (x1 + 1)
theorem j_X0_init_L391 (D : va_G) (dA : Nat → ClassId) (x0 : Nat) (x1 : Int32) : J (PM D dA true) Y_X0_init [(0, .ref x0), (1, .int x1)] [] 391 (X0_init_L391 x0 x1) (FLoop (FRet injU) 391 (fun (t : Int32) => [(0, .ref x0), (1, .int t)])) := by
  unfold X0_init_L391
  refine J_iload_n dX0_init_391 rfl 1 rfl ?_
  refine J_aload_n dX0_init_392 rfl 0 rfl ?_
  refine J_getA dX0_init_393 fl_X0_133 rfl (fun v32 => ?_)
  refine J_alen dX0_init_396 (fun v33 => ?_)
  refine J_icmp_ge (tgt := 419) dX0_init_397 rfl ?_ ?_
  · refine J_inl ?_
    refine J_sub [0] rfl ?_
    exact j_X0_init_b419 D dA x0
  refine J_aload_n dX0_init_400 rfl 0 rfl ?_
  refine J_getA dX0_init_401 fl_X0_133 rfl (fun v36 => ?_)
  refine J_iload_n dX0_init_404 rfl 1 rfl ?_
  refine J_new (c := 3) dX0_init_405 (by decide) (by decide) q376 q377 q194 (fun v37 => ?_)
  refine J_dup dX0_init_408 rfl ?_
  refine J_callINV (as := []) dX0_init_409 rfl (Nat.le_of_ble_eq_true rfl) (cw_X4_init _ (by decide)) rfl q378 q379 q380 np_X4_init (i_X4_init v37) jad_pay rfl ?_
  refine J_aasta dX0_init_412 (by decide) (by decide) rfl ?_
  refine J_iinc (v := x1 + 1) (env' := [(1, .int (x1 + 1)), (0, .ref x0)]) dX0_init_413 1 rfl rfl (by decide) rfl ?_
  refine J_goto (tgt := 391) dX0_init_416 rfl ?_
  exact J_cont [1, 0] rfl
noncomputable def X0_init_b389 (x0 : Nat) : JM Mem Unit :=
  jloop (fun (t : Int32) => X0_init_L391 x0 t) 0
theorem j_X0_init_b389 (D : va_G) (dA : Nat → ClassId) (x0 : Nat) : J (PM D dA true) Y_X0_init [(0, .ref x0)] [] 389 (X0_init_b389 x0) (FRet injU) := by
  unfold X0_init_b389
  refine J_iconst (v := 0) dX0_init_389 (by decide) ?_
  refine J_istore_n (env' := [(1, .int 0), (0, .ref x0)]) dX0_init_390 rfl (by decide) rfl ?_
  refine J_loop (he := fun (t : Int32) => [(0, .ref x0), (1, .int t)]) [1, 0] rfl (fun t => ?_)
  exact j_X0_init_L391 D dA x0 t
noncomputable def X0_init_L365 (x0 : Nat) (x1 : Int32) : JM Mem (Unit ⊕ (Int32)) :=
  if 3 ≤ x1 then
    jinl (X0_init_b389 x0)
  else
  jb (jgetA 0 46 x0) fun v38 =>
  jb (jnew (.inl 6) 5) fun v39 =>
  jb ((jpay 162 798 (f_X7_init v39))) fun _ =>
  jb (jast_a 10 6 v38 x1 v39) fun _ =>
  jcont (x1 + 1)
theorem j_X0_init_L365 (D : va_G) (dA : Nat → ClassId) (x0 : Nat) (x1 : Int32) : J (PM D dA true) Y_X0_init [(0, .ref x0), (1, .int x1)] [] 365 (X0_init_L365 x0 x1) (FLoop (FRet injU) 365 (fun (t : Int32) => [(0, .ref x0), (1, .int t)])) := by
  unfold X0_init_L365
  refine J_iload_n dX0_init_365 rfl 1 rfl ?_
  refine J_iconst (v := 3) dX0_init_366 (by decide) ?_
  refine J_icmp_ge (tgt := 389) dX0_init_367 rfl ?_ ?_
  · refine J_inl ?_
    refine J_sub [0] rfl ?_
    exact j_X0_init_b389 D dA x0
  refine J_aload_n dX0_init_370 rfl 0 rfl ?_
  refine J_getA dX0_init_371 fl_X0_138 rfl (fun v38 => ?_)
  refine J_iload_n dX0_init_374 rfl 1 rfl ?_
  refine J_new (c := 6) dX0_init_375 (by decide) (by decide) q426 q442 q197 (fun v39 => ?_)
  refine J_dup dX0_init_378 rfl ?_
  refine J_callIV (host := "") (as := []) dX0_init_379 rfl (Nat.le_of_ble_eq_true rfl) (cw_X7_init _ (by decide)) rfl q443 q444 q445 np_X7_init (i_X7_init v39) jad_pay rfl ?_
  refine J_aasta dX0_init_382 (by decide) (by decide) rfl ?_
  refine J_iinc (v := x1 + 1) (env' := [(1, .int (x1 + 1)), (0, .ref x0)]) dX0_init_383 1 rfl rfl (by decide) rfl ?_
  refine J_goto (tgt := 365) dX0_init_386 rfl ?_
  exact J_cont [1, 0] rfl
noncomputable def X0_init_b363 (x0 : Nat) : JM Mem Unit :=
  jloop (fun (t : Int32) => X0_init_L365 x0 t) 0
theorem j_X0_init_b363 (D : va_G) (dA : Nat → ClassId) (x0 : Nat) : J (PM D dA true) Y_X0_init [(0, .ref x0)] [] 363 (X0_init_b363 x0) (FRet injU) := by
  unfold X0_init_b363
  refine J_iconst (v := 0) dX0_init_363 (by decide) ?_
  refine J_istore_n (env' := [(1, .int 0), (0, .ref x0)]) dX0_init_364 rfl (by decide) rfl ?_
  refine J_loop (he := fun (t : Int32) => [(0, .ref x0), (1, .int t)]) [1, 0] rfl (fun t => ?_)
  exact j_X0_init_L365 D dA x0 t
noncomputable def X0_init_L339 (x0 : Nat) (x1 : Int32) : JM Mem (Unit ⊕ (Int32)) :=
  if 4 ≤ x1 then
    jinl (X0_init_b363 x0)
  else
  jb (jgetA 0 4 x0) fun v40 =>
  jb (jnew (.inl 3) 3) fun v41 =>
  jb ((jpay 31 155 (f_X4_init v41))) fun _ =>
  jb (jast_a 7 3 v40 x1 v41) fun _ =>
  jcont (x1 + 1)
theorem j_X0_init_L339 (D : va_G) (dA : Nat → ClassId) (x0 : Nat) (x1 : Int32) : J (PM D dA true) Y_X0_init [(0, .ref x0), (1, .int x1)] [] 339 (X0_init_L339 x0 x1) (FLoop (FRet injU) 339 (fun (t : Int32) => [(0, .ref x0), (1, .int t)])) := by
  unfold X0_init_L339
  refine J_iload_n dX0_init_339 rfl 1 rfl ?_
  refine J_iconst (v := 4) dX0_init_340 (by decide) ?_
  refine J_icmp_ge (tgt := 363) dX0_init_341 rfl ?_ ?_
  · refine J_inl ?_
    refine J_sub [0] rfl ?_
    exact j_X0_init_b363 D dA x0
  refine J_aload_n dX0_init_344 rfl 0 rfl ?_
  refine J_getA dX0_init_345 fl_X0_37 rfl (fun v40 => ?_)
  refine J_iload_n dX0_init_348 rfl 1 rfl ?_
  refine J_new (c := 3) dX0_init_349 (by decide) (by decide) q376 q377 q194 (fun v41 => ?_)
  refine J_dup dX0_init_352 rfl ?_
  refine J_callINV (as := []) dX0_init_353 rfl (Nat.le_of_ble_eq_true rfl) (cw_X4_init _ (by decide)) rfl q378 q379 q380 np_X4_init (i_X4_init v41) jad_pay rfl ?_
  refine J_aasta dX0_init_356 (by decide) (by decide) rfl ?_
  refine J_iinc (v := x1 + 1) (env' := [(1, .int (x1 + 1)), (0, .ref x0)]) dX0_init_357 1 rfl rfl (by decide) rfl ?_
  refine J_goto (tgt := 339) dX0_init_360 rfl ?_
  exact J_cont [1, 0] rfl
noncomputable def X0_init_b337 (x0 : Nat) : JM Mem Unit :=
  jloop (fun (t : Int32) => X0_init_L339 x0 t) 0
theorem j_X0_init_b337 (D : va_G) (dA : Nat → ClassId) (x0 : Nat) : J (PM D dA true) Y_X0_init [(0, .ref x0)] [] 337 (X0_init_b337 x0) (FRet injU) := by
  unfold X0_init_b337
  refine J_iconst (v := 0) dX0_init_337 (by decide) ?_
  refine J_istore_n (env' := [(1, .int 0), (0, .ref x0)]) dX0_init_338 rfl (by decide) rfl ?_
  refine J_loop (he := fun (t : Int32) => [(0, .ref x0), (1, .int t)]) [1, 0] rfl (fun t => ?_)
  exact j_X0_init_L339 D dA x0 t
noncomputable def X0_init_L313 (x0 : Nat) (x1 : Int32) : JM Mem (Unit ⊕ (Int32)) :=
  if 4 ≤ x1 then
    jinl (X0_init_b337 x0)
  else
  jb (jgetA 0 0 x0) fun v42 =>
  jb (jnew (.inl 5) 2) fun v43 =>
  jb ((jkeep (f_X6_init v43))) fun _ =>
  jb (jast_a 9 5 v42 x1 v43) fun _ =>
  jcont (x1 + 1)
theorem j_X0_init_L313 (D : va_G) (dA : Nat → ClassId) (x0 : Nat) (x1 : Int32) : J (PM D dA true) Y_X0_init [(0, .ref x0), (1, .int x1)] [] 313 (X0_init_L313 x0 x1) (FLoop (FRet injU) 313 (fun (t : Int32) => [(0, .ref x0), (1, .int t)])) := by
  unfold X0_init_L313
  refine J_iload_n dX0_init_313 rfl 1 rfl ?_
  refine J_iconst (v := 4) dX0_init_314 (by decide) ?_
  refine J_icmp_ge (tgt := 337) dX0_init_315 rfl ?_ ?_
  · refine J_inl ?_
    refine J_sub [0] rfl ?_
    exact j_X0_init_b337 D dA x0
  refine J_aload_n dX0_init_318 rfl 0 rfl ?_
  refine J_getA dX0_init_319 fl_X0_11 rfl (fun v42 => ?_)
  refine J_iload_n dX0_init_322 rfl 1 rfl ?_
  refine J_new (c := 5) dX0_init_323 (by decide) (by decide) q219 q428 q196 (fun v43 => ?_)
  refine J_dup dX0_init_326 rfl ?_
  refine J_callINV (as := []) dX0_init_327 rfl (Nat.le_of_ble_eq_true rfl) (cw_X6_init _ (by decide)) rfl q429 q430 q431 np_X6_init (i_X6_init v43) jad_keep rfl ?_
  refine J_aasta dX0_init_330 (by decide) (by decide) rfl ?_
  refine J_iinc (v := x1 + 1) (env' := [(1, .int (x1 + 1)), (0, .ref x0)]) dX0_init_331 1 rfl rfl (by decide) rfl ?_
  refine J_goto (tgt := 313) dX0_init_334 rfl ?_
  exact J_cont [1, 0] rfl
noncomputable def f_X0_init (x0 : Nat) : JM Mem Unit :=
  jb (jnew (.inr (9, 4)) 4) fun v1 =>
  jb (jputO 0 0 x0 (some v1)) fun _ =>
  jb (jnew (.inl 1) 15) fun v2 =>
  jb (jnew (.inl 2) 8) fun v3 =>
  jb ((jkeep (f_X3_init v3))) fun _ =>
  jb ((jpay 2 603 (f_X2_init v2 v3))) fun _ =>
  jb (jputO 0 1 x0 (some v2)) fun _ =>
  jb (jnew (.inl 3) 3) fun v4 =>
  jb ((jpay 31 155 (f_X4_init v4))) fun _ =>
  jb (jputO 0 2 x0 (some v4)) fun _ =>
  jb (jnew (.inl 3) 3) fun v5 =>
  jb ((jpay 31 155 (f_X4_init v5))) fun _ =>
  jb (jputO 0 3 x0 (some v5)) fun _ =>
  jb (jnew (.inr (7, 4)) 4) fun v6 =>
  jb (jputO 0 4 x0 (some v6)) fun _ =>
  jb (jnew (.inr (4, 4)) 4) fun v7 =>
  jb (jputO 0 5 x0 (some v7)) fun _ =>
  jb (jputI 0 9 x0 (-1)) fun _ =>
  jb (jputI 0 10 x0 (-1)) fun _ =>
  jb (jputL 0 12 x0 1) fun _ =>
  jb (jnew (.inr (0, 5)) 5) fun v8 =>
  jb (jputO 0 13 x0 (some v8)) fun _ =>
  jb (jnew (.inr (0, 5)) 5) fun v9 =>
  jb (jputO 0 14 x0 (some v9)) fun _ =>
  jb (jnew (.inr (0, 5)) 5) fun v10 =>
  jb (jputO 0 15 x0 (some v10)) fun _ =>
  jb (jnew (.inr (0, 5)) 5) fun v11 =>
  jb (jputO 0 16 x0 (some v11)) fun _ =>
  jb (jnew (.inr (0, 3)) 3) fun v12 =>
  jb (jputO 0 17 x0 (some v12)) fun _ =>
  jb (jnew (.inl 4) 3) fun v13 =>
  jb ((jpay 7 35 (f_X5_init v13))) fun _ =>
  jb (jputO 0 18 x0 (some v13)) fun _ =>
  jb (jnew (.inl 4) 3) fun v14 =>
  jb ((jpay 7 35 (f_X5_init v14))) fun _ =>
  jb (jputO 0 19 x0 (some v14)) fun _ =>
  jb (jnew (.inl 4) 3) fun v15 =>
  jb ((jpay 7 35 (f_X5_init v15))) fun _ =>
  jb (jputO 0 20 x0 (some v15)) fun _ =>
  jb (jnew (.inl 4) 3) fun v16 =>
  jb ((jpay 7 35 (f_X5_init v16))) fun _ =>
  jb (jputO 0 21 x0 (some v16)) fun _ =>
  jb (jnew (.inl 4) 3) fun v17 =>
  jb ((jpay 7 35 (f_X5_init v17))) fun _ =>
  jb (jputO 0 22 x0 (some v17)) fun _ =>
  jb (jm2 64 32) fun v18 =>
  jb (jputO 0 23 x0 (some v18)) fun _ =>
  jb (jnew (.inl 4) 3) fun v19 =>
  jb ((jpay 7 35 (f_X5_init v19))) fun _ =>
  jb (jputO 0 24 x0 (some v19)) fun _ =>
  jb (jnew (.inr (0, 25)) 25) fun v20 =>
  jb (jputO 0 25 x0 (some v20)) fun _ =>
  jb (jnew (.inr (0, 25)) 25) fun v21 =>
  jb (jputO 0 26 x0 (some v21)) fun _ =>
  jb (jm2 5 5) fun v22 =>
  jb (jputO 0 27 x0 (some v22)) fun _ =>
  jb (jnew (.inr (8, 6)) 6) fun v23 =>
  jb (jputO 0 28 x0 (some v23)) fun _ =>
  jb (jputI 0 30 x0 (-1)) fun _ =>
  jb (jm2 5 5) fun v24 =>
  jb (jputO 0 33 x0 (some v24)) fun _ =>
  jb (jm2 5 5) fun v25 =>
  jb (jputO 0 34 x0 (some v25)) fun _ =>
  jb (jm2 5 10) fun v26 =>
  jb (jputO 0 35 x0 (some v26)) fun _ =>
  jb (jm2 5 5) fun v27 =>
  jb (jputO 0 36 x0 (some v27)) fun _ =>
  jb (jnew (.inr (0, 5)) 5) fun v28 =>
  jb (jputO 0 37 x0 (some v28)) fun _ =>
  jb (jnew (.inl 3) 3) fun v29 =>
  jb ((jpay 31 155 (f_X4_init v29))) fun _ =>
  jb (jputO 0 38 x0 (some v29)) fun _ =>
  jb (jnew (.inr (7, 20)) 20) fun v30 =>
  jb (jputO 0 39 x0 (some v30)) fun _ =>
  jb (jnew (.inr (10, 3)) 3) fun v31 =>
  jb (jputO 0 46 x0 (some v31)) fun _ =>
  jloop (fun (t : Int32) => X0_init_L313 x0 t) 0
theorem j_X0_init (D : va_G) (dA : Nat → ClassId) (x0 : Nat) : J (PM D dA true) Y_X0_init [(0, .ref x0)] [] 0 (f_X0_init x0) (FRet injU) := by
  unfold f_X0_init
  refine J_aload_n dX0_init_0 rfl 0 rfl ?_
  refine J_objInit dX0_init_1 (Nat.le_of_ble_eq_true rfl) (by decide) q216 q217 q218 ?_
  refine J_aload_n dX0_init_4 rfl 0 rfl ?_
  refine J_iconst (v := 4) dX0_init_5 (by decide) ?_
  refine J_anewarray (t := 9) (N := 4) dX0_init_6 (by decide) rfl q219 q220 (by decide) (by decide) (by decide) (fun v1 => ?_)
  refine J_putO (x := (some v1)) dX0_init_9 ⟨fl_X0_11, Or.inr ⟨rfl, rfl, rfl, q468⟩⟩ rfl ?_
  refine J_aload_n dX0_init_12 rfl 0 rfl ?_
  refine J_new (c := 1) dX0_init_13 (by decide) (by decide) q221 q222 q189 (fun v2 => ?_)
  refine J_dup dX0_init_16 rfl ?_
  refine J_new (c := 2) dX0_init_17 (by decide) (by decide) q223 q224 q193 (fun v3 => ?_)
  refine J_dup dX0_init_20 rfl ?_
  refine J_callIV (host := "") (as := []) dX0_init_21 rfl (Nat.le_of_ble_eq_true rfl) (cw_X3_init _ (by decide)) rfl q278 q279 q280 np_X3_init (i_X3_init v3) jad_keep rfl ?_
  refine J_callIV (host := "") (as := [.ref v3]) dX0_init_24 rfl (Nat.le_of_ble_eq_true rfl) (cw_X2_init _ (by decide)) rfl q311 q312 q313 np_X2_init (i_X2_init v2 v3) jad_pay rfl ?_
  refine J_putO (x := (some v2)) dX0_init_27 ⟨fl_X0_23, Or.inr ⟨rfl, rfl, rfl, q469⟩⟩ rfl ?_
  refine J_aload_n dX0_init_30 rfl 0 rfl ?_
  refine J_new (c := 3) dX0_init_31 (by decide) (by decide) q376 q377 q194 (fun v4 => ?_)
  refine J_dup dX0_init_34 rfl ?_
  refine J_callINV (as := []) dX0_init_35 rfl (Nat.le_of_ble_eq_true rfl) (cw_X4_init _ (by decide)) rfl q378 q379 q380 np_X4_init (i_X4_init v4) jad_pay rfl ?_
  refine J_putO (x := (some v4)) dX0_init_38 ⟨fl_X0_30, Or.inr ⟨rfl, rfl, rfl, q470⟩⟩ rfl ?_
  refine J_aload_n dX0_init_41 rfl 0 rfl ?_
  refine J_new (c := 3) dX0_init_42 (by decide) (by decide) q376 q377 q194 (fun v5 => ?_)
  refine J_dup dX0_init_45 rfl ?_
  refine J_callINV (as := []) dX0_init_46 rfl (Nat.le_of_ble_eq_true rfl) (cw_X4_init _ (by decide)) rfl q378 q379 q380 np_X4_init (i_X4_init v5) jad_pay rfl ?_
  refine J_putO (x := (some v5)) dX0_init_49 ⟨fl_X0_34, Or.inr ⟨rfl, rfl, rfl, q471⟩⟩ rfl ?_
  refine J_aload_n dX0_init_52 rfl 0 rfl ?_
  refine J_iconst (v := 4) dX0_init_53 (by decide) ?_
  refine J_anewarray (t := 7) (N := 4) dX0_init_54 (by decide) rfl q376 q402 (by decide) (by decide) (by decide) (fun v6 => ?_)
  refine J_putO (x := (some v6)) dX0_init_57 ⟨fl_X0_37, Or.inr ⟨rfl, rfl, rfl, q472⟩⟩ rfl ?_
  refine J_aload_n dX0_init_60 rfl 0 rfl ?_
  refine J_iconst (v := 4) dX0_init_61 (by decide) ?_
  refine J_newarray (t := 4) (N := 4) dX0_init_62 (by decide) rfl rfl q423 (by decide) (by decide) (by decide) (fun v7 => ?_)
  refine J_putO (x := (some v7)) dX0_init_64 ⟨fl_X0_41, Or.inr ⟨rfl, rfl, rfl, q473⟩⟩ rfl ?_
  refine J_aload_n dX0_init_67 rfl 0 rfl ?_
  refine J_iconst (v := (-1)) dX0_init_68 (by decide) ?_
  refine J_putI dX0_init_69 ⟨fl_X0_45, Or.inl rfl⟩ rfl ?_
  refine J_aload_n dX0_init_72 rfl 0 rfl ?_
  refine J_iconst (v := (-1)) dX0_init_73 (by decide) ?_
  refine J_putI dX0_init_74 ⟨fl_X0_49, Or.inl rfl⟩ rfl ?_
  refine J_aload_n dX0_init_77 rfl 0 rfl ?_
  refine J_lconst (v := 1) dX0_init_78 (by decide) ?_
  refine J_putL dX0_init_79 ⟨fl_X0_52, Or.inl rfl⟩ rfl ?_
  refine J_aload_n dX0_init_82 rfl 0 rfl ?_
  refine J_iconst (v := 5) dX0_init_83 (by decide) ?_
  refine J_newarray (t := 0) (N := 5) dX0_init_84 (by decide) rfl rfl q375 (by decide) (by decide) (by decide) (fun v8 => ?_)
  refine J_putO (x := (some v8)) dX0_init_86 ⟨fl_X0_56, Or.inr ⟨rfl, rfl, rfl, q481⟩⟩ rfl ?_
  refine J_aload_n dX0_init_89 rfl 0 rfl ?_
  refine J_iconst (v := 5) dX0_init_90 (by decide) ?_
  refine J_newarray (t := 0) (N := 5) dX0_init_91 (by decide) rfl rfl q375 (by decide) (by decide) (by decide) (fun v9 => ?_)
  refine J_putO (x := (some v9)) dX0_init_93 ⟨fl_X0_60, Or.inr ⟨rfl, rfl, rfl, q482⟩⟩ rfl ?_
  refine J_aload_n dX0_init_96 rfl 0 rfl ?_
  refine J_iconst (v := 5) dX0_init_97 (by decide) ?_
  refine J_newarray (t := 0) (N := 5) dX0_init_98 (by decide) rfl rfl q375 (by decide) (by decide) (by decide) (fun v10 => ?_)
  refine J_putO (x := (some v10)) dX0_init_100 ⟨fl_X0_63, Or.inr ⟨rfl, rfl, rfl, q483⟩⟩ rfl ?_
  refine J_aload_n dX0_init_103 rfl 0 rfl ?_
  refine J_iconst (v := 5) dX0_init_104 (by decide) ?_
  refine J_newarray (t := 0) (N := 5) dX0_init_105 (by decide) rfl rfl q375 (by decide) (by decide) (by decide) (fun v11 => ?_)
  refine J_putO (x := (some v11)) dX0_init_107 ⟨fl_X0_66, Or.inr ⟨rfl, rfl, rfl, q484⟩⟩ rfl ?_
  refine J_aload_n dX0_init_110 rfl 0 rfl ?_
  refine J_iconst (v := 3) dX0_init_111 (by decide) ?_
  refine J_newarray (t := 0) (N := 3) dX0_init_112 (by decide) rfl rfl q375 (by decide) (by decide) (by decide) (fun v12 => ?_)
  refine J_putO (x := (some v12)) dX0_init_114 ⟨fl_X0_69, Or.inr ⟨rfl, rfl, rfl, q485⟩⟩ rfl ?_
  refine J_aload_n dX0_init_117 rfl 0 rfl ?_
  refine J_new (c := 4) dX0_init_118 (by decide) (by decide) q403 q404 q195 (fun v13 => ?_)
  refine J_dup dX0_init_121 rfl ?_
  refine J_callINV (as := []) dX0_init_122 rfl (Nat.le_of_ble_eq_true rfl) (cw_X5_init _ (by decide)) rfl q405 q406 q407 np_X5_init (i_X5_init v13) jad_pay rfl ?_
  refine J_putO (x := (some v13)) dX0_init_125 ⟨fl_X0_75, Or.inr ⟨rfl, rfl, rfl, q486⟩⟩ rfl ?_
  refine J_aload_n dX0_init_128 rfl 0 rfl ?_
  refine J_new (c := 4) dX0_init_129 (by decide) (by decide) q403 q404 q195 (fun v14 => ?_)
  refine J_dup dX0_init_132 rfl ?_
  refine J_callINV (as := []) dX0_init_133 rfl (Nat.le_of_ble_eq_true rfl) (cw_X5_init _ (by decide)) rfl q405 q406 q407 np_X5_init (i_X5_init v14) jad_pay rfl ?_
  refine J_putO (x := (some v14)) dX0_init_136 ⟨fl_X0_79, Or.inr ⟨rfl, rfl, rfl, q487⟩⟩ rfl ?_
  refine J_aload_n dX0_init_139 rfl 0 rfl ?_
  refine J_new (c := 4) dX0_init_140 (by decide) (by decide) q403 q404 q195 (fun v15 => ?_)
  refine J_dup dX0_init_143 rfl ?_
  refine J_callINV (as := []) dX0_init_144 rfl (Nat.le_of_ble_eq_true rfl) (cw_X5_init _ (by decide)) rfl q405 q406 q407 np_X5_init (i_X5_init v15) jad_pay rfl ?_
  refine J_putO (x := (some v15)) dX0_init_147 ⟨fl_X0_82, Or.inr ⟨rfl, rfl, rfl, q488⟩⟩ rfl ?_
  refine J_aload_n dX0_init_150 rfl 0 rfl ?_
  refine J_new (c := 4) dX0_init_151 (by decide) (by decide) q403 q404 q195 (fun v16 => ?_)
  refine J_dup dX0_init_154 rfl ?_
  refine J_callINV (as := []) dX0_init_155 rfl (Nat.le_of_ble_eq_true rfl) (cw_X5_init _ (by decide)) rfl q405 q406 q407 np_X5_init (i_X5_init v16) jad_pay rfl ?_
  refine J_putO (x := (some v16)) dX0_init_158 ⟨fl_X0_85, Or.inr ⟨rfl, rfl, rfl, q489⟩⟩ rfl ?_
  refine J_aload_n dX0_init_161 rfl 0 rfl ?_
  refine J_new (c := 4) dX0_init_162 (by decide) (by decide) q403 q404 q195 (fun v17 => ?_)
  refine J_dup dX0_init_165 rfl ?_
  refine J_callINV (as := []) dX0_init_166 rfl (Nat.le_of_ble_eq_true rfl) (cw_X5_init _ (by decide)) rfl q405 q406 q407 np_X5_init (i_X5_init v17) jad_pay rfl ?_
  refine J_putO (x := (some v17)) dX0_init_169 ⟨fl_X0_88, Or.inr ⟨rfl, rfl, rfl, q490⟩⟩ rfl ?_
  refine J_aload_n dX0_init_172 rfl 0 rfl ?_
  refine J_bipush (v := 64) dX0_init_173 (by decide) ?_
  refine J_bipush (v := 32) dX0_init_175 (by decide) ?_
  refine J_multi2 (n := 64) (N := 64) (k := 32) (K := 32) dX0_init_177 q424 (by decide) (by decide) rfl rfl (by decide) (by decide) (fun v18 => ?_)
  refine J_putO (x := (some v18)) dX0_init_181 ⟨fl_X0_93, Or.inr ⟨rfl, rfl, rfl, q491⟩⟩ rfl ?_
  refine J_aload_n dX0_init_184 rfl 0 rfl ?_
  refine J_new (c := 4) dX0_init_185 (by decide) (by decide) q403 q404 q195 (fun v19 => ?_)
  refine J_dup dX0_init_188 rfl ?_
  refine J_callINV (as := []) dX0_init_189 rfl (Nat.le_of_ble_eq_true rfl) (cw_X5_init _ (by decide)) rfl q405 q406 q407 np_X5_init (i_X5_init v19) jad_pay rfl ?_
  refine J_putO (x := (some v19)) dX0_init_192 ⟨fl_X0_96, Or.inr ⟨rfl, rfl, rfl, q492⟩⟩ rfl ?_
  refine J_aload_n dX0_init_195 rfl 0 rfl ?_
  refine J_bipush (v := 25) dX0_init_196 (by decide) ?_
  refine J_newarray (t := 0) (N := 25) dX0_init_198 (by decide) rfl rfl q375 (by decide) (by decide) (by decide) (fun v20 => ?_)
  refine J_putO (x := (some v20)) dX0_init_200 ⟨fl_X0_99, Or.inr ⟨rfl, rfl, rfl, q493⟩⟩ rfl ?_
  refine J_aload_n dX0_init_203 rfl 0 rfl ?_
  refine J_bipush (v := 25) dX0_init_204 (by decide) ?_
  refine J_newarray (t := 0) (N := 25) dX0_init_206 (by decide) rfl rfl q375 (by decide) (by decide) (by decide) (fun v21 => ?_)
  refine J_putO (x := (some v21)) dX0_init_208 ⟨fl_X0_102, Or.inr ⟨rfl, rfl, rfl, q494⟩⟩ rfl ?_
  refine J_aload_n dX0_init_211 rfl 0 rfl ?_
  refine J_iconst (v := 5) dX0_init_212 (by decide) ?_
  refine J_iconst (v := 5) dX0_init_213 (by decide) ?_
  refine J_multi2 (n := 5) (N := 5) (k := 5) (K := 5) dX0_init_214 q424 (by decide) (by decide) rfl rfl (by decide) (by decide) (fun v22 => ?_)
  refine J_putO (x := (some v22)) dX0_init_218 ⟨fl_X0_105, Or.inr ⟨rfl, rfl, rfl, q495⟩⟩ rfl ?_
  refine J_aload_n dX0_init_221 rfl 0 rfl ?_
  refine J_bipush (v := 6) dX0_init_222 (by decide) ?_
  refine J_anewarray (t := 8) (N := 6) dX0_init_224 (by decide) rfl q403 q425 (by decide) (by decide) (by decide) (fun v23 => ?_)
  refine J_putO (x := (some v23)) dX0_init_227 ⟨fl_X0_108, Or.inr ⟨rfl, rfl, rfl, q496⟩⟩ rfl ?_
  refine J_aload_n dX0_init_230 rfl 0 rfl ?_
  refine J_iconst (v := (-1)) dX0_init_231 (by decide) ?_
  refine J_putI dX0_init_232 ⟨fl_X0_112, Or.inl rfl⟩ rfl ?_
  refine J_aload_n dX0_init_235 rfl 0 rfl ?_
  refine J_iconst (v := 5) dX0_init_236 (by decide) ?_
  refine J_iconst (v := 5) dX0_init_237 (by decide) ?_
  refine J_multi2 (n := 5) (N := 5) (k := 5) (K := 5) dX0_init_238 q424 (by decide) (by decide) rfl rfl (by decide) (by decide) (fun v24 => ?_)
  refine J_putO (x := (some v24)) dX0_init_242 ⟨fl_X0_115, Or.inr ⟨rfl, rfl, rfl, q501⟩⟩ rfl ?_
  refine J_aload_n dX0_init_245 rfl 0 rfl ?_
  refine J_iconst (v := 5) dX0_init_246 (by decide) ?_
  refine J_iconst (v := 5) dX0_init_247 (by decide) ?_
  refine J_multi2 (n := 5) (N := 5) (k := 5) (K := 5) dX0_init_248 q424 (by decide) (by decide) rfl rfl (by decide) (by decide) (fun v25 => ?_)
  refine J_putO (x := (some v25)) dX0_init_252 ⟨fl_X0_118, Or.inr ⟨rfl, rfl, rfl, q502⟩⟩ rfl ?_
  refine J_aload_n dX0_init_255 rfl 0 rfl ?_
  refine J_iconst (v := 5) dX0_init_256 (by decide) ?_
  refine J_bipush (v := 10) dX0_init_257 (by decide) ?_
  refine J_multi2 (n := 5) (N := 5) (k := 10) (K := 10) dX0_init_259 q424 (by decide) (by decide) rfl rfl (by decide) (by decide) (fun v26 => ?_)
  refine J_putO (x := (some v26)) dX0_init_263 ⟨fl_X0_121, Or.inr ⟨rfl, rfl, rfl, q503⟩⟩ rfl ?_
  refine J_aload_n dX0_init_266 rfl 0 rfl ?_
  refine J_iconst (v := 5) dX0_init_267 (by decide) ?_
  refine J_iconst (v := 5) dX0_init_268 (by decide) ?_
  refine J_multi2 (n := 5) (N := 5) (k := 5) (K := 5) dX0_init_269 q424 (by decide) (by decide) rfl rfl (by decide) (by decide) (fun v27 => ?_)
  refine J_putO (x := (some v27)) dX0_init_273 ⟨fl_X0_124, Or.inr ⟨rfl, rfl, rfl, q504⟩⟩ rfl ?_
  refine J_aload_n dX0_init_276 rfl 0 rfl ?_
  refine J_iconst (v := 5) dX0_init_277 (by decide) ?_
  refine J_newarray (t := 0) (N := 5) dX0_init_278 (by decide) rfl rfl q375 (by decide) (by decide) (by decide) (fun v28 => ?_)
  refine J_putO (x := (some v28)) dX0_init_280 ⟨fl_X0_127, Or.inr ⟨rfl, rfl, rfl, q505⟩⟩ rfl ?_
  refine J_aload_n dX0_init_283 rfl 0 rfl ?_
  refine J_new (c := 3) dX0_init_284 (by decide) (by decide) q376 q377 q194 (fun v29 => ?_)
  refine J_dup dX0_init_287 rfl ?_
  refine J_callINV (as := []) dX0_init_288 rfl (Nat.le_of_ble_eq_true rfl) (cw_X4_init _ (by decide)) rfl q378 q379 q380 np_X4_init (i_X4_init v29) jad_pay rfl ?_
  refine J_putO (x := (some v29)) dX0_init_291 ⟨fl_X0_130, Or.inr ⟨rfl, rfl, rfl, q506⟩⟩ rfl ?_
  refine J_aload_n dX0_init_294 rfl 0 rfl ?_
  refine J_bipush (v := 20) dX0_init_295 (by decide) ?_
  refine J_anewarray (t := 7) (N := 20) dX0_init_297 (by decide) rfl q376 q402 (by decide) (by decide) (by decide) (fun v30 => ?_)
  refine J_putO (x := (some v30)) dX0_init_300 ⟨fl_X0_133, Or.inr ⟨rfl, rfl, rfl, q507⟩⟩ rfl ?_
  refine J_aload_n dX0_init_303 rfl 0 rfl ?_
  refine J_iconst (v := 3) dX0_init_304 (by decide) ?_
  refine J_anewarray (t := 10) (N := 3) dX0_init_305 (by decide) rfl q426 q427 (by decide) (by decide) (by decide) (fun v31 => ?_)
  refine J_putO (x := (some v31)) dX0_init_308 ⟨fl_X0_138, Or.inr ⟨rfl, rfl, rfl, q514⟩⟩ rfl ?_
  refine J_iconst (v := 0) dX0_init_311 (by decide) ?_
  refine J_istore_n (env' := [(1, .int 0), (0, .ref x0)]) dX0_init_312 rfl (by decide) rfl ?_
  refine J_loop (he := fun (t : Int32) => [(0, .ref x0), (1, .int t)]) [1, 0] rfl (fun t => ?_)
  exact j_X0_init_L313 D dA x0 t
theorem i_X0_init (x0 : Nat) : Impl (ws_ yX0_init cX0_init 2 none) yX0_init 5 true 2000 20000 [.ref x0] (f_X0_init x0) injU := impl_of (plainFor_of_name (by decide)) (Nat.le_of_ble_eq_true rfl) (fun D dA => j_X0_init D dA x0)
theorem cw_X0_init (Y : JY) (h : 6 ≤ Y.2.2.2.1) : JCw Y (ws_ yX0_init cX0_init 2 none) yX0_init cX0_init 2 none 5 := ⟨h, by decide, lw_meth q215, q187, by decide, by decide⟩
theorem np_X0_init : JNp yX0_init.desc 0 := by decide +kernel
-- BracketRoom.status()I
abbrev Y_X0_status : JY := (cX0_status, yX0_status.cls, 1, 1, yX0_status.name, (some .int), [])
noncomputable def f_X0_status (x0 : Nat) : JM Mem Int32 :=
  jb (jgetI 0 8 x0) fun v1 =>
  jp v1
theorem j_X0_status (D : va_G) (dA : Nat → ClassId) (x0 : Nat) : J (PM D dA false) Y_X0_status [(0, .ref x0)] [] 0 (f_X0_status x0) (FRet injI) := by
  unfold f_X0_status
  refine J_aload_n dX0_status_0 rfl 0 rfl ?_
  refine J_getI dX0_status_1 fl_X0_144 rfl (fun v1 => ?_)
  exact J_ireturn dX0_status_4 rfl
theorem i_X0_status (x0 : Nat) : Impl (ws_ yX0_status cX0_status 1 (some .int)) yX0_status 1 false 0 0 [.ref x0] (f_X0_status x0) injI := impl_of (plainFor_of_name (by decide)) (Nat.le_of_ble_eq_true rfl) (fun D dA => j_X0_status D dA x0)
theorem cw_X0_status (Y : JY) (h : 2 ≤ Y.2.2.2.1) : JCw Y (ws_ yX0_status cX0_status 1 (some .int)) yX0_status cX0_status 1 (some .int) 1 := ⟨h, by decide, lw_meth q616, q187, by decide, by decide⟩
theorem np_X0_status : JNp yX0_status.desc 0 := by decide +kernel
-- BracketRoom.top()J
abbrev Y_X0_top : JY := (cX0_top, yX0_top.cls, 1, 1, yX0_top.name, (some .long), [])
noncomputable def f_X0_top (x0 : Nat) : JM Mem Int64 :=
  jb (jgetL 0 11 x0) fun v1 =>
  jp v1
theorem j_X0_top (D : va_G) (dA : Nat → ClassId) (x0 : Nat) : J (PM D dA false) Y_X0_top [(0, .ref x0)] [] 0 (f_X0_top x0) (FRet injL) := by
  unfold f_X0_top
  refine J_aload_n dX0_top_0 rfl 0 rfl ?_
  refine J_getL dX0_top_1 fl_X0_147 rfl (fun v1 => ?_)
  exact J_lreturn dX0_top_4 rfl
theorem i_X0_top (x0 : Nat) : Impl (ws_ yX0_top cX0_top 1 (some .long)) yX0_top 1 false 0 0 [.ref x0] (f_X0_top x0) injL := impl_of (plainFor_of_name (by decide)) (Nat.le_of_ble_eq_true rfl) (fun D dA => j_X0_top D dA x0)
theorem cw_X0_top (Y : JY) (h : 2 ≤ Y.2.2.2.1) : JCw Y (ws_ yX0_top cX0_top 1 (some .long)) yX0_top cX0_top 1 (some .long) 1 := ⟨h, by decide, lw_meth q620, q187, by decide, by decide⟩
theorem np_X0_top : JNp yX0_top.desc 0 := by decide +kernel
-- BracketRoom.bottom()J
abbrev Y_X0_bottom : JY := (cX0_bottom, yX0_bottom.cls, 1, 1, yX0_bottom.name, (some .long), [])
noncomputable def f_X0_bottom (x0 : Nat) : JM Mem Int64 :=
  jb (jgetL 0 12 x0) fun v1 =>
  jp v1
theorem j_X0_bottom (D : va_G) (dA : Nat → ClassId) (x0 : Nat) : J (PM D dA false) Y_X0_bottom [(0, .ref x0)] [] 0 (f_X0_bottom x0) (FRet injL) := by
  unfold f_X0_bottom
  refine J_aload_n dX0_bottom_0 rfl 0 rfl ?_
  refine J_getL dX0_bottom_1 fl_X0_52 rfl (fun v1 => ?_)
  exact J_lreturn dX0_bottom_4 rfl
theorem i_X0_bottom (x0 : Nat) : Impl (ws_ yX0_bottom cX0_bottom 1 (some .long)) yX0_bottom 1 false 0 0 [.ref x0] (f_X0_bottom x0) injL := impl_of (plainFor_of_name (by decide)) (Nat.le_of_ble_eq_true rfl) (fun D dA => j_X0_bottom D dA x0)
theorem cw_X0_bottom (Y : JY) (h : 2 ≤ Y.2.2.2.1) : JCw Y (ws_ yX0_bottom cX0_bottom 1 (some .long)) yX0_bottom cX0_bottom 1 (some .long) 1 := ⟨h, by decide, lw_meth q624, q187, by decide, by decide⟩
theorem np_X0_bottom : JNp yX0_bottom.desc 0 := by decide +kernel
-- BracketRoom.isTray(I)Z
abbrev Y_X0_isTray : JY := (cX0_isTray, yX0_isTray.cls, 1, 1, yX0_isTray.name, (some .boolean), [])
noncomputable def f_X0_isTray (x0 : Int32) : JM Mem Int32 :=
  if x0 < 0 then
    jp 0
  else
  if 4 ≤ x0 then
    jp 0
  else
    jp 1
theorem j_X0_isTray (D : va_G) (dA : Nat → ClassId) (x0 : Int32) : J (PM D dA false) Y_X0_isTray [(0, .int x0)] [] 0 (f_X0_isTray x0) (FRet injI) := by
  unfold f_X0_isTray
  refine J_iload_n dX0_isTray_0 rfl 0 rfl ?_
  refine J_if_lt (tgt := 13) dX0_isTray_1 rfl ?_ ?_
  · refine J_iconst (v := 0) dX0_isTray_13 (by decide) ?_
    exact J_zreturn0 dX0_isTray_14 rfl
  refine J_iload_n dX0_isTray_4 rfl 0 rfl ?_
  refine J_iconst (v := 4) dX0_isTray_5 (by decide) ?_
  refine J_icmp_ge (tgt := 13) dX0_isTray_6 rfl ?_ ?_
  · refine J_iconst (v := 0) dX0_isTray_13 (by decide) ?_
    exact J_zreturn0 dX0_isTray_14 rfl
  refine J_iconst (v := 1) dX0_isTray_9 (by decide) ?_
  refine J_goto (tgt := 14) dX0_isTray_10 rfl ?_
  exact J_zreturn1 dX0_isTray_14 rfl
theorem i_X0_isTray (x0 : Int32) : Impl (ws_ yX0_isTray cX0_isTray 1 (some .boolean)) yX0_isTray 1 false 0 0 [.int x0] (f_X0_isTray x0) injI := impl_of (plainFor_of_name (by decide)) (Nat.le_of_ble_eq_true rfl) (fun D dA => j_X0_isTray D dA x0)
theorem cw_X0_isTray (Y : JY) (h : 2 ≤ Y.2.2.2.1) : JCw Y (ws_ yX0_isTray cX0_isTray 1 (some .boolean)) yX0_isTray cX0_isTray 1 (some .boolean) 1 := ⟨h, by decide, lw_meth q658, q187, by decide, by decide⟩
theorem np_X0_isTray : JNp yX0_isTray.desc 1 := by decide +kernel
-- BracketRoom.is0(I)Z
abbrev Y_X0_is0 : JY := (cX0_is0, yX0_is0.cls, 2, 1, yX0_is0.name, (some .boolean), [])
noncomputable def f_X0_is0 (x0 : Nat) (x1 : Int32) : JM Mem Int32 :=
  jb (jputI 0 8 x0 x1) fun _ =>
  if x1 = 0 then
    jp 1
  else
    jp 0
theorem j_X0_is0 (D : va_G) (dA : Nat → ClassId) (x0 : Nat) (x1 : Int32) : J (PM D dA false) Y_X0_is0 [(0, .ref x0), (1, .int x1)] [] 0 (f_X0_is0 x0 x1) (FRet injI) := by
  unfold f_X0_is0
  refine J_aload_n dX0_is0_0 rfl 0 rfl ?_
  refine J_iload_n dX0_is0_1 rfl 1 rfl ?_
  refine J_putI dX0_is0_2 ⟨fl_X0_144, Or.inl rfl⟩ rfl ?_
  refine J_iload_n dX0_is0_5 rfl 1 rfl ?_
  refine J_if_ne (tgt := 13) dX0_is0_6 rfl ?_ ?_
  · refine J_iconst (v := 0) dX0_is0_13 (by decide) ?_
    exact J_zreturn0 dX0_is0_14 rfl
  refine J_iconst (v := 1) dX0_is0_9 (by decide) ?_
  refine J_goto (tgt := 14) dX0_is0_10 rfl ?_
  exact J_zreturn1 dX0_is0_14 rfl
theorem i_X0_is0 (x0 : Nat) (x1 : Int32) : Impl (ws_ yX0_is0 cX0_is0 2 (some .boolean)) yX0_is0 1 false 0 0 [.ref x0, .int x1] (f_X0_is0 x0 x1) injI := impl_of (plainFor_of_name (by decide)) (Nat.le_of_ble_eq_true rfl) (fun D dA => j_X0_is0 D dA x0 x1)
theorem cw_X0_is0 (Y : JY) (h : 2 ≤ Y.2.2.2.1) : JCw Y (ws_ yX0_is0 cX0_is0 2 (some .boolean)) yX0_is0 cX0_is0 2 (some .boolean) 1 := ⟨h, by decide, lw_meth q662, q187, by decide, by decide⟩
theorem np_X0_is0 : JNp yX0_is0.desc 1 := by decide +kernel
-- BracketRoom.none(I)I
abbrev Y_X0_none : JY := (cX0_none, yX0_none.cls, 2, 1, yX0_none.name, (some .int), [])
noncomputable def f_X0_none (x0 : Nat) (x1 : Int32) : JM Mem Int32 :=
  jb (jputI 0 8 x0 x1) fun _ =>
  jp (-1)
theorem j_X0_none (D : va_G) (dA : Nat → ClassId) (x0 : Nat) (x1 : Int32) : J (PM D dA false) Y_X0_none [(0, .ref x0), (1, .int x1)] [] 0 (f_X0_none x0 x1) (FRet injI) := by
  unfold f_X0_none
  refine J_aload_n dX0_none_0 rfl 0 rfl ?_
  refine J_iload_n dX0_none_1 rfl 1 rfl ?_
  refine J_putI dX0_none_2 ⟨fl_X0_144, Or.inl rfl⟩ rfl ?_
  refine J_iconst (v := (-1)) dX0_none_5 (by decide) ?_
  exact J_ireturn dX0_none_6 rfl
theorem i_X0_none (x0 : Nat) (x1 : Int32) : Impl (ws_ yX0_none cX0_none 2 (some .int)) yX0_none 1 false 0 0 [.ref x0, .int x1] (f_X0_none x0 x1) injI := impl_of (plainFor_of_name (by decide)) (Nat.le_of_ble_eq_true rfl) (fun D dA => j_X0_none D dA x0 x1)
theorem cw_X0_none (Y : JY) (h : 2 ≤ Y.2.2.2.1) : JCw Y (ws_ yX0_none cX0_none 2 (some .int)) yX0_none cX0_none 2 (some .int) 1 := ⟨h, by decide, lw_meth q732, q187, by decide, by decide⟩
theorem np_X0_none : JNp yX0_none.desc 1 := by decide +kernel
-- BracketRoom.four(I)V
abbrev Y_X0_four : JY := (cX0_four, yX0_four.cls, 3, 1, yX0_four.name, none, [])
noncomputable def X0_four_L3 (x0 : Nat) (x1 : Int32) (x2 : Int32) : JM Mem (Unit ⊕ (Int32)) :=
  if x2 < 0 then
    jinl (jp ())
  else
  jb (jgetA 0 1 x0) fun v1 =>
  jb (jgetA 1 0 v1) fun v2 =>
  jb (jgetA 0 1 x0) fun v3 =>
  jb (jgetI 1 9 v3) fun v4 =>
  jb (jast_b v2 v4 ((x1 >>> (x2 &&& 31) : Int32).toInt8.toInt32)) fun _ =>
  jb (jgetA 0 1 x0) fun v5 =>
  jb (jgetI 1 9 v5) fun v6 =>
  jb (jputI 1 9 v5 (v6 + 1)) fun _ =>
  jcont (x2 + (-8))
theorem j_X0_four_L3 (D : va_G) (dA : Nat → ClassId) (x0 : Nat) (x1 : Int32) (x2 : Int32) : J (PM D dA false) Y_X0_four [(0, .ref x0), (1, .int x1), (2, .int x2)] [] 3 (X0_four_L3 x0 x1 x2) (FLoop (FRet injU) 3 (fun (t : Int32) => [(0, .ref x0), (1, .int x1), (2, .int t)])) := by
  unfold X0_four_L3
  refine J_iload_n dX0_four_3 rfl 2 rfl ?_
  refine J_if_lt (tgt := 45) dX0_four_4 rfl ?_ ?_
  · refine J_inl ?_
    exact J_return dX0_four_45 rfl
  refine J_aload_n dX0_four_7 rfl 0 rfl ?_
  refine J_getA dX0_four_8 fl_X0_23 rfl (fun v1 => ?_)
  refine J_getA dX0_four_11 fl_X0_210 rfl (fun v2 => ?_)
  refine J_aload_n dX0_four_14 rfl 0 rfl ?_
  refine J_getA dX0_four_15 fl_X0_23 rfl (fun v3 => ?_)
  refine J_getI dX0_four_18 fl_X0_203 rfl (fun v4 => ?_)
  refine J_iload_n dX0_four_21 rfl 1 rfl ?_
  refine J_iload_n dX0_four_22 rfl 2 rfl ?_
  refine J_ishr dX0_four_23 ?_
  refine J_i2b dX0_four_24 ?_
  refine J_bast dX0_four_25 ?_
  refine J_aload_n dX0_four_26 rfl 0 rfl ?_
  refine J_getA dX0_four_27 fl_X0_23 rfl (fun v5 => ?_)
  refine J_dup dX0_four_30 rfl ?_
  refine J_getI dX0_four_31 fl_X0_203 rfl (fun v6 => ?_)
  refine J_iconst (v := 1) dX0_four_34 (by decide) ?_
  refine J_iadd dX0_four_35 ?_
  refine J_putI dX0_four_36 ⟨fl_X0_203, Or.inl rfl⟩ rfl ?_
  refine J_iinc (v := x2 + (-8)) (env' := [(2, .int (x2 + (-8))), (0, .ref x0), (1, .int x1)]) dX0_four_39 2 rfl rfl (by decide) rfl ?_
  refine J_goto (tgt := 3) dX0_four_42 rfl ?_
  exact J_cont [1, 2, 0] rfl
noncomputable def f_X0_four (x0 : Nat) (x1 : Int32) : JM Mem Unit :=
  jloop (fun (t : Int32) => X0_four_L3 x0 x1 t) 24
theorem j_X0_four (D : va_G) (dA : Nat → ClassId) (x0 : Nat) (x1 : Int32) : J (PM D dA false) Y_X0_four [(0, .ref x0), (1, .int x1)] [] 0 (f_X0_four x0 x1) (FRet injU) := by
  unfold f_X0_four
  refine J_bipush (v := 24) dX0_four_0 (by decide) ?_
  refine J_istore_n (env' := [(2, .int 24), (0, .ref x0), (1, .int x1)]) dX0_four_2 rfl (by decide) rfl ?_
  refine J_loop (he := fun (t : Int32) => [(0, .ref x0), (1, .int x1), (2, .int t)]) [1, 2, 0] rfl (fun t => ?_)
  exact j_X0_four_L3 D dA x0 x1 t
theorem i_X0_four (x0 : Nat) (x1 : Int32) : Impl (ws_ yX0_four cX0_four 3 none) yX0_four 1 false 0 0 [.ref x0, .int x1] (f_X0_four x0 x1) injU := impl_of (plainFor_of_name (by decide)) (Nat.le_of_ble_eq_true rfl) (fun D dA => j_X0_four D dA x0 x1)
theorem cw_X0_four (Y : JY) (h : 2 ≤ Y.2.2.2.1) : JCw Y (ws_ yX0_four cX0_four 3 none) yX0_four cX0_four 3 none 1 := ⟨h, by decide, lw_meth q753, q187, by decide, by decide⟩
theorem np_X0_four : JNp yX0_four.desc 1 := by decide +kernel
-- BracketRoom.feed(IIIII)I
abbrev Y_X0_feed : JY := (cX0_feed, yX0_feed.cls, 6, 2, yX0_feed.name, (some .int), [])
noncomputable def f_X0_feed (x0 : Nat) (x1 : Int32) (x2 : Int32) (x3 : Int32) (x4 : Int32) (x5 : Int32) : JM Mem Int32 :=
  jb (jgetA 0 1 x0) fun v1 =>
  jb (jgetI 1 9 v1) fun v2 =>
  if v2 + 20 ≤ 600 then
    jb (jcall 0 x0 (f_X0_four x0 x1)) fun _ =>
    jb (jcall 0 x0 (f_X0_four x0 x2)) fun _ =>
    jb (jcall 0 x0 (f_X0_four x0 x3)) fun _ =>
    jb (jcall 0 x0 (f_X0_four x0 x4)) fun _ =>
    jb (jcall 0 x0 (f_X0_four x0 x5)) fun _ =>
    jb (jgetA 0 1 x0) fun v3 =>
    jb (jgetI 1 9 v3) fun v4 =>
    jp v4
  else
    jp (-1)
theorem j_X0_feed (D : va_G) (dA : Nat → ClassId) (x0 : Nat) (x1 : Int32) (x2 : Int32) (x3 : Int32) (x4 : Int32) (x5 : Int32) : J (PM D dA false) Y_X0_feed [(0, .ref x0), (1, .int x1), (2, .int x2), (3, .int x3), (4, .int x4), (5, .int x5)] [] 0 (f_X0_feed x0 x1 x2 x3 x4 x5) (FRet injI) := by
  unfold f_X0_feed
  refine J_aload_n dX0_feed_0 rfl 0 rfl ?_
  refine J_getA dX0_feed_1 fl_X0_23 rfl (fun v1 => ?_)
  refine J_getI dX0_feed_4 fl_X0_203 rfl (fun v2 => ?_)
  refine J_bipush (v := 20) dX0_feed_7 (by decide) ?_
  refine J_iadd dX0_feed_9 ?_
  refine J_sipush (v := 600) dX0_feed_10 (by decide) ?_
  refine J_icmp_le (tgt := 18) dX0_feed_13 rfl ?_ ?_
  · refine J_aload_n dX0_feed_18 rfl 0 rfl ?_
    refine J_iload_n dX0_feed_19 rfl 1 rfl ?_
    refine J_callVV (c := 0) (as := [.int x1]) dX0_feed_20 (by decide) rfl (Nat.le_of_ble_eq_true rfl) (cw_X0_four _ (by decide)) q750 q752 qs4 q753 np_X0_four (i_X0_four x0 x1) jad_id rfl ?_
    refine J_aload_n dX0_feed_23 rfl 0 rfl ?_
    refine J_iload_n dX0_feed_24 rfl 2 rfl ?_
    refine J_callVV (c := 0) (as := [.int x2]) dX0_feed_25 (by decide) rfl (Nat.le_of_ble_eq_true rfl) (cw_X0_four _ (by decide)) q750 q752 qs4 q753 np_X0_four (i_X0_four x0 x2) jad_id rfl ?_
    refine J_aload_n dX0_feed_28 rfl 0 rfl ?_
    refine J_iload_n dX0_feed_29 rfl 3 rfl ?_
    refine J_callVV (c := 0) (as := [.int x3]) dX0_feed_30 (by decide) rfl (Nat.le_of_ble_eq_true rfl) (cw_X0_four _ (by decide)) q750 q752 qs4 q753 np_X0_four (i_X0_four x0 x3) jad_id rfl ?_
    refine J_aload_n dX0_feed_33 rfl 0 rfl ?_
    refine J_iload dX0_feed_34 4 rfl ?_
    refine J_callVV (c := 0) (as := [.int x4]) dX0_feed_36 (by decide) rfl (Nat.le_of_ble_eq_true rfl) (cw_X0_four _ (by decide)) q750 q752 qs4 q753 np_X0_four (i_X0_four x0 x4) jad_id rfl ?_
    refine J_aload_n dX0_feed_39 rfl 0 rfl ?_
    refine J_iload dX0_feed_40 5 rfl ?_
    refine J_callVV (c := 0) (as := [.int x5]) dX0_feed_42 (by decide) rfl (Nat.le_of_ble_eq_true rfl) (cw_X0_four _ (by decide)) q750 q752 qs4 q753 np_X0_four (i_X0_four x0 x5) jad_id rfl ?_
    refine J_aload_n dX0_feed_45 rfl 0 rfl ?_
    refine J_getA dX0_feed_46 fl_X0_23 rfl (fun v3 => ?_)
    refine J_getI dX0_feed_49 fl_X0_203 rfl (fun v4 => ?_)
    exact J_ireturn dX0_feed_52 rfl
  refine J_iconst (v := (-1)) dX0_feed_16 (by decide) ?_
  exact J_ireturn dX0_feed_17 rfl
theorem i_X0_feed (x0 : Nat) (x1 : Int32) (x2 : Int32) (x3 : Int32) (x4 : Int32) (x5 : Int32) : Impl (ws_ yX0_feed cX0_feed 6 (some .int)) yX0_feed 2 false 0 0 [.ref x0, .int x1, .int x2, .int x3, .int x4, .int x5] (f_X0_feed x0 x1 x2 x3 x4 x5) injI := impl_of (plainFor_of_name (by decide)) (Nat.le_of_ble_eq_true rfl) (fun D dA => j_X0_feed D dA x0 x1 x2 x3 x4 x5)
theorem cw_X0_feed (Y : JY) (h : 3 ≤ Y.2.2.2.1) : JCw Y (ws_ yX0_feed cX0_feed 6 (some .int)) yX0_feed cX0_feed 6 (some .int) 2 := ⟨h, by decide, lw_meth q749, q187, by decide, by decide⟩
theorem np_X0_feed : JNp yX0_feed.desc 5 := by decide +kernel
-- BracketRoom.takes(II)Z
abbrev Y_X0_takes : JY := (cX0_takes, yX0_takes.cls, 3, 1, yX0_takes.name, (some .boolean), [])
noncomputable def f_X0_takes (x0 : Nat) (x1 : Int32) (x2 : Int32) : JM Mem Int32 :=
  if x1 < 0 then
    jp 0
  else
  jb (jgetA 0 1 x0) fun v1 =>
  jb (jgetI 1 9 v1) fun v2 =>
  if v2 < x1 then
    jp 0
  else
  if x1 ≤ x2 then
    jb (jgetA 0 1 x0) fun v3 =>
    jb (jputI 1 9 v3 0) fun _ =>
    jb (jputI 0 9 x0 0) fun _ =>
    jb (jputI 0 10 x0 (-1)) fun _ =>
    jp 1
  else
    jp 0
theorem j_X0_takes (D : va_G) (dA : Nat → ClassId) (x0 : Nat) (x1 : Int32) (x2 : Int32) : J (PM D dA false) Y_X0_takes [(0, .ref x0), (1, .int x1), (2, .int x2)] [] 0 (f_X0_takes x0 x1 x2) (FRet injI) := by
  unfold f_X0_takes
  refine J_iload_n dX0_takes_0 rfl 1 rfl ?_
  refine J_if_lt (tgt := 20) dX0_takes_1 rfl ?_ ?_
  · refine J_iconst (v := 0) dX0_takes_20 (by decide) ?_
    exact J_zreturn0 dX0_takes_21 rfl
  refine J_iload_n dX0_takes_4 rfl 1 rfl ?_
  refine J_aload_n dX0_takes_5 rfl 0 rfl ?_
  refine J_getA dX0_takes_6 fl_X0_23 rfl (fun v1 => ?_)
  refine J_getI dX0_takes_9 fl_X0_203 rfl (fun v2 => ?_)
  refine J_icmp_gt (tgt := 20) dX0_takes_12 rfl ?_ ?_
  · refine J_iconst (v := 0) dX0_takes_20 (by decide) ?_
    exact J_zreturn0 dX0_takes_21 rfl
  refine J_iload_n dX0_takes_15 rfl 1 rfl ?_
  refine J_iload_n dX0_takes_16 rfl 2 rfl ?_
  refine J_icmp_le (tgt := 22) dX0_takes_17 rfl ?_ ?_
  · refine J_aload_n dX0_takes_22 rfl 0 rfl ?_
    refine J_getA dX0_takes_23 fl_X0_23 rfl (fun v3 => ?_)
    refine J_iconst (v := 0) dX0_takes_26 (by decide) ?_
    refine J_putI dX0_takes_27 ⟨fl_X0_203, Or.inl rfl⟩ rfl ?_
    refine J_aload_n dX0_takes_30 rfl 0 rfl ?_
    refine J_iconst (v := 0) dX0_takes_31 (by decide) ?_
    refine J_putI dX0_takes_32 ⟨fl_X0_45, Or.inl rfl⟩ rfl ?_
    refine J_aload_n dX0_takes_35 rfl 0 rfl ?_
    refine J_iconst (v := (-1)) dX0_takes_36 (by decide) ?_
    refine J_putI dX0_takes_37 ⟨fl_X0_49, Or.inl rfl⟩ rfl ?_
    refine J_iconst (v := 1) dX0_takes_40 (by decide) ?_
    exact J_zreturn1 dX0_takes_41 rfl
  refine J_iconst (v := 0) dX0_takes_20 (by decide) ?_
  exact J_zreturn0 dX0_takes_21 rfl
theorem i_X0_takes (x0 : Nat) (x1 : Int32) (x2 : Int32) : Impl (ws_ yX0_takes cX0_takes 3 (some .boolean)) yX0_takes 1 false 0 0 [.ref x0, .int x1, .int x2] (f_X0_takes x0 x1 x2) injI := impl_of (plainFor_of_name (by decide)) (Nat.le_of_ble_eq_true rfl) (fun D dA => j_X0_takes D dA x0 x1 x2)
theorem cw_X0_takes (Y : JY) (h : 2 ≤ Y.2.2.2.1) : JCw Y (ws_ yX0_takes cX0_takes 3 (some .boolean)) yX0_takes cX0_takes 3 (some .boolean) 1 := ⟨h, by decide, lw_meth q761, q187, by decide, by decide⟩
theorem np_X0_takes : JNp yX0_takes.desc 2 := by decide +kernel
-- BracketRoom.refused(LBracketRoom$Wrong;)I
abbrev Y_X0_refused : JY := (cX0_refused, yX0_refused.cls, 2, 2, yX0_refused.name, (some .int), [])
noncomputable def f_X0_refused (x0 : Nat) (x1 : Nat) : JM Mem Int32 :=
  jb (jgetI 2 6 x1) fun v1 =>
  jb (jputI 0 9 x0 v1) fun _ =>
  jb (jgetI 2 7 x1) fun v2 =>
  jb (jputI 0 10 x0 v2) fun _ =>
  jb (jcall 0 x0 (f_X0_none x0 10)) fun v3 =>
  jp v3
theorem j_X0_refused (D : va_G) (dA : Nat → ClassId) (x0 : Nat) (x1 : Nat) : J (PM D dA false) Y_X0_refused [(0, .ref x0), (1, .ref x1)] [] 0 (f_X0_refused x0 x1) (FRet injI) := by
  unfold f_X0_refused
  refine J_aload_n dX0_refused_0 rfl 0 rfl ?_
  refine J_aload_n dX0_refused_1 rfl 1 rfl ?_
  refine J_getI dX0_refused_2 fl_X0_214 rfl (fun v1 => ?_)
  refine J_putI dX0_refused_5 ⟨fl_X0_45, Or.inl rfl⟩ rfl ?_
  refine J_aload_n dX0_refused_8 rfl 0 rfl ?_
  refine J_aload_n dX0_refused_9 rfl 1 rfl ?_
  refine J_getI dX0_refused_10 fl_X0_217 rfl (fun v2 => ?_)
  refine J_putI dX0_refused_13 ⟨fl_X0_49, Or.inl rfl⟩ rfl ?_
  refine J_aload_n dX0_refused_16 rfl 0 rfl ?_
  refine J_bipush (v := 10) dX0_refused_17 (by decide) ?_
  refine J_callVI (c := 0) (as := [.int 10]) dX0_refused_19 (by decide) rfl (Nat.le_of_ble_eq_true rfl) (cw_X0_none _ (by decide)) q729 q731 qs3 q732 np_X0_none (i_X0_none x0 10) jad_id rfl (fun v3 => ?_)
  exact J_ireturn dX0_refused_22 rfl
theorem i_X0_refused (x0 : Nat) (x1 : Nat) : Impl (ws_ yX0_refused cX0_refused 2 (some .int)) yX0_refused 2 false 0 0 [.ref x0, .ref x1] (f_X0_refused x0 x1) injI := impl_of (plainFor_of_name (by decide)) (Nat.le_of_ble_eq_true rfl) (fun D dA => j_X0_refused D dA x0 x1)
theorem cw_X0_refused (Y : JY) (h : 3 ≤ Y.2.2.2.1) : JCw Y (ws_ yX0_refused cX0_refused 2 (some .int)) yX0_refused cX0_refused 2 (some .int) 2 := ⟨h, by decide, lw_meth q938, q187, by decide, by decide⟩
theorem np_X0_refused : JNp yX0_refused.desc 1 := by decide +kernel
-- BracketRoom.gives(I)I
abbrev Y_X0_gives : JY := (cX0_gives, yX0_gives.cls, 2, 1, yX0_gives.name, (some .int), [])
noncomputable def f_X0_gives (x0 : Nat) (x1 : Int32) : JM Mem Int32 :=
  jb (jputI 0 8 x0 0) fun _ =>
  jp x1
theorem j_X0_gives (D : va_G) (dA : Nat → ClassId) (x0 : Nat) (x1 : Int32) : J (PM D dA false) Y_X0_gives [(0, .ref x0), (1, .int x1)] [] 0 (f_X0_gives x0 x1) (FRet injI) := by
  unfold f_X0_gives
  refine J_aload_n dX0_gives_0 rfl 0 rfl ?_
  refine J_iconst (v := 0) dX0_gives_1 (by decide) ?_
  refine J_putI dX0_gives_2 ⟨fl_X0_144, Or.inl rfl⟩ rfl ?_
  refine J_iload_n dX0_gives_5 rfl 1 rfl ?_
  exact J_ireturn dX0_gives_6 rfl
theorem i_X0_gives (x0 : Nat) (x1 : Int32) : Impl (ws_ yX0_gives cX0_gives 2 (some .int)) yX0_gives 1 false 0 0 [.ref x0, .int x1] (f_X0_gives x0 x1) injI := impl_of (plainFor_of_name (by decide)) (Nat.le_of_ble_eq_true rfl) (fun D dA => j_X0_gives D dA x0 x1)
theorem cw_X0_gives (Y : JY) (h : 2 ≤ Y.2.2.2.1) : JCw Y (ws_ yX0_gives cX0_gives 2 (some .int)) yX0_gives cX0_gives 2 (some .int) 1 := ⟨h, by decide, lw_meth q947, q187, by decide, by decide⟩
theorem np_X0_gives : JNp yX0_gives.desc 1 := by decide +kernel
-- BracketRoom.fault(I)I
abbrev Y_X0_fault : JY := (cX0_fault, yX0_fault.cls, 2, 1, yX0_fault.name, (some .int), [])
noncomputable def f_X0_fault (x0 : Nat) (x1 : Int32) : JM Mem Int32 :=
  if x1 = 0 then
    jb (jgetI 0 9 x0) fun v2 =>
    jp v2
  else
  if x1 = 1 then
    jb (jgetI 0 10 x0) fun v1 =>
    jp v1
  else
    jp (-1)
theorem j_X0_fault (D : va_G) (dA : Nat → ClassId) (x0 : Nat) (x1 : Int32) : J (PM D dA false) Y_X0_fault [(0, .ref x0), (1, .int x1)] [] 0 (f_X0_fault x0 x1) (FRet injI) := by
  unfold f_X0_fault
  refine J_iload_n dX0_fault_0 rfl 1 rfl ?_
  refine J_if_ne (tgt := 11) dX0_fault_1 rfl ?_ ?_
  · refine J_iload_n dX0_fault_11 rfl 1 rfl ?_
    refine J_iconst (v := 1) dX0_fault_12 (by decide) ?_
    refine J_icmp_ne (tgt := 23) dX0_fault_13 rfl ?_ ?_
    · refine J_iconst (v := (-1)) dX0_fault_23 (by decide) ?_
      exact J_ireturn dX0_fault_24 rfl
    refine J_aload_n dX0_fault_16 rfl 0 rfl ?_
    refine J_getI dX0_fault_17 fl_X0_49 rfl (fun v1 => ?_)
    refine J_goto (tgt := 24) dX0_fault_20 rfl ?_
    exact J_ireturn dX0_fault_24 rfl
  refine J_aload_n dX0_fault_4 rfl 0 rfl ?_
  refine J_getI dX0_fault_5 fl_X0_45 rfl (fun v2 => ?_)
  refine J_goto (tgt := 24) dX0_fault_8 rfl ?_
  exact J_ireturn dX0_fault_24 rfl
theorem i_X0_fault (x0 : Nat) (x1 : Int32) : Impl (ws_ yX0_fault cX0_fault 2 (some .int)) yX0_fault 1 false 0 0 [.ref x0, .int x1] (f_X0_fault x0 x1) injI := impl_of (plainFor_of_name (by decide)) (Nat.le_of_ble_eq_true rfl) (fun D dA => j_X0_fault D dA x0 x1)
theorem cw_X0_fault (Y : JY) (h : 2 ≤ Y.2.2.2.1) : JCw Y (ws_ yX0_fault cX0_fault 2 (some .int)) yX0_fault cX0_fault 2 (some .int) 1 := ⟨h, by decide, lw_meth q1014, q187, by decide, by decide⟩
theorem np_X0_fault : JNp yX0_fault.desc 1 := by decide +kernel
-- BracketRoom.many(I)I
abbrev Y_X0_many : JY := (cX0_many, yX0_many.cls, 6, 2, yX0_many.name, (some .int), [])
noncomputable def X0_many_b145 (x0 : Nat) (x2 : Int32) : JM Mem Int32 :=
  jb (jcall 0 x0 (f_X0_gives x0 x2)) fun v10 =>
  jp v10
theorem j_X0_many_b145 (D : va_G) (dA : Nat → ClassId) (x0 : Nat) (x2 : Int32) : J (PM D dA false) Y_X0_many [(0, .ref x0), (2, .int x2)] [] 145 (X0_many_b145 x0 x2) (FRet injI) := by
  unfold X0_many_b145
  refine J_aload_n dX0_many_145 rfl 0 rfl ?_
  refine J_iload_n dX0_many_146 rfl 1 rfl ?_
  refine J_callVI (c := 0) (as := [.int x2]) dX0_many_147 (by decide) rfl (Nat.le_of_ble_eq_true rfl) (cw_X0_gives _ (by decide)) q944 q946 qs9 q947 np_X0_gives (i_X0_gives x0 x2) jad_id rfl (fun v10 => ?_)
  exact J_ireturn dX0_many_150 rfl
noncomputable def X0_many_b139 (x0 : Nat) (x2 : Int32) (x3 : Int32) : JM Mem (Int32 ⊕ (Int32 × Int32)) :=
  jcont (x2, x3 + 1)
theorem j_X0_many_b139 (D : va_G) (dA : Nat → ClassId) (x0 : Nat) (x2 : Int32) (x3 : Int32) : J (PM D dA false) Y_X0_many [(0, .ref x0), (2, .int x2), (3, .int x3)] [] 139 (X0_many_b139 x0 x2 x3) (FLoop (FRet injI) 58 (fun (t : Int32 × Int32) => [(0, .ref x0), (2, .int t.1), (3, .int t.2)])) := by
  unfold X0_many_b139
  refine J_iinc (v := x3 + 1) (env' := [(3, .int (x3 + 1)), (0, .ref x0), (2, .int x2)]) dX0_many_139 2 rfl rfl (by decide) rfl ?_
  refine J_goto (tgt := 58) dX0_many_142 rfl ?_
  exact J_cont [1, 2, 0] rfl
noncomputable def X0_many_b133 (x0 : Nat) (x2 : Int32) (x3 : Int32) (x4 : Int32) : JM Mem ((Int32 ⊕ (Int32 × Int32)) ⊕ (Int32 × Int32)) :=
  jcont (x2, x4 + 1)
theorem j_X0_many_b133 (D : va_G) (dA : Nat → ClassId) (x0 : Nat) (x2 : Int32) (x3 : Int32) (x4 : Int32) : J (PM D dA false) Y_X0_many [(0, .ref x0), (2, .int x2), (3, .int x3), (4, .int x4)] [] 133 (X0_many_b133 x0 x2 x3 x4) (FLoop (FLoop (FRet injI) 58 (fun (t : Int32 × Int32) => [(0, .ref x0), (2, .int t.1), (3, .int t.2)])) 74 (fun (t : Int32 × Int32) => [(0, .ref x0), (2, .int t.1), (3, .int x3), (4, .int t.2)])) := by
  unfold X0_many_b133
  refine J_iinc (v := x4 + 1) (env' := [(4, .int (x4 + 1)), (0, .ref x0), (2, .int x2), (3, .int x3)]) dX0_many_133 3 rfl rfl (by decide) rfl ?_
  refine J_goto (tgt := 74) dX0_many_136 rfl ?_
  exact J_cont [1, 2, 3, 0] rfl
noncomputable def X0_many_b125 (x0 : Nat) (x3 : Int32) (x4 : Int32) (x5 : Int32) (s0 : Int32) (s1 : Int32) : JM Mem (((Int32 ⊕ (Int32 × Int32)) ⊕ (Int32 × Int32)) ⊕ (Int32 × Int32)) :=
  jlet (s0 + s1) fun y21 =>
  jcont (y21, x5 + 1)
theorem j_X0_many_b125 (D : va_G) (dA : Nat → ClassId) (x0 : Nat) (x3 : Int32) (x4 : Int32) (x5 : Int32) (s0 : Int32) (s1 : Int32) : J (PM D dA false) Y_X0_many [(0, .ref x0), (3, .int x3), (4, .int x4), (5, .int x5)] [.int s1, .int s0] 125 (X0_many_b125 x0 x3 x4 x5 s0 s1) (FLoop (FLoop (FLoop (FRet injI) 58 (fun (t : Int32 × Int32) => [(0, .ref x0), (2, .int t.1), (3, .int t.2)])) 74 (fun (t : Int32 × Int32) => [(0, .ref x0), (2, .int t.1), (3, .int x3), (4, .int t.2)])) 89 (fun (t : Int32 × Int32) => [(0, .ref x0), (2, .int t.1), (3, .int x3), (4, .int x4), (5, .int t.2)])) := by
  unfold X0_many_b125
  refine J_iadd dX0_many_125 ?_
  refine J_letI (fun y21 => ?_)
  refine J_istore_n (env' := [(2, .int y21), (0, .ref x0), (3, .int x3), (4, .int x4), (5, .int x5)]) dX0_many_126 rfl (by decide) rfl ?_
  refine J_iinc (v := x5 + 1) (env' := [(5, .int (x5 + 1)), (2, .int y21), (0, .ref x0), (3, .int x3), (4, .int x4)]) dX0_many_127 4 rfl rfl (by decide) rfl ?_
  refine J_goto (tgt := 89) dX0_many_130 rfl ?_
  exact J_cont [2, 1, 3, 4, 0] rfl
noncomputable def X0_many_L89 (x0 : Nat) (x3 : Int32) (x4 : Int32) (x2 : Int32) (x5 : Int32) : JM Mem (((Int32 ⊕ (Int32 × Int32)) ⊕ (Int32 × Int32)) ⊕ (Int32 × Int32)) :=
  jb (jgetA 0 2 x0) fun v14 =>
  jb (jgetI 3 2 v14) fun v15 =>
  if v15 ≤ x5 then
    jinl (X0_many_b133 x0 x2 x3 x4)
  else
  jb (jgetA 0 2 x0) fun v16 =>
  jb (jgetA 3 0 v16) fun v17 =>
  jb (jaldA 6 v17 x3) fun v18 =>
  jb (jaldA 5 v18 x4) fun v19 =>
  jb (jald mI 0 v19 x5) fun v20 =>
  if v20 = 0 then
    X0_many_b125 x0 x3 x4 x5 x2 0
  else
    X0_many_b125 x0 x3 x4 x5 x2 1
theorem j_X0_many_L89 (D : va_G) (dA : Nat → ClassId) (x0 : Nat) (x3 : Int32) (x4 : Int32) (x2 : Int32) (x5 : Int32) : J (PM D dA false) Y_X0_many [(0, .ref x0), (2, .int x2), (3, .int x3), (4, .int x4), (5, .int x5)] [] 89 (X0_many_L89 x0 x3 x4 x2 x5) (FLoop (FLoop (FLoop (FRet injI) 58 (fun (t : Int32 × Int32) => [(0, .ref x0), (2, .int t.1), (3, .int t.2)])) 74 (fun (t : Int32 × Int32) => [(0, .ref x0), (2, .int t.1), (3, .int x3), (4, .int t.2)])) 89 (fun (t : Int32 × Int32) => [(0, .ref x0), (2, .int t.1), (3, .int x3), (4, .int x4), (5, .int t.2)])) := by
  unfold X0_many_L89
  refine J_iload dX0_many_89 4 rfl ?_
  refine J_aload_n dX0_many_91 rfl 0 rfl ?_
  refine J_getA dX0_many_92 fl_X0_30 rfl (fun v14 => ?_)
  refine J_getI dX0_many_95 fl_X0_196 rfl (fun v15 => ?_)
  refine J_icmp_ge (tgt := 133) dX0_many_98 rfl ?_ ?_
  · refine J_inl ?_
    refine J_sub [0, 1, 2, 3] rfl ?_
    exact j_X0_many_b133 D dA x0 x2 x3 x4
  refine J_iload_n dX0_many_101 rfl 1 rfl ?_
  refine J_aload_n dX0_many_102 rfl 0 rfl ?_
  refine J_getA dX0_many_103 fl_X0_30 rfl (fun v16 => ?_)
  refine J_getA dX0_many_106 fl_X0_256 rfl (fun v17 => ?_)
  refine J_iload_n dX0_many_109 rfl 2 rfl ?_
  refine J_aald dX0_many_110 rfl (by decide) (fun v18 => ?_)
  refine J_iload dX0_many_111 3 rfl ?_
  refine J_aald dX0_many_113 rfl (by decide) (fun v19 => ?_)
  refine J_iload dX0_many_114 4 rfl ?_
  refine J_iald dX0_many_116 (fun v20 => ?_)
  refine J_if_ne (tgt := 124) dX0_many_117 rfl ?_ ?_
  · refine J_iconst (v := 1) dX0_many_124 (by decide) ?_
    refine J_sub [0, 2, 3, 4] rfl ?_
    exact j_X0_many_b125 D dA x0 x3 x4 x5 x2 1
  refine J_iconst (v := 0) dX0_many_120 (by decide) ?_
  refine J_goto (tgt := 125) dX0_many_121 rfl ?_
  refine J_sub [0, 2, 3, 4] rfl ?_
  exact j_X0_many_b125 D dA x0 x3 x4 x5 x2 0
noncomputable def X0_many_L74 (x0 : Nat) (x3 : Int32) (x2 : Int32) (x4 : Int32) : JM Mem ((Int32 ⊕ (Int32 × Int32)) ⊕ (Int32 × Int32)) :=
  jb (jgetA 0 2 x0) fun v12 =>
  jb (jgetI 3 2 v12) fun v13 =>
  if v13 ≤ x4 then
    jinl (X0_many_b139 x0 x2 x3)
  else
    jloop (fun (t : Int32 × Int32) => X0_many_L89 x0 x3 x4 t.1 t.2) (x2, 0)
theorem j_X0_many_L74 (D : va_G) (dA : Nat → ClassId) (x0 : Nat) (x3 : Int32) (x2 : Int32) (x4 : Int32) : J (PM D dA false) Y_X0_many [(0, .ref x0), (2, .int x2), (3, .int x3), (4, .int x4)] [] 74 (X0_many_L74 x0 x3 x2 x4) (FLoop (FLoop (FRet injI) 58 (fun (t : Int32 × Int32) => [(0, .ref x0), (2, .int t.1), (3, .int t.2)])) 74 (fun (t : Int32 × Int32) => [(0, .ref x0), (2, .int t.1), (3, .int x3), (4, .int t.2)])) := by
  unfold X0_many_L74
  refine J_iload dX0_many_74 3 rfl ?_
  refine J_aload_n dX0_many_76 rfl 0 rfl ?_
  refine J_getA dX0_many_77 fl_X0_30 rfl (fun v12 => ?_)
  refine J_getI dX0_many_80 fl_X0_196 rfl (fun v13 => ?_)
  refine J_icmp_ge (tgt := 139) dX0_many_83 rfl ?_ ?_
  · refine J_inl ?_
    refine J_sub [0, 1, 2] rfl ?_
    exact j_X0_many_b139 D dA x0 x2 x3
  refine J_iconst (v := 0) dX0_many_86 (by decide) ?_
  refine J_istore (env' := [(5, .int 0), (0, .ref x0), (2, .int x2), (3, .int x3), (4, .int x4)]) dX0_many_87 (by decide) rfl ?_
  refine J_loop (he := fun (t : Int32 × Int32) => [(0, .ref x0), (2, .int t.1), (3, .int x3), (4, .int x4), (5, .int t.2)]) [1, 2, 3, 4, 0] rfl (fun t => ?_)
  exact j_X0_many_L89 D dA x0 x3 x4 t.1 t.2
noncomputable def X0_many_L58 (x0 : Nat) (x2 : Int32) (x3 : Int32) : JM Mem (Int32 ⊕ (Int32 × Int32)) :=
  jb (jgetA 0 2 x0) fun v8 =>
  jb (jgetI 3 2 v8) fun v9 =>
  if v9 ≤ x3 then
    jinl (X0_many_b145 x0 x2)
  else
  jlet (x3 + 1) fun y11 =>
  jloop (fun (t : Int32 × Int32) => X0_many_L74 x0 x3 t.1 t.2) (x2, y11)
theorem j_X0_many_L58 (D : va_G) (dA : Nat → ClassId) (x0 : Nat) (x2 : Int32) (x3 : Int32) : J (PM D dA false) Y_X0_many [(0, .ref x0), (2, .int x2), (3, .int x3)] [] 58 (X0_many_L58 x0 x2 x3) (FLoop (FRet injI) 58 (fun (t : Int32 × Int32) => [(0, .ref x0), (2, .int t.1), (3, .int t.2)])) := by
  unfold X0_many_L58
  refine J_iload_n dX0_many_58 rfl 2 rfl ?_
  refine J_aload_n dX0_many_59 rfl 0 rfl ?_
  refine J_getA dX0_many_60 fl_X0_30 rfl (fun v8 => ?_)
  refine J_getI dX0_many_63 fl_X0_196 rfl (fun v9 => ?_)
  refine J_icmp_ge (tgt := 145) dX0_many_66 rfl ?_ ?_
  · refine J_inl ?_
    refine J_sub [0, 1] rfl ?_
    exact j_X0_many_b145 D dA x0 x2
  refine J_iload_n dX0_many_69 rfl 2 rfl ?_
  refine J_iconst (v := 1) dX0_many_70 (by decide) ?_
  refine J_iadd dX0_many_71 ?_
  refine J_letI (fun y11 => ?_)
  refine J_istore (env' := [(4, .int y11), (0, .ref x0), (2, .int x2), (3, .int x3)]) dX0_many_72 (by decide) rfl ?_
  refine J_loop (he := fun (t : Int32 × Int32) => [(0, .ref x0), (2, .int t.1), (3, .int x3), (4, .int t.2)]) [1, 2, 3, 0] rfl (fun t => ?_)
  exact j_X0_many_L74 D dA x0 x3 t.1 t.2
noncomputable def X0_many_b183 (x0 : Nat) (x2 : Int32) : JM Mem Int32 :=
  jb (jcall 0 x0 (f_X0_gives x0 x2)) fun v22 =>
  jp v22
theorem j_X0_many_b183 (D : va_G) (dA : Nat → ClassId) (x0 : Nat) (x2 : Int32) : J (PM D dA false) Y_X0_many [(0, .ref x0), (2, .int x2)] [] 183 (X0_many_b183 x0 x2) (FRet injI) := by
  unfold X0_many_b183
  refine J_aload_n dX0_many_183 rfl 0 rfl ?_
  refine J_iload_n dX0_many_184 rfl 1 rfl ?_
  refine J_callVI (c := 0) (as := [.int x2]) dX0_many_185 (by decide) rfl (Nat.le_of_ble_eq_true rfl) (cw_X0_gives _ (by decide)) q944 q946 qs9 q947 np_X0_gives (i_X0_gives x0 x2) jad_id rfl (fun v22 => ?_)
  exact J_ireturn dX0_many_188 rfl
noncomputable def X0_many_b175 (x0 : Nat) (x3 : Int32) (s0 : Int32) (s1 : Int32) : JM Mem (Int32 ⊕ (Int32 × Int32)) :=
  jlet (s0 ||| s1) fun y25 =>
  jcont (y25, x3 + 1)
theorem j_X0_many_b175 (D : va_G) (dA : Nat → ClassId) (x0 : Nat) (x3 : Int32) (s0 : Int32) (s1 : Int32) : J (PM D dA false) Y_X0_many [(0, .ref x0), (3, .int x3)] [.int s1, .int s0] 175 (X0_many_b175 x0 x3 s0 s1) (FLoop (FRet injI) 153 (fun (t : Int32 × Int32) => [(0, .ref x0), (2, .int t.1), (3, .int t.2)])) := by
  unfold X0_many_b175
  refine J_ior dX0_many_175 ?_
  refine J_letI (fun y25 => ?_)
  refine J_istore_n (env' := [(2, .int y25), (0, .ref x0), (3, .int x3)]) dX0_many_176 rfl (by decide) rfl ?_
  refine J_iinc (v := x3 + 1) (env' := [(3, .int (x3 + 1)), (2, .int y25), (0, .ref x0)]) dX0_many_177 2 rfl rfl (by decide) rfl ?_
  refine J_goto (tgt := 153) dX0_many_180 rfl ?_
  exact J_cont [2, 1, 0] rfl
noncomputable def X0_many_L153 (x0 : Nat) (x2 : Int32) (x3 : Int32) : JM Mem (Int32 ⊕ (Int32 × Int32)) :=
  if 4 ≤ x3 then
    jinl (X0_many_b183 x0 x2)
  else
  jb (jgetA 0 5 x0) fun v23 =>
  jb (jald mI 4 v23 x3) fun v24 =>
  if v24 = 0 then
    X0_many_b175 x0 x3 x2 0
  else
    X0_many_b175 x0 x3 x2 ((1 : Int32) <<< (x3 &&& 31))
theorem j_X0_many_L153 (D : va_G) (dA : Nat → ClassId) (x0 : Nat) (x2 : Int32) (x3 : Int32) : J (PM D dA false) Y_X0_many [(0, .ref x0), (2, .int x2), (3, .int x3)] [] 153 (X0_many_L153 x0 x2 x3) (FLoop (FRet injI) 153 (fun (t : Int32 × Int32) => [(0, .ref x0), (2, .int t.1), (3, .int t.2)])) := by
  unfold X0_many_L153
  refine J_iload_n dX0_many_153 rfl 2 rfl ?_
  refine J_iconst (v := 4) dX0_many_154 (by decide) ?_
  refine J_icmp_ge (tgt := 183) dX0_many_155 rfl ?_ ?_
  · refine J_inl ?_
    refine J_sub [0, 1] rfl ?_
    exact j_X0_many_b183 D dA x0 x2
  refine J_iload_n dX0_many_158 rfl 1 rfl ?_
  refine J_aload_n dX0_many_159 rfl 0 rfl ?_
  refine J_getA dX0_many_160 fl_X0_41 rfl (fun v23 => ?_)
  refine J_iload_n dX0_many_163 rfl 2 rfl ?_
  refine J_zald dX0_many_164 (fun v24 => ?_)
  refine J_if_eq (tgt := 174) dX0_many_165 rfl ?_ ?_
  · refine J_iconst (v := 0) dX0_many_174 (by decide) ?_
    refine J_sub [0, 2] rfl ?_
    exact j_X0_many_b175 D dA x0 x3 x2 0
  refine J_iconst (v := 1) dX0_many_168 (by decide) ?_
  refine J_iload_n dX0_many_169 rfl 2 rfl ?_
  refine J_ishl dX0_many_170 ?_
  refine J_goto (tgt := 175) dX0_many_171 rfl ?_
  refine J_sub [0, 2] rfl ?_
  exact j_X0_many_b175 D dA x0 x3 x2 ((1 : Int32) <<< (x3 &&& 31))
noncomputable def f_X0_many (x0 : Nat) (x1 : Int32) : JM Mem Int32 :=
  jsw x1 0 [
    jb (jgetA 0 2 x0) fun v2 =>
    jb (jgetI 3 1 v2) fun v3 =>
    jb (jcall 0 x0 (f_X0_gives x0 v3)) fun v4 =>
    jp v4,
    jb (jgetA 0 2 x0) fun v5 =>
    jb (jgetI 3 2 v5) fun v6 =>
    jb (jcall 0 x0 (f_X0_gives x0 v6)) fun v7 =>
    jp v7,
    jloop (fun (t : Int32 × Int32) => X0_many_L58 x0 t.1 t.2) (0, 0),
    jloop (fun (t : Int32 × Int32) => X0_many_L153 x0 t.1 t.2) (0, 0)] (
    jb (jcall 0 x0 (f_X0_none x0 5)) fun v1 =>
    jp v1)
set_option maxHeartbeats 8000000 in
theorem j_X0_many (D : va_G) (dA : Nat → ClassId) (x0 : Nat) (x1 : Int32) : J (PM D dA false) Y_X0_many [(0, .ref x0), (1, .int x1)] [] 0 (f_X0_many x0 x1) (FRet injI) := by
  unfold f_X0_many
  refine J_iconst (v := 0) dX0_many_0 (by decide) ?_
  refine J_istore_n (env' := [(2, .int 0), (0, .ref x0), (1, .int x1)]) dX0_many_1 rfl (by decide) rfl ?_
  refine J_iload_n dX0_many_2 rfl 2 rfl ?_
  refine J_tswA [32, 44, 56, 151] dX0_many_3 (tgt := 189) rfl rfl rfl rfl ?_ ⟨?_, ?_, ?_, ?_, trivial⟩
  · refine J_aload_n dX0_many_189 rfl 1 rfl ?_
    refine J_iconst (v := 5) dX0_many_190 (by decide) ?_
    refine J_callVI (c := 0) (as := [.int 5]) dX0_many_191 (by decide) rfl (Nat.le_of_ble_eq_true rfl) (cw_X0_none _ (by decide)) q729 q731 qs3 q732 np_X0_none (i_X0_none x0 5) jad_id rfl (fun v1 => ?_)
    exact J_ireturn dX0_many_194 rfl
  · refine J_aload_n dX0_many_32 rfl 1 rfl ?_
    refine J_aload_n dX0_many_33 rfl 1 rfl ?_
    refine J_getA dX0_many_34 fl_X0_30 rfl (fun v2 => ?_)
    refine J_getI dX0_many_37 fl_X0_253 rfl (fun v3 => ?_)
    refine J_callVI (c := 0) (as := [.int v3]) dX0_many_40 (by decide) rfl (Nat.le_of_ble_eq_true rfl) (cw_X0_gives _ (by decide)) q944 q946 qs9 q947 np_X0_gives (i_X0_gives x0 v3) jad_id rfl (fun v4 => ?_)
    exact J_ireturn dX0_many_43 rfl
  · refine J_aload_n dX0_many_44 rfl 1 rfl ?_
    refine J_aload_n dX0_many_45 rfl 1 rfl ?_
    refine J_getA dX0_many_46 fl_X0_30 rfl (fun v5 => ?_)
    refine J_getI dX0_many_49 fl_X0_196 rfl (fun v6 => ?_)
    refine J_callVI (c := 0) (as := [.int v6]) dX0_many_52 (by decide) rfl (Nat.le_of_ble_eq_true rfl) (cw_X0_gives _ (by decide)) q944 q946 qs9 q947 np_X0_gives (i_X0_gives x0 v6) jad_id rfl (fun v7 => ?_)
    exact J_ireturn dX0_many_55 rfl
  · refine J_iconst (v := 0) dX0_many_56 (by decide) ?_
    refine J_istore_n (env' := [(3, .int 0), (2, .int 0), (0, .ref x0), (1, .int x1)]) dX0_many_57 rfl (by decide) rfl ?_
    refine J_loop (he := fun (t : Int32 × Int32) => [(0, .ref x0), (2, .int t.1), (3, .int t.2)]) [2, 1, 0] rfl (fun t => ?_)
    exact j_X0_many_L58 D dA x0 t.1 t.2
  · refine J_iconst (v := 0) dX0_many_151 (by decide) ?_
    refine J_istore_n (env' := [(3, .int 0), (2, .int 0), (0, .ref x0), (1, .int x1)]) dX0_many_152 rfl (by decide) rfl ?_
    refine J_loop (he := fun (t : Int32 × Int32) => [(0, .ref x0), (2, .int t.1), (3, .int t.2)]) [2, 1, 0] rfl (fun t => ?_)
    exact j_X0_many_L153 D dA x0 t.1 t.2
theorem i_X0_many (x0 : Nat) (x1 : Int32) : Impl (ws_ yX0_many cX0_many 6 (some .int)) yX0_many 2 false 0 0 [.ref x0, .int x1] (f_X0_many x0 x1) injI := impl_of (plainFor_of_name (by decide)) (Nat.le_of_ble_eq_true rfl) (fun D dA => j_X0_many D dA x0 x1)
theorem cw_X0_many (Y : JY) (h : 3 ≤ Y.2.2.2.1) : JCw Y (ws_ yX0_many cX0_many 6 (some .int)) yX0_many cX0_many 6 (some .int) 2 := ⟨h, by decide, lw_meth q1018, q187, by decide, by decide⟩
theorem np_X0_many : JNp yX0_many.desc 1 := by decide +kernel
-- BracketRoom.isBase(I)Z
abbrev Y_X0_isBase : JY := (cX0_isBase, yX0_isBase.cls, 2, 1, yX0_isBase.name, (some .boolean), [])
noncomputable def f_X0_isBase (x0 : Nat) (x1 : Int32) : JM Mem Int32 :=
  if x1 < 0 then
    jp 0
  else
  jb (jgetA 0 2 x0) fun v1 =>
  jb (jgetI 3 2 v1) fun v2 =>
  if v2 ≤ x1 then
    jp 0
  else
    jp 1
theorem j_X0_isBase (D : va_G) (dA : Nat → ClassId) (x0 : Nat) (x1 : Int32) : J (PM D dA false) Y_X0_isBase [(0, .ref x0), (1, .int x1)] [] 0 (f_X0_isBase x0 x1) (FRet injI) := by
  unfold f_X0_isBase
  refine J_iload_n dX0_isBase_0 rfl 1 rfl ?_
  refine J_if_lt (tgt := 19) dX0_isBase_1 rfl ?_ ?_
  · refine J_iconst (v := 0) dX0_isBase_19 (by decide) ?_
    exact J_zreturn0 dX0_isBase_20 rfl
  refine J_iload_n dX0_isBase_4 rfl 1 rfl ?_
  refine J_aload_n dX0_isBase_5 rfl 0 rfl ?_
  refine J_getA dX0_isBase_6 fl_X0_30 rfl (fun v1 => ?_)
  refine J_getI dX0_isBase_9 fl_X0_196 rfl (fun v2 => ?_)
  refine J_icmp_ge (tgt := 19) dX0_isBase_12 rfl ?_ ?_
  · refine J_iconst (v := 0) dX0_isBase_19 (by decide) ?_
    exact J_zreturn0 dX0_isBase_20 rfl
  refine J_iconst (v := 1) dX0_isBase_15 (by decide) ?_
  refine J_goto (tgt := 20) dX0_isBase_16 rfl ?_
  exact J_zreturn1 dX0_isBase_20 rfl
theorem i_X0_isBase (x0 : Nat) (x1 : Int32) : Impl (ws_ yX0_isBase cX0_isBase 2 (some .boolean)) yX0_isBase 1 false 0 0 [.ref x0, .int x1] (f_X0_isBase x0 x1) injI := impl_of (plainFor_of_name (by decide)) (Nat.le_of_ble_eq_true rfl) (fun D dA => j_X0_isBase D dA x0 x1)
theorem cw_X0_isBase (Y : JY) (h : 2 ≤ Y.2.2.2.1) : JCw Y (ws_ yX0_isBase cX0_isBase 2 (some .boolean)) yX0_isBase cX0_isBase 2 (some .boolean) 1 := ⟨h, by decide, lw_meth q1026, q187, by decide, by decide⟩
theorem np_X0_isBase : JNp yX0_isBase.desc 1 := by decide +kernel
-- BracketRoom.constant(III)I
abbrev Y_X0_constant : JY := (cX0_constant, yX0_constant.cls, 4, 2, yX0_constant.name, (some .int), [])
noncomputable def X0_constant_b44 (x0 : Nat) : JM Mem Int32 :=
  jb (jcall 0 x0 (f_X0_none x0 2)) fun v2 =>
  jp v2
theorem j_X0_constant_b44 (D : va_G) (dA : Nat → ClassId) (x0 : Nat) : J (PM D dA false) Y_X0_constant [(0, .ref x0)] [] 44 (X0_constant_b44 x0) (FRet injI) := by
  unfold X0_constant_b44
  refine J_aload_n dX0_constant_44 rfl 0 rfl ?_
  refine J_iconst (v := 2) dX0_constant_45 (by decide) ?_
  refine J_callVI (c := 0) (as := [.int 2]) dX0_constant_46 (by decide) rfl (Nat.le_of_ble_eq_true rfl) (cw_X0_none _ (by decide)) q729 q731 qs3 q732 np_X0_none (i_X0_none x0 2) jad_id rfl (fun v2 => ?_)
  exact J_ireturn dX0_constant_49 rfl
noncomputable def f_X0_constant (x0 : Nat) (x1 : Int32) (x2 : Int32) (x3 : Int32) : JM Mem Int32 :=
  jb (jcall 0 x0 (f_X0_isBase x0 x1)) fun v1 =>
  if v1 = 0 then
    X0_constant_b44 x0
  else
  jb (jcall 0 x0 (f_X0_isBase x0 x2)) fun v3 =>
  if v3 = 0 then
    X0_constant_b44 x0
  else
  jb (jcall 0 x0 (f_X0_isBase x0 x3)) fun v4 =>
  if v4 = 0 then
    X0_constant_b44 x0
  else
  jb (jgetA 0 2 x0) fun v5 =>
  jb (jgetA 3 0 v5) fun v6 =>
  jb (jaldA 6 v6 x1) fun v7 =>
  jb (jaldA 5 v7 x2) fun v8 =>
  jb (jald mI 0 v8 x3) fun v9 =>
  jb (jcall 0 x0 (f_X0_gives x0 v9)) fun v10 =>
  jp v10
theorem j_X0_constant (D : va_G) (dA : Nat → ClassId) (x0 : Nat) (x1 : Int32) (x2 : Int32) (x3 : Int32) : J (PM D dA false) Y_X0_constant [(0, .ref x0), (1, .int x1), (2, .int x2), (3, .int x3)] [] 0 (f_X0_constant x0 x1 x2 x3) (FRet injI) := by
  unfold f_X0_constant
  refine J_aload_n dX0_constant_0 rfl 0 rfl ?_
  refine J_iload_n dX0_constant_1 rfl 1 rfl ?_
  refine J_callVI (c := 0) (as := [.int x1]) dX0_constant_2 (by decide) rfl (Nat.le_of_ble_eq_true rfl) (cw_X0_isBase _ (by decide)) q1023 q1025 qs13 q1026 np_X0_isBase (i_X0_isBase x0 x1) jad_id rfl (fun v1 => ?_)
  refine J_if_eq (tgt := 44) dX0_constant_5 rfl ?_ ?_
  · refine J_sub [0] rfl ?_
    exact j_X0_constant_b44 D dA x0
  refine J_aload_n dX0_constant_8 rfl 0 rfl ?_
  refine J_iload_n dX0_constant_9 rfl 2 rfl ?_
  refine J_callVI (c := 0) (as := [.int x2]) dX0_constant_10 (by decide) rfl (Nat.le_of_ble_eq_true rfl) (cw_X0_isBase _ (by decide)) q1023 q1025 qs13 q1026 np_X0_isBase (i_X0_isBase x0 x2) jad_id rfl (fun v3 => ?_)
  refine J_if_eq (tgt := 44) dX0_constant_13 rfl ?_ ?_
  · refine J_sub [0] rfl ?_
    exact j_X0_constant_b44 D dA x0
  refine J_aload_n dX0_constant_16 rfl 0 rfl ?_
  refine J_iload_n dX0_constant_17 rfl 3 rfl ?_
  refine J_callVI (c := 0) (as := [.int x3]) dX0_constant_18 (by decide) rfl (Nat.le_of_ble_eq_true rfl) (cw_X0_isBase _ (by decide)) q1023 q1025 qs13 q1026 np_X0_isBase (i_X0_isBase x0 x3) jad_id rfl (fun v4 => ?_)
  refine J_if_eq (tgt := 44) dX0_constant_21 rfl ?_ ?_
  · refine J_sub [0] rfl ?_
    exact j_X0_constant_b44 D dA x0
  refine J_aload_n dX0_constant_24 rfl 0 rfl ?_
  refine J_aload_n dX0_constant_25 rfl 0 rfl ?_
  refine J_getA dX0_constant_26 fl_X0_30 rfl (fun v5 => ?_)
  refine J_getA dX0_constant_29 fl_X0_256 rfl (fun v6 => ?_)
  refine J_iload_n dX0_constant_32 rfl 1 rfl ?_
  refine J_aald dX0_constant_33 rfl (by decide) (fun v7 => ?_)
  refine J_iload_n dX0_constant_34 rfl 2 rfl ?_
  refine J_aald dX0_constant_35 rfl (by decide) (fun v8 => ?_)
  refine J_iload_n dX0_constant_36 rfl 3 rfl ?_
  refine J_iald dX0_constant_37 (fun v9 => ?_)
  refine J_callVI (c := 0) (as := [.int v9]) dX0_constant_38 (by decide) rfl (Nat.le_of_ble_eq_true rfl) (cw_X0_gives _ (by decide)) q944 q946 qs9 q947 np_X0_gives (i_X0_gives x0 v9) jad_id rfl (fun v10 => ?_)
  refine J_goto (tgt := 49) dX0_constant_41 rfl ?_
  exact J_ireturn dX0_constant_49 rfl
theorem i_X0_constant (x0 : Nat) (x1 : Int32) (x2 : Int32) (x3 : Int32) : Impl (ws_ yX0_constant cX0_constant 4 (some .int)) yX0_constant 2 false 0 0 [.ref x0, .int x1, .int x2, .int x3] (f_X0_constant x0 x1 x2 x3) injI := impl_of (plainFor_of_name (by decide)) (Nat.le_of_ble_eq_true rfl) (fun D dA => j_X0_constant D dA x0 x1 x2 x3)
theorem cw_X0_constant (Y : JY) (h : 3 ≤ Y.2.2.2.1) : JCw Y (ws_ yX0_constant cX0_constant 4 (some .int)) yX0_constant cX0_constant 4 (some .int) 2 := ⟨h, by decide, lw_meth q1022, q187, by decide, by decide⟩
theorem np_X0_constant : JNp yX0_constant.desc 3 := by decide +kernel
-- BracketRoom.put(IIII)Z
abbrev Y_X0_put : JY := (cX0_put, yX0_put.cls, 5, 4, yX0_put.name, (some .boolean), [])
noncomputable def X0_put_b24 (x0 : Nat) : JM Mem Int32 :=
  jb (jcall 0 x0 (f_X0_is0 x0 2)) fun v2 =>
  jrz v2
theorem j_X0_put_b24 (D : va_G) (dA : Nat → ClassId) (x0 : Nat) : J (PM D dA false) Y_X0_put [(0, .ref x0)] [] 24 (X0_put_b24 x0) (FRet injI) := by
  unfold X0_put_b24
  refine J_aload_n dX0_put_24 rfl 0 rfl ?_
  refine J_iconst (v := 2) dX0_put_25 (by decide) ?_
  refine J_callVI (c := 0) (as := [.int 2]) dX0_put_26 (by decide) rfl (Nat.le_of_ble_eq_true rfl) (cw_X0_is0 _ (by decide)) q659 q661 qs2 q662 np_X0_is0 (i_X0_is0 x0 2) jad_id rfl (fun v2 => ?_)
  exact J_zreturn dX0_put_29 rfl
noncomputable def X0_put_b52 (x0 : Nat) : JM Mem Int32 :=
  jb (jcall 0 x0 (f_X0_is0 x0 5)) fun v5 =>
  jrz v5
theorem j_X0_put_b52 (D : va_G) (dA : Nat → ClassId) (x0 : Nat) : J (PM D dA false) Y_X0_put [(0, .ref x0)] [] 52 (X0_put_b52 x0) (FRet injI) := by
  unfold X0_put_b52
  refine J_aload_n dX0_put_52 rfl 0 rfl ?_
  refine J_iconst (v := 5) dX0_put_53 (by decide) ?_
  refine J_callVI (c := 0) (as := [.int 5]) dX0_put_54 (by decide) rfl (Nat.le_of_ble_eq_true rfl) (cw_X0_is0 _ (by decide)) q659 q661 qs2 q662 np_X0_is0 (i_X0_is0 x0 5) jad_id rfl (fun v5 => ?_)
  exact J_zreturn dX0_put_57 rfl
noncomputable def f_X0_put (x0 : Nat) (x1 : Int32) (x2 : Int32) (x3 : Int32) (x4 : Int32) : JM Mem Int32 :=
  jb (jcall 0 x0 (f_X0_isBase x0 x1)) fun v1 =>
  if v1 = 0 then
    X0_put_b24 x0
  else
  jb (jcall 0 x0 (f_X0_isBase x0 x2)) fun v3 =>
  if v3 = 0 then
    X0_put_b24 x0
  else
  jb (jcall 0 x0 (f_X0_isBase x0 x3)) fun v4 =>
  if v4 = 0 then
    X0_put_b24 x0
  else
  if x2 ≤ x1 then
    X0_put_b52 x0
  else
  if x4 < 0 then
    X0_put_b52 x0
  else
  jb (jgetA 0 2 x0) fun v6 =>
  jb (jgetI 3 1 v6) fun v7 =>
  if x4 < v7 then
    jb (jgetA 0 2 x0) fun v8 =>
    jb (jcall 3 v8 (f_X4_set v8 x1 x2 x3 x4)) fun _ =>
    jb (jcall 0 x0 (f_X0_is0 x0 0)) fun v9 =>
    jrz v9
  else
    X0_put_b52 x0
theorem j_X0_put (D : va_G) (dA : Nat → ClassId) (x0 : Nat) (x1 : Int32) (x2 : Int32) (x3 : Int32) (x4 : Int32) : J (PM D dA false) Y_X0_put [(0, .ref x0), (1, .int x1), (2, .int x2), (3, .int x3), (4, .int x4)] [] 0 (f_X0_put x0 x1 x2 x3 x4) (FRet injI) := by
  unfold f_X0_put
  refine J_aload_n dX0_put_0 rfl 0 rfl ?_
  refine J_iload_n dX0_put_1 rfl 1 rfl ?_
  refine J_callVI (c := 0) (as := [.int x1]) dX0_put_2 (by decide) rfl (Nat.le_of_ble_eq_true rfl) (cw_X0_isBase _ (by decide)) q1023 q1025 qs13 q1026 np_X0_isBase (i_X0_isBase x0 x1) jad_id rfl (fun v1 => ?_)
  refine J_if_eq (tgt := 24) dX0_put_5 rfl ?_ ?_
  · refine J_sub [0] rfl ?_
    exact j_X0_put_b24 D dA x0
  refine J_aload_n dX0_put_8 rfl 0 rfl ?_
  refine J_iload_n dX0_put_9 rfl 2 rfl ?_
  refine J_callVI (c := 0) (as := [.int x2]) dX0_put_10 (by decide) rfl (Nat.le_of_ble_eq_true rfl) (cw_X0_isBase _ (by decide)) q1023 q1025 qs13 q1026 np_X0_isBase (i_X0_isBase x0 x2) jad_id rfl (fun v3 => ?_)
  refine J_if_eq (tgt := 24) dX0_put_13 rfl ?_ ?_
  · refine J_sub [0] rfl ?_
    exact j_X0_put_b24 D dA x0
  refine J_aload_n dX0_put_16 rfl 0 rfl ?_
  refine J_iload_n dX0_put_17 rfl 3 rfl ?_
  refine J_callVI (c := 0) (as := [.int x3]) dX0_put_18 (by decide) rfl (Nat.le_of_ble_eq_true rfl) (cw_X0_isBase _ (by decide)) q1023 q1025 qs13 q1026 np_X0_isBase (i_X0_isBase x0 x3) jad_id rfl (fun v4 => ?_)
  refine J_if_ne (tgt := 30) dX0_put_21 rfl ?_ ?_
  · refine J_iload_n dX0_put_30 rfl 1 rfl ?_
    refine J_iload_n dX0_put_31 rfl 2 rfl ?_
    refine J_icmp_ge (tgt := 52) dX0_put_32 rfl ?_ ?_
    · refine J_sub [0] rfl ?_
      exact j_X0_put_b52 D dA x0
    refine J_iload dX0_put_35 4 rfl ?_
    refine J_if_lt (tgt := 52) dX0_put_37 rfl ?_ ?_
    · refine J_sub [0] rfl ?_
      exact j_X0_put_b52 D dA x0
    refine J_iload dX0_put_40 4 rfl ?_
    refine J_aload_n dX0_put_42 rfl 0 rfl ?_
    refine J_getA dX0_put_43 fl_X0_30 rfl (fun v6 => ?_)
    refine J_getI dX0_put_46 fl_X0_253 rfl (fun v7 => ?_)
    refine J_icmp_lt (tgt := 58) dX0_put_49 rfl ?_ ?_
    · refine J_aload_n dX0_put_58 rfl 0 rfl ?_
      refine J_getA dX0_put_59 fl_X0_30 rfl (fun v8 => ?_)
      refine J_iload_n dX0_put_62 rfl 1 rfl ?_
      refine J_iload_n dX0_put_63 rfl 2 rfl ?_
      refine J_iload_n dX0_put_64 rfl 3 rfl ?_
      refine J_iload dX0_put_65 4 rfl ?_
      refine J_callVV (c := 3) (as := [.int x1, .int x2, .int x3, .int x4]) dX0_put_67 (by decide) rfl (Nat.le_of_ble_eq_true rfl) (cw_X4_set _ (by decide)) q1031 q925 q926 q927 np_X4_set (i_X4_set v8 x1 x2 x3 x4) jad_id rfl ?_
      refine J_aload_n dX0_put_70 rfl 0 rfl ?_
      refine J_iconst (v := 0) dX0_put_71 (by decide) ?_
      refine J_callVI (c := 0) (as := [.int 0]) dX0_put_72 (by decide) rfl (Nat.le_of_ble_eq_true rfl) (cw_X0_is0 _ (by decide)) q659 q661 qs2 q662 np_X0_is0 (i_X0_is0 x0 0) jad_id rfl (fun v9 => ?_)
      exact J_zreturn dX0_put_75 rfl
    refine J_sub [0] rfl ?_
    exact j_X0_put_b52 D dA x0
  refine J_sub [0] rfl ?_
  exact j_X0_put_b24 D dA x0
theorem i_X0_put (x0 : Nat) (x1 : Int32) (x2 : Int32) (x3 : Int32) (x4 : Int32) : Impl (ws_ yX0_put cX0_put 5 (some .boolean)) yX0_put 4 false 0 0 [.ref x0, .int x1, .int x2, .int x3, .int x4] (f_X0_put x0 x1 x2 x3 x4) injI := impl_of (plainFor_of_name (by decide)) (Nat.le_of_ble_eq_true rfl) (fun D dA => j_X0_put D dA x0 x1 x2 x3 x4)
theorem cw_X0_put (Y : JY) (h : 5 ≤ Y.2.2.2.1) : JCw Y (ws_ yX0_put cX0_put 5 (some .boolean)) yX0_put cX0_put 5 (some .boolean) 4 := ⟨h, by decide, lw_meth q1030, q187, by decide, by decide⟩
theorem np_X0_put : JNp yX0_put.desc 4 := by decide +kernel
-- BracketRoom.isVector(J)Z
abbrev Y_X0_isVector : JY := (cX0_isVector, yX0_isVector.cls, 3, 2, yX0_isVector.name, (some .boolean), [])
noncomputable def f_X0_isVector (x0 : Nat) (x1 : Int64) : JM Mem Int32 :=
  if x1 < (0 : Int64) then
    jp 0
  else
  jb (jgetA 0 2 x0) fun v1 =>
  jb (jcall 3 v1 (f_X4_vectors v1)) fun v2 =>
  if (v2 : Int32).toInt64 ≤ x1 then
    jp 0
  else
    jp 1
theorem j_X0_isVector (D : va_G) (dA : Nat → ClassId) (x0 : Nat) (x1 : Int64) : J (PM D dA false) Y_X0_isVector [(0, .ref x0), (1, .long x1)] [] 0 (f_X0_isVector x0 x1) (FRet injI) := by
  unfold f_X0_isVector
  refine J_lload_n dX0_isVector_0 rfl 1 rfl ?_
  refine J_lconst (v := 0) dX0_isVector_1 (by decide) ?_
  refine J_lcmp_lt (tgt := 23) dX0_isVector_2 dX0_isVector_3 rfl ?_ ?_
  · refine J_iconst (v := 0) dX0_isVector_23 (by decide) ?_
    exact J_zreturn0 dX0_isVector_24 rfl
  refine J_lload_n dX0_isVector_6 rfl 1 rfl ?_
  refine J_aload_n dX0_isVector_7 rfl 0 rfl ?_
  refine J_getA dX0_isVector_8 fl_X0_30 rfl (fun v1 => ?_)
  refine J_callVI (c := 3) (as := []) dX0_isVector_11 (by decide) rfl (Nat.le_of_ble_eq_true rfl) (cw_X4_vectors _ (by decide)) q1040 q1041 q1042 q1043 np_X4_vectors (i_X4_vectors v1) jad_id rfl (fun v2 => ?_)
  refine J_i2l dX0_isVector_14 ?_
  refine J_lcmp_ge (tgt := 23) dX0_isVector_15 dX0_isVector_16 rfl ?_ ?_
  · refine J_iconst (v := 0) dX0_isVector_23 (by decide) ?_
    exact J_zreturn0 dX0_isVector_24 rfl
  refine J_iconst (v := 1) dX0_isVector_19 (by decide) ?_
  refine J_goto (tgt := 24) dX0_isVector_20 rfl ?_
  exact J_zreturn1 dX0_isVector_24 rfl
theorem i_X0_isVector (x0 : Nat) (x1 : Int64) : Impl (ws_ yX0_isVector cX0_isVector 3 (some .boolean)) yX0_isVector 2 false 0 0 [.ref x0, .long x1] (f_X0_isVector x0 x1) injI := impl_of (plainFor_of_name (by decide)) (Nat.le_of_ble_eq_true rfl) (fun D dA => j_X0_isVector D dA x0 x1)
theorem cw_X0_isVector (Y : JY) (h : 3 ≤ Y.2.2.2.1) : JCw Y (ws_ yX0_isVector cX0_isVector 3 (some .boolean)) yX0_isVector cX0_isVector 3 (some .boolean) 2 := ⟨h, by decide, lw_meth q1039, q187, by decide, by decide⟩
theorem np_X0_isVector : JNp yX0_isVector.desc 1 := by decide +kernel
-- BracketRoom.bracket(II)I
abbrev Y_X0_bracket : JY := (cX0_bracket, yX0_bracket.cls, 3, 4, yX0_bracket.name, (some .int), [])
noncomputable def X0_bracket_b18 (x0 : Nat) : JM Mem Int32 :=
  jb (jcall 0 x0 (f_X0_none x0 2)) fun v2 =>
  jp v2
theorem j_X0_bracket_b18 (D : va_G) (dA : Nat → ClassId) (x0 : Nat) : J (PM D dA false) Y_X0_bracket [(0, .ref x0)] [] 18 (X0_bracket_b18 x0) (FRet injI) := by
  unfold X0_bracket_b18
  refine J_aload_n dX0_bracket_18 rfl 0 rfl ?_
  refine J_iconst (v := 2) dX0_bracket_19 (by decide) ?_
  refine J_callVI (c := 0) (as := [.int 2]) dX0_bracket_20 (by decide) rfl (Nat.le_of_ble_eq_true rfl) (cw_X0_none _ (by decide)) q729 q731 qs3 q732 np_X0_none (i_X0_none x0 2) jad_id rfl (fun v2 => ?_)
  exact J_ireturn dX0_bracket_23 rfl
noncomputable def f_X0_bracket (x0 : Nat) (x1 : Int32) (x2 : Int32) : JM Mem Int32 :=
  jb (jcall 0 x0 (f_X0_isVector x0 ((x1 : Int32).toInt64))) fun v1 =>
  if v1 = 0 then
    X0_bracket_b18 x0
  else
  jb (jcall 0 x0 (f_X0_isVector x0 ((x2 : Int32).toInt64))) fun v3 =>
  if v3 = 0 then
    X0_bracket_b18 x0
  else
  jb (jgetA 0 2 x0) fun v4 =>
  jb (jgetA 0 13 x0) fun v5 =>
  jb (jcall 3 v4 (f_X4_parts v4 x1 v5)) fun _ =>
  jb (jgetA 0 2 x0) fun v6 =>
  jb (jgetA 0 14 x0) fun v7 =>
  jb (jcall 3 v6 (f_X4_parts v6 x2 v7)) fun _ =>
  jb (jgetA 0 2 x0) fun v8 =>
  jb (jgetA 0 13 x0) fun v9 =>
  jb (jgetA 0 14 x0) fun v10 =>
  jb (jgetA 0 15 x0) fun v11 =>
  jb (jcall 3 v8 (f_X4_bracket v8 v9 v10 v11)) fun _ =>
  jb (jgetA 0 2 x0) fun v12 =>
  jb (jgetA 0 15 x0) fun v13 =>
  jb (jcall 3 v12 (f_X4_vector v12 v13)) fun v14 =>
  jb (jcall 0 x0 (f_X0_gives x0 v14)) fun v15 =>
  jp v15
theorem j_X0_bracket (D : va_G) (dA : Nat → ClassId) (x0 : Nat) (x1 : Int32) (x2 : Int32) : J (PM D dA false) Y_X0_bracket [(0, .ref x0), (1, .int x1), (2, .int x2)] [] 0 (f_X0_bracket x0 x1 x2) (FRet injI) := by
  unfold f_X0_bracket
  refine J_aload_n dX0_bracket_0 rfl 0 rfl ?_
  refine J_iload_n dX0_bracket_1 rfl 1 rfl ?_
  refine J_i2l dX0_bracket_2 ?_
  refine J_callVI (c := 0) (as := [.long ((x1 : Int32).toInt64)]) dX0_bracket_3 (by decide) rfl (Nat.le_of_ble_eq_true rfl) (cw_X0_isVector _ (by decide)) q1036 q1038 qs14 q1039 np_X0_isVector (i_X0_isVector x0 ((x1 : Int32).toInt64)) jad_id rfl (fun v1 => ?_)
  refine J_if_eq (tgt := 18) dX0_bracket_6 rfl ?_ ?_
  · refine J_sub [0] rfl ?_
    exact j_X0_bracket_b18 D dA x0
  refine J_aload_n dX0_bracket_9 rfl 0 rfl ?_
  refine J_iload_n dX0_bracket_10 rfl 2 rfl ?_
  refine J_i2l dX0_bracket_11 ?_
  refine J_callVI (c := 0) (as := [.long ((x2 : Int32).toInt64)]) dX0_bracket_12 (by decide) rfl (Nat.le_of_ble_eq_true rfl) (cw_X0_isVector _ (by decide)) q1036 q1038 qs14 q1039 np_X0_isVector (i_X0_isVector x0 ((x2 : Int32).toInt64)) jad_id rfl (fun v3 => ?_)
  refine J_if_ne (tgt := 24) dX0_bracket_15 rfl ?_ ?_
  · refine J_aload_n dX0_bracket_24 rfl 0 rfl ?_
    refine J_getA dX0_bracket_25 fl_X0_30 rfl (fun v4 => ?_)
    refine J_iload_n dX0_bracket_28 rfl 1 rfl ?_
    refine J_aload_n dX0_bracket_29 rfl 0 rfl ?_
    refine J_getA dX0_bracket_30 fl_X0_56 rfl (fun v5 => ?_)
    refine J_callVV (c := 3) (as := [.int x1, .ref v5]) dX0_bracket_33 (by decide) rfl (Nat.le_of_ble_eq_true rfl) (cw_X4_parts _ (by decide)) q1044 q1045 q1046 q1047 np_X4_parts (i_X4_parts v4 x1 v5) jad_id rfl ?_
    refine J_aload_n dX0_bracket_36 rfl 0 rfl ?_
    refine J_getA dX0_bracket_37 fl_X0_30 rfl (fun v6 => ?_)
    refine J_iload_n dX0_bracket_40 rfl 2 rfl ?_
    refine J_aload_n dX0_bracket_41 rfl 0 rfl ?_
    refine J_getA dX0_bracket_42 fl_X0_60 rfl (fun v7 => ?_)
    refine J_callVV (c := 3) (as := [.int x2, .ref v7]) dX0_bracket_45 (by decide) rfl (Nat.le_of_ble_eq_true rfl) (cw_X4_parts _ (by decide)) q1044 q1045 q1046 q1047 np_X4_parts (i_X4_parts v6 x2 v7) jad_id rfl ?_
    refine J_aload_n dX0_bracket_48 rfl 0 rfl ?_
    refine J_getA dX0_bracket_49 fl_X0_30 rfl (fun v8 => ?_)
    refine J_aload_n dX0_bracket_52 rfl 0 rfl ?_
    refine J_getA dX0_bracket_53 fl_X0_56 rfl (fun v9 => ?_)
    refine J_aload_n dX0_bracket_56 rfl 0 rfl ?_
    refine J_getA dX0_bracket_57 fl_X0_60 rfl (fun v10 => ?_)
    refine J_aload_n dX0_bracket_60 rfl 0 rfl ?_
    refine J_getA dX0_bracket_61 fl_X0_63 rfl (fun v11 => ?_)
    refine J_callVV (c := 3) (as := [.ref v9, .ref v10, .ref v11]) dX0_bracket_64 (by decide) rfl (Nat.le_of_ble_eq_true rfl) (cw_X4_bracket _ (by decide)) q1048 q1049 q1050 q1051 np_X4_bracket (i_X4_bracket v8 v9 v10 v11) jad_id rfl ?_
    refine J_aload_n dX0_bracket_67 rfl 0 rfl ?_
    refine J_aload_n dX0_bracket_68 rfl 0 rfl ?_
    refine J_getA dX0_bracket_69 fl_X0_30 rfl (fun v12 => ?_)
    refine J_aload_n dX0_bracket_72 rfl 0 rfl ?_
    refine J_getA dX0_bracket_73 fl_X0_63 rfl (fun v13 => ?_)
    refine J_callVI (c := 3) (as := [.ref v13]) dX0_bracket_76 (by decide) rfl (Nat.le_of_ble_eq_true rfl) (cw_X4_vector _ (by decide)) q1052 q1053 q1054 q1055 np_X4_vector (i_X4_vector v12 v13) jad_id rfl (fun v14 => ?_)
    refine J_callVI (c := 0) (as := [.int v14]) dX0_bracket_79 (by decide) rfl (Nat.le_of_ble_eq_true rfl) (cw_X0_gives _ (by decide)) q944 q946 qs9 q947 np_X0_gives (i_X0_gives x0 v14) jad_id rfl (fun v15 => ?_)
    exact J_ireturn dX0_bracket_82 rfl
  refine J_sub [0] rfl ?_
  exact j_X0_bracket_b18 D dA x0
theorem i_X0_bracket (x0 : Nat) (x1 : Int32) (x2 : Int32) : Impl (ws_ yX0_bracket cX0_bracket 3 (some .int)) yX0_bracket 4 false 0 0 [.ref x0, .int x1, .int x2] (f_X0_bracket x0 x1 x2) injI := impl_of (plainFor_of_name (by decide)) (Nat.le_of_ble_eq_true rfl) (fun D dA => j_X0_bracket D dA x0 x1 x2)
theorem cw_X0_bracket (Y : JY) (h : 5 ≤ Y.2.2.2.1) : JCw Y (ws_ yX0_bracket cX0_bracket 3 (some .int)) yX0_bracket cX0_bracket 3 (some .int) 4 := ⟨h, by decide, lw_meth q1035, q187, by decide, by decide⟩
theorem np_X0_bracket : JNp yX0_bracket.desc 2 := by decide +kernel
-- BracketRoom.keepsLaw(LBracketRoom$World;III)Z
abbrev Y_X0_keepsLaw : JY := (cX0_keepsLaw, yX0_keepsLaw.cls, 7, 3, yX0_keepsLaw.name, (some .boolean), [])
noncomputable def X0_keepsLaw_b112 (x0 : Nat) (x1 : Int32) (x2 : Int32) (x3 : Int32) (x4 : Int32) (x5 : Int32) : JM Mem (Int32 ⊕ (Int32)) :=
  jb (jcall 3 x0 (f_X4_by x0 x5)) fun v3 =>
  if v3 = 0 then
    jcont (x4 + 1)
  else
    jinl (jp 0)
theorem j_X0_keepsLaw_b112 (D : va_G) (dA : Nat → ClassId) (x0 : Nat) (x1 : Int32) (x2 : Int32) (x3 : Int32) (x4 : Int32) (x5 : Int32) : J (PM D dA false) Y_X0_keepsLaw [(0, .ref x0), (1, .int x1), (2, .int x2), (3, .int x3), (4, .int x4), (5, .int x5)] [] 112 (X0_keepsLaw_b112 x0 x1 x2 x3 x4 x5) (FLoop (FRet injI) 3 (fun (t : Int32) => [(0, .ref x0), (1, .int x1), (2, .int x2), (3, .int x3), (4, .int t)])) := by
  unfold X0_keepsLaw_b112
  refine J_aload_n dX0_keepsLaw_112 rfl 0 rfl ?_
  refine J_iload dX0_keepsLaw_113 5 rfl ?_
  refine J_callVI (c := 3) (as := [.int x5]) dX0_keepsLaw_115 (by decide) rfl (Nat.le_of_ble_eq_true rfl) (cw_X4_by _ (by decide)) q1067 q929 q930 q931 np_X4_by (i_X4_by x0 x5) jad_id rfl (fun v3 => ?_)
  refine J_if_eq (tgt := 123) dX0_keepsLaw_118 rfl ?_ ?_
  · refine J_iinc (v := x4 + 1) (env' := [(4, .int (x4 + 1)), (0, .ref x0), (1, .int x1), (2, .int x2), (3, .int x3), (5, .int x5)]) dX0_keepsLaw_123 4 rfl rfl (by decide) rfl ?_
    refine J_goto (tgt := 3) dX0_keepsLaw_126 rfl ?_
    exact J_cont [1, 2, 3, 4, 0] rfl
  refine J_inl ?_
  refine J_iconst (v := 0) dX0_keepsLaw_121 (by decide) ?_
  exact J_zreturn0 dX0_keepsLaw_122 rfl
noncomputable def X0_keepsLaw_L18 (x0 : Nat) (x1 : Int32) (x2 : Int32) (x3 : Int32) (x4 : Int32) (x5 : Int32) (x6 : Int32) : JM Mem ((Int32 ⊕ (Int32)) ⊕ (Int32 × Int32)) :=
  jb (jgetI 3 2 x0) fun v2 =>
  if v2 ≤ x6 then
    jinl (X0_keepsLaw_b112 x0 x1 x2 x3 x4 x5)
  else
  jb (jgetA 3 0 x0) fun v4 =>
  jb (jaldA 6 v4 x2) fun v5 =>
  jb (jaldA 5 v5 x3) fun v6 =>
  jb (jald mI 0 v6 x6) fun v7 =>
  jb (jgetA 3 0 x0) fun v8 =>
  jb (jaldA 6 v8 x1) fun v9 =>
  jb (jaldA 5 v9 x6) fun v10 =>
  jb (jald mI 0 v10 x4) fun v11 =>
  jb (jgetA 3 0 x0) fun v12 =>
  jb (jaldA 6 v12 x3) fun v13 =>
  jb (jaldA 5 v13 x1) fun v14 =>
  jb (jald mI 0 v14 x6) fun v15 =>
  jb (jgetA 3 0 x0) fun v16 =>
  jb (jaldA 6 v16 x2) fun v17 =>
  jb (jaldA 5 v17 x6) fun v18 =>
  jb (jald mI 0 v18 x4) fun v19 =>
  jb (jgetA 3 0 x0) fun v20 =>
  jb (jaldA 6 v20 x1) fun v21 =>
  jb (jaldA 5 v21 x2) fun v22 =>
  jb (jald mI 0 v22 x6) fun v23 =>
  jb (jgetA 3 0 x0) fun v24 =>
  jb (jaldA 6 v24 x3) fun v25 =>
  jb (jaldA 5 v25 x6) fun v26 =>
  jb (jald mI 0 v26 x4) fun v27 =>
  jlet (x5 + (((v7 * v11) + (v15 * v19)) + (v23 * v27))) fun y28 =>
  jcont (y28, x6 + 1)
theorem j_X0_keepsLaw_L18 (D : va_G) (dA : Nat → ClassId) (x0 : Nat) (x1 : Int32) (x2 : Int32) (x3 : Int32) (x4 : Int32) (x5 : Int32) (x6 : Int32) : J (PM D dA false) Y_X0_keepsLaw [(0, .ref x0), (1, .int x1), (2, .int x2), (3, .int x3), (4, .int x4), (5, .int x5), (6, .int x6)] [] 18 (X0_keepsLaw_L18 x0 x1 x2 x3 x4 x5 x6) (FLoop (FLoop (FRet injI) 3 (fun (t : Int32) => [(0, .ref x0), (1, .int x1), (2, .int x2), (3, .int x3), (4, .int t)])) 18 (fun (t : Int32 × Int32) => [(0, .ref x0), (1, .int x1), (2, .int x2), (3, .int x3), (4, .int x4), (5, .int t.1), (6, .int t.2)])) := by
  unfold X0_keepsLaw_L18
  refine J_iload dX0_keepsLaw_18 6 rfl ?_
  refine J_aload_n dX0_keepsLaw_20 rfl 0 rfl ?_
  refine J_getI dX0_keepsLaw_21 fl_X0_196 rfl (fun v2 => ?_)
  refine J_icmp_ge (tgt := 112) dX0_keepsLaw_24 rfl ?_ ?_
  · refine J_inl ?_
    refine J_sub [0, 1, 2, 3, 4, 5] rfl ?_
    exact j_X0_keepsLaw_b112 D dA x0 x1 x2 x3 x4 x5
  refine J_iload dX0_keepsLaw_27 5 rfl ?_
  refine J_aload_n dX0_keepsLaw_29 rfl 0 rfl ?_
  refine J_getA dX0_keepsLaw_30 fl_X0_256 rfl (fun v4 => ?_)
  refine J_iload_n dX0_keepsLaw_33 rfl 2 rfl ?_
  refine J_aald dX0_keepsLaw_34 rfl (by decide) (fun v5 => ?_)
  refine J_iload_n dX0_keepsLaw_35 rfl 3 rfl ?_
  refine J_aald dX0_keepsLaw_36 rfl (by decide) (fun v6 => ?_)
  refine J_iload dX0_keepsLaw_37 6 rfl ?_
  refine J_iald dX0_keepsLaw_39 (fun v7 => ?_)
  refine J_aload_n dX0_keepsLaw_40 rfl 0 rfl ?_
  refine J_getA dX0_keepsLaw_41 fl_X0_256 rfl (fun v8 => ?_)
  refine J_iload_n dX0_keepsLaw_44 rfl 1 rfl ?_
  refine J_aald dX0_keepsLaw_45 rfl (by decide) (fun v9 => ?_)
  refine J_iload dX0_keepsLaw_46 6 rfl ?_
  refine J_aald dX0_keepsLaw_48 rfl (by decide) (fun v10 => ?_)
  refine J_iload dX0_keepsLaw_49 4 rfl ?_
  refine J_iald dX0_keepsLaw_51 (fun v11 => ?_)
  refine J_imul dX0_keepsLaw_52 ?_
  refine J_aload_n dX0_keepsLaw_53 rfl 0 rfl ?_
  refine J_getA dX0_keepsLaw_54 fl_X0_256 rfl (fun v12 => ?_)
  refine J_iload_n dX0_keepsLaw_57 rfl 3 rfl ?_
  refine J_aald dX0_keepsLaw_58 rfl (by decide) (fun v13 => ?_)
  refine J_iload_n dX0_keepsLaw_59 rfl 1 rfl ?_
  refine J_aald dX0_keepsLaw_60 rfl (by decide) (fun v14 => ?_)
  refine J_iload dX0_keepsLaw_61 6 rfl ?_
  refine J_iald dX0_keepsLaw_63 (fun v15 => ?_)
  refine J_aload_n dX0_keepsLaw_64 rfl 0 rfl ?_
  refine J_getA dX0_keepsLaw_65 fl_X0_256 rfl (fun v16 => ?_)
  refine J_iload_n dX0_keepsLaw_68 rfl 2 rfl ?_
  refine J_aald dX0_keepsLaw_69 rfl (by decide) (fun v17 => ?_)
  refine J_iload dX0_keepsLaw_70 6 rfl ?_
  refine J_aald dX0_keepsLaw_72 rfl (by decide) (fun v18 => ?_)
  refine J_iload dX0_keepsLaw_73 4 rfl ?_
  refine J_iald dX0_keepsLaw_75 (fun v19 => ?_)
  refine J_imul dX0_keepsLaw_76 ?_
  refine J_iadd dX0_keepsLaw_77 ?_
  refine J_aload_n dX0_keepsLaw_78 rfl 0 rfl ?_
  refine J_getA dX0_keepsLaw_79 fl_X0_256 rfl (fun v20 => ?_)
  refine J_iload_n dX0_keepsLaw_82 rfl 1 rfl ?_
  refine J_aald dX0_keepsLaw_83 rfl (by decide) (fun v21 => ?_)
  refine J_iload_n dX0_keepsLaw_84 rfl 2 rfl ?_
  refine J_aald dX0_keepsLaw_85 rfl (by decide) (fun v22 => ?_)
  refine J_iload dX0_keepsLaw_86 6 rfl ?_
  refine J_iald dX0_keepsLaw_88 (fun v23 => ?_)
  refine J_aload_n dX0_keepsLaw_89 rfl 0 rfl ?_
  refine J_getA dX0_keepsLaw_90 fl_X0_256 rfl (fun v24 => ?_)
  refine J_iload_n dX0_keepsLaw_93 rfl 3 rfl ?_
  refine J_aald dX0_keepsLaw_94 rfl (by decide) (fun v25 => ?_)
  refine J_iload dX0_keepsLaw_95 6 rfl ?_
  refine J_aald dX0_keepsLaw_97 rfl (by decide) (fun v26 => ?_)
  refine J_iload dX0_keepsLaw_98 4 rfl ?_
  refine J_iald dX0_keepsLaw_100 (fun v27 => ?_)
  refine J_imul dX0_keepsLaw_101 ?_
  refine J_iadd dX0_keepsLaw_102 ?_
  refine J_iadd dX0_keepsLaw_103 ?_
  refine J_letI (fun y28 => ?_)
  refine J_istore (env' := [(5, .int y28), (0, .ref x0), (1, .int x1), (2, .int x2), (3, .int x3), (4, .int x4), (6, .int x6)]) dX0_keepsLaw_104 (by decide) rfl ?_
  refine J_iinc (v := x6 + 1) (env' := [(6, .int (x6 + 1)), (5, .int y28), (0, .ref x0), (1, .int x1), (2, .int x2), (3, .int x3), (4, .int x4)]) dX0_keepsLaw_106 6 rfl rfl (by decide) rfl ?_
  refine J_goto (tgt := 18) dX0_keepsLaw_109 rfl ?_
  exact J_cont [2, 3, 4, 5, 6, 1, 0] rfl
noncomputable def X0_keepsLaw_L3 (x0 : Nat) (x1 : Int32) (x2 : Int32) (x3 : Int32) (x4 : Int32) : JM Mem (Int32 ⊕ (Int32)) :=
  jb (jgetI 3 2 x0) fun v1 =>
  if v1 ≤ x4 then
    jinl (jp 1)
  else
    jloop (fun (t : Int32 × Int32) => X0_keepsLaw_L18 x0 x1 x2 x3 x4 t.1 t.2) (0, 0)
theorem j_X0_keepsLaw_L3 (D : va_G) (dA : Nat → ClassId) (x0 : Nat) (x1 : Int32) (x2 : Int32) (x3 : Int32) (x4 : Int32) : J (PM D dA false) Y_X0_keepsLaw [(0, .ref x0), (1, .int x1), (2, .int x2), (3, .int x3), (4, .int x4)] [] 3 (X0_keepsLaw_L3 x0 x1 x2 x3 x4) (FLoop (FRet injI) 3 (fun (t : Int32) => [(0, .ref x0), (1, .int x1), (2, .int x2), (3, .int x3), (4, .int t)])) := by
  unfold X0_keepsLaw_L3
  refine J_iload dX0_keepsLaw_3 4 rfl ?_
  refine J_aload_n dX0_keepsLaw_5 rfl 0 rfl ?_
  refine J_getI dX0_keepsLaw_6 fl_X0_196 rfl (fun v1 => ?_)
  refine J_icmp_ge (tgt := 129) dX0_keepsLaw_9 rfl ?_ ?_
  · refine J_inl ?_
    refine J_iconst (v := 1) dX0_keepsLaw_129 (by decide) ?_
    exact J_zreturn1 dX0_keepsLaw_130 rfl
  refine J_iconst (v := 0) dX0_keepsLaw_12 (by decide) ?_
  refine J_istore (env' := [(5, .int 0), (0, .ref x0), (1, .int x1), (2, .int x2), (3, .int x3), (4, .int x4)]) dX0_keepsLaw_13 (by decide) rfl ?_
  refine J_iconst (v := 0) dX0_keepsLaw_15 (by decide) ?_
  refine J_istore (env' := [(6, .int 0), (5, .int 0), (0, .ref x0), (1, .int x1), (2, .int x2), (3, .int x3), (4, .int x4)]) dX0_keepsLaw_16 (by decide) rfl ?_
  refine J_loop (he := fun (t : Int32 × Int32) => [(0, .ref x0), (1, .int x1), (2, .int x2), (3, .int x3), (4, .int x4), (5, .int t.1), (6, .int t.2)]) [2, 3, 4, 5, 6, 1, 0] rfl (fun t => ?_)
  exact j_X0_keepsLaw_L18 D dA x0 x1 x2 x3 x4 t.1 t.2
noncomputable def f_X0_keepsLaw (x0 : Nat) (x1 : Int32) (x2 : Int32) (x3 : Int32) : JM Mem Int32 :=
  jloop (fun (t : Int32) => X0_keepsLaw_L3 x0 x1 x2 x3 t) 0
theorem j_X0_keepsLaw (D : va_G) (dA : Nat → ClassId) (x0 : Nat) (x1 : Int32) (x2 : Int32) (x3 : Int32) : J (PM D dA false) Y_X0_keepsLaw [(0, .ref x0), (1, .int x1), (2, .int x2), (3, .int x3)] [] 0 (f_X0_keepsLaw x0 x1 x2 x3) (FRet injI) := by
  unfold f_X0_keepsLaw
  refine J_iconst (v := 0) dX0_keepsLaw_0 (by decide) ?_
  refine J_istore (env' := [(4, .int 0), (0, .ref x0), (1, .int x1), (2, .int x2), (3, .int x3)]) dX0_keepsLaw_1 (by decide) rfl ?_
  refine J_loop (he := fun (t : Int32) => [(0, .ref x0), (1, .int x1), (2, .int x2), (3, .int x3), (4, .int t)]) [1, 2, 3, 4, 0] rfl (fun t => ?_)
  exact j_X0_keepsLaw_L3 D dA x0 x1 x2 x3 t
theorem i_X0_keepsLaw (x0 : Nat) (x1 : Int32) (x2 : Int32) (x3 : Int32) : Impl (ws_ yX0_keepsLaw cX0_keepsLaw 7 (some .boolean)) yX0_keepsLaw 3 false 0 0 [.ref x0, .int x1, .int x2, .int x3] (f_X0_keepsLaw x0 x1 x2 x3) injI := impl_of (plainFor_of_name (by decide)) (Nat.le_of_ble_eq_true rfl) (fun D dA => j_X0_keepsLaw D dA x0 x1 x2 x3)
theorem cw_X0_keepsLaw (Y : JY) (h : 4 ≤ Y.2.2.2.1) : JCw Y (ws_ yX0_keepsLaw cX0_keepsLaw 7 (some .boolean)) yX0_keepsLaw cX0_keepsLaw 7 (some .boolean) 3 := ⟨h, by decide, lw_meth q1066, q187, by decide, by decide⟩
theorem np_X0_keepsLaw : JNp yX0_keepsLaw.desc 4 := by decide +kernel
-- BracketRoom.isLawful(LBracketRoom$World;)Z
abbrev Y_X0_isLawful : JY := (cX0_isLawful, yX0_isLawful.cls, 5, 4, yX0_isLawful.name, (some .boolean), [])
noncomputable def X0_isLawful_b86 (x0 : Nat) (x1 : Nat) (x2 : Int32) : JM Mem (Int32 ⊕ (Int32)) :=
  jcont (x2 + 1)
theorem j_X0_isLawful_b86 (D : va_G) (dA : Nat → ClassId) (x0 : Nat) (x1 : Nat) (x2 : Int32) : J (PM D dA false) Y_X0_isLawful [(0, .ref x0), (1, .ref x1), (2, .int x2)] [] 86 (X0_isLawful_b86 x0 x1 x2) (FLoop (FRet injI) 2 (fun (t : Int32) => [(0, .ref x0), (1, .ref x1), (2, .int t)])) := by
  unfold X0_isLawful_b86
  refine J_iinc (v := x2 + 1) (env' := [(2, .int (x2 + 1)), (0, .ref x0), (1, .ref x1)]) dX0_isLawful_86 2 rfl rfl (by decide) rfl ?_
  refine J_goto (tgt := 2) dX0_isLawful_89 rfl ?_
  exact J_cont [1, 2, 0] rfl
noncomputable def X0_isLawful_b80 (x0 : Nat) (x1 : Nat) (x2 : Int32) (x3 : Int32) : JM Mem ((Int32 ⊕ (Int32)) ⊕ (Int32)) :=
  jcont (x3 + 1)
theorem j_X0_isLawful_b80 (D : va_G) (dA : Nat → ClassId) (x0 : Nat) (x1 : Nat) (x2 : Int32) (x3 : Int32) : J (PM D dA false) Y_X0_isLawful [(0, .ref x0), (1, .ref x1), (2, .int x2), (3, .int x3)] [] 80 (X0_isLawful_b80 x0 x1 x2 x3) (FLoop (FLoop (FRet injI) 2 (fun (t : Int32) => [(0, .ref x0), (1, .ref x1), (2, .int t)])) 14 (fun (t : Int32) => [(0, .ref x0), (1, .ref x1), (2, .int x2), (3, .int t)])) := by
  unfold X0_isLawful_b80
  refine J_iinc (v := x3 + 1) (env' := [(3, .int (x3 + 1)), (0, .ref x0), (1, .ref x1), (2, .int x2)]) dX0_isLawful_80 3 rfl rfl (by decide) rfl ?_
  refine J_goto (tgt := 14) dX0_isLawful_83 rfl ?_
  exact J_cont [1, 2, 3, 0] rfl
noncomputable def X0_isLawful_b50 (x0 : Nat) (x2 : Int32) (x3 : Int32) (x4 : Int32) : JM Mem Int32 :=
  jb (jgetA 0 17 x0) fun v7 =>
  jb (jast_i v7 0 x2) fun _ =>
  jb (jgetA 0 17 x0) fun v8 =>
  jb (jast_i v8 1 x3) fun _ =>
  jb (jgetA 0 17 x0) fun v9 =>
  jb (jast_i v9 2 x4) fun _ =>
  jp 0
theorem j_X0_isLawful_b50 (D : va_G) (dA : Nat → ClassId) (x0 : Nat) (x2 : Int32) (x3 : Int32) (x4 : Int32) : J (PM D dA false) Y_X0_isLawful [(0, .ref x0), (2, .int x2), (3, .int x3), (4, .int x4)] [] 50 (X0_isLawful_b50 x0 x2 x3 x4) (FRet injI) := by
  unfold X0_isLawful_b50
  refine J_aload_n dX0_isLawful_50 rfl 0 rfl ?_
  refine J_getA dX0_isLawful_51 fl_X0_69 rfl (fun v7 => ?_)
  refine J_iconst (v := 0) dX0_isLawful_54 (by decide) ?_
  refine J_iload_n dX0_isLawful_55 rfl 1 rfl ?_
  refine J_iast dX0_isLawful_56 ?_
  refine J_aload_n dX0_isLawful_57 rfl 0 rfl ?_
  refine J_getA dX0_isLawful_58 fl_X0_69 rfl (fun v8 => ?_)
  refine J_iconst (v := 1) dX0_isLawful_61 (by decide) ?_
  refine J_iload_n dX0_isLawful_62 rfl 2 rfl ?_
  refine J_iast dX0_isLawful_63 ?_
  refine J_aload_n dX0_isLawful_64 rfl 0 rfl ?_
  refine J_getA dX0_isLawful_65 fl_X0_69 rfl (fun v9 => ?_)
  refine J_iconst (v := 2) dX0_isLawful_68 (by decide) ?_
  refine J_iload dX0_isLawful_69 3 rfl ?_
  refine J_iast dX0_isLawful_71 ?_
  refine J_iconst (v := 0) dX0_isLawful_72 (by decide) ?_
  exact J_zreturn0 dX0_isLawful_73 rfl
noncomputable def X0_isLawful_L27 (x0 : Nat) (x1 : Nat) (x2 : Int32) (x3 : Int32) (x4 : Int32) : JM Mem (((Int32 ⊕ (Int32)) ⊕ (Int32)) ⊕ (Int32)) :=
  jb (jgetI 3 2 x1) fun v5 =>
  if v5 ≤ x4 then
    jinl (X0_isLawful_b80 x0 x1 x2 x3)
  else
  jb ((f_X0_keepsLaw x1 x2 x3 x4)) fun v6 =>
  if v6 = 0 then
    jinl (jinl (jinl (X0_isLawful_b50 x0 x2 x3 x4)))
  else
    jcont (x4 + 1)
theorem j_X0_isLawful_L27 (D : va_G) (dA : Nat → ClassId) (x0 : Nat) (x1 : Nat) (x2 : Int32) (x3 : Int32) (x4 : Int32) : J (PM D dA false) Y_X0_isLawful [(0, .ref x0), (1, .ref x1), (2, .int x2), (3, .int x3), (4, .int x4)] [] 27 (X0_isLawful_L27 x0 x1 x2 x3 x4) (FLoop (FLoop (FLoop (FRet injI) 2 (fun (t : Int32) => [(0, .ref x0), (1, .ref x1), (2, .int t)])) 14 (fun (t : Int32) => [(0, .ref x0), (1, .ref x1), (2, .int x2), (3, .int t)])) 27 (fun (t : Int32) => [(0, .ref x0), (1, .ref x1), (2, .int x2), (3, .int x3), (4, .int t)])) := by
  unfold X0_isLawful_L27
  refine J_iload dX0_isLawful_27 4 rfl ?_
  refine J_aload_n dX0_isLawful_29 rfl 1 rfl ?_
  refine J_getI dX0_isLawful_30 fl_X0_196 rfl (fun v5 => ?_)
  refine J_icmp_ge (tgt := 80) dX0_isLawful_33 rfl ?_ ?_
  · refine J_inl ?_
    refine J_sub [0, 1, 2, 3] rfl ?_
    exact j_X0_isLawful_b80 D dA x0 x1 x2 x3
  refine J_aload_n dX0_isLawful_36 rfl 1 rfl ?_
  refine J_iload_n dX0_isLawful_37 rfl 2 rfl ?_
  refine J_iload_n dX0_isLawful_38 rfl 3 rfl ?_
  refine J_iload dX0_isLawful_39 4 rfl ?_
  refine J_callSI (host := "") (as := [.ref x1, .int x2, .int x3, .int x4]) dX0_isLawful_41 rfl (Nat.le_of_ble_eq_true rfl) (cw_X0_keepsLaw _ (by decide)) q1064 q1065 q1066 np_X0_keepsLaw (i_X0_keepsLaw x1 x2 x3 x4) jad_id rfl (fun v6 => ?_)
  refine J_if_eq (tgt := 50) dX0_isLawful_44 rfl ?_ ?_
  · refine J_inl ?_
    refine J_inl ?_
    refine J_inl ?_
    refine J_sub [0, 2, 3, 4] rfl ?_
    exact j_X0_isLawful_b50 D dA x0 x2 x3 x4
  refine J_goto (tgt := 74) dX0_isLawful_47 rfl ?_
  refine J_iinc (v := x4 + 1) (env' := [(4, .int (x4 + 1)), (0, .ref x0), (1, .ref x1), (2, .int x2), (3, .int x3)]) dX0_isLawful_74 4 rfl rfl (by decide) rfl ?_
  refine J_goto (tgt := 27) dX0_isLawful_77 rfl ?_
  exact J_cont [1, 2, 3, 4, 0] rfl
noncomputable def X0_isLawful_L14 (x0 : Nat) (x1 : Nat) (x2 : Int32) (x3 : Int32) : JM Mem ((Int32 ⊕ (Int32)) ⊕ (Int32)) :=
  jb (jgetI 3 2 x1) fun v3 =>
  if v3 ≤ x3 then
    jinl (X0_isLawful_b86 x0 x1 x2)
  else
  jlet (x3 + 1) fun y4 =>
  jloop (fun (t : Int32) => X0_isLawful_L27 x0 x1 x2 x3 t) y4
theorem j_X0_isLawful_L14 (D : va_G) (dA : Nat → ClassId) (x0 : Nat) (x1 : Nat) (x2 : Int32) (x3 : Int32) : J (PM D dA false) Y_X0_isLawful [(0, .ref x0), (1, .ref x1), (2, .int x2), (3, .int x3)] [] 14 (X0_isLawful_L14 x0 x1 x2 x3) (FLoop (FLoop (FRet injI) 2 (fun (t : Int32) => [(0, .ref x0), (1, .ref x1), (2, .int t)])) 14 (fun (t : Int32) => [(0, .ref x0), (1, .ref x1), (2, .int x2), (3, .int t)])) := by
  unfold X0_isLawful_L14
  refine J_iload_n dX0_isLawful_14 rfl 3 rfl ?_
  refine J_aload_n dX0_isLawful_15 rfl 1 rfl ?_
  refine J_getI dX0_isLawful_16 fl_X0_196 rfl (fun v3 => ?_)
  refine J_icmp_ge (tgt := 86) dX0_isLawful_19 rfl ?_ ?_
  · refine J_inl ?_
    refine J_sub [0, 1, 2] rfl ?_
    exact j_X0_isLawful_b86 D dA x0 x1 x2
  refine J_iload_n dX0_isLawful_22 rfl 3 rfl ?_
  refine J_iconst (v := 1) dX0_isLawful_23 (by decide) ?_
  refine J_iadd dX0_isLawful_24 ?_
  refine J_letI (fun y4 => ?_)
  refine J_istore (env' := [(4, .int y4), (0, .ref x0), (1, .ref x1), (2, .int x2), (3, .int x3)]) dX0_isLawful_25 (by decide) rfl ?_
  refine J_loop (he := fun (t : Int32) => [(0, .ref x0), (1, .ref x1), (2, .int x2), (3, .int x3), (4, .int t)]) [1, 2, 3, 4, 0] rfl (fun t => ?_)
  exact j_X0_isLawful_L27 D dA x0 x1 x2 x3 t
noncomputable def X0_isLawful_L2 (x0 : Nat) (x1 : Nat) (x2 : Int32) : JM Mem (Int32 ⊕ (Int32)) :=
  jb (jgetI 3 2 x1) fun v1 =>
  if v1 ≤ x2 then
    jinl (jp 1)
  else
  jlet (x2 + 1) fun y2 =>
  jloop (fun (t : Int32) => X0_isLawful_L14 x0 x1 x2 t) y2
theorem j_X0_isLawful_L2 (D : va_G) (dA : Nat → ClassId) (x0 : Nat) (x1 : Nat) (x2 : Int32) : J (PM D dA false) Y_X0_isLawful [(0, .ref x0), (1, .ref x1), (2, .int x2)] [] 2 (X0_isLawful_L2 x0 x1 x2) (FLoop (FRet injI) 2 (fun (t : Int32) => [(0, .ref x0), (1, .ref x1), (2, .int t)])) := by
  unfold X0_isLawful_L2
  refine J_iload_n dX0_isLawful_2 rfl 2 rfl ?_
  refine J_aload_n dX0_isLawful_3 rfl 1 rfl ?_
  refine J_getI dX0_isLawful_4 fl_X0_196 rfl (fun v1 => ?_)
  refine J_icmp_ge (tgt := 92) dX0_isLawful_7 rfl ?_ ?_
  · refine J_inl ?_
    refine J_iconst (v := 1) dX0_isLawful_92 (by decide) ?_
    exact J_zreturn1 dX0_isLawful_93 rfl
  refine J_iload_n dX0_isLawful_10 rfl 2 rfl ?_
  refine J_iconst (v := 1) dX0_isLawful_11 (by decide) ?_
  refine J_iadd dX0_isLawful_12 ?_
  refine J_letI (fun y2 => ?_)
  refine J_istore_n (env' := [(3, .int y2), (0, .ref x0), (1, .ref x1), (2, .int x2)]) dX0_isLawful_13 rfl (by decide) rfl ?_
  refine J_loop (he := fun (t : Int32) => [(0, .ref x0), (1, .ref x1), (2, .int x2), (3, .int t)]) [1, 2, 3, 0] rfl (fun t => ?_)
  exact j_X0_isLawful_L14 D dA x0 x1 x2 t
noncomputable def f_X0_isLawful (x0 : Nat) (x1 : Nat) : JM Mem Int32 :=
  jloop (fun (t : Int32) => X0_isLawful_L2 x0 x1 t) 0
theorem j_X0_isLawful (D : va_G) (dA : Nat → ClassId) (x0 : Nat) (x1 : Nat) : J (PM D dA false) Y_X0_isLawful [(0, .ref x0), (1, .ref x1)] [] 0 (f_X0_isLawful x0 x1) (FRet injI) := by
  unfold f_X0_isLawful
  refine J_iconst (v := 0) dX0_isLawful_0 (by decide) ?_
  refine J_istore_n (env' := [(2, .int 0), (0, .ref x0), (1, .ref x1)]) dX0_isLawful_1 rfl (by decide) rfl ?_
  refine J_loop (he := fun (t : Int32) => [(0, .ref x0), (1, .ref x1), (2, .int t)]) [1, 2, 0] rfl (fun t => ?_)
  exact j_X0_isLawful_L2 D dA x0 x1 t
theorem i_X0_isLawful (x0 : Nat) (x1 : Nat) : Impl (ws_ yX0_isLawful cX0_isLawful 5 (some .boolean)) yX0_isLawful 4 false 0 0 [.ref x0, .ref x1] (f_X0_isLawful x0 x1) injI := impl_of (plainFor_of_name (by decide)) (Nat.le_of_ble_eq_true rfl) (fun D dA => j_X0_isLawful D dA x0 x1)
theorem cw_X0_isLawful (Y : JY) (h : 5 ≤ Y.2.2.2.1) : JCw Y (ws_ yX0_isLawful cX0_isLawful 5 (some .boolean)) yX0_isLawful cX0_isLawful 5 (some .boolean) 4 := ⟨h, by decide, lw_meth q1063, q187, by decide, by decide⟩
theorem np_X0_isLawful : JNp yX0_isLawful.desc 1 := by decide +kernel
-- BracketRoom.lawful()I
abbrev Y_X0_lawful : JY := (cX0_lawful, yX0_lawful.cls, 1, 5, yX0_lawful.name, (some .int), [])
noncomputable def X0_lawful_b17 (s0 : Nat) (s1 : Int32) : JM Mem Int32 :=
  jb (jcall 0 s0 (f_X0_gives s0 s1)) fun v3 =>
  jp v3
theorem j_X0_lawful_b17 (D : va_G) (dA : Nat → ClassId) (s0 : Nat) (s1 : Int32) : J (PM D dA false) Y_X0_lawful [] [.int s1, .ref s0] 17 (X0_lawful_b17 s0 s1) (FRet injI) := by
  unfold X0_lawful_b17
  refine J_callVI (c := 0) (as := [.int s1]) dX0_lawful_17 (by decide) rfl (Nat.le_of_ble_eq_true rfl) (cw_X0_gives _ (by decide)) q944 q946 qs9 q947 np_X0_gives (i_X0_gives s0 s1) jad_id rfl (fun v3 => ?_)
  exact J_ireturn dX0_lawful_20 rfl
noncomputable def f_X0_lawful (x0 : Nat) : JM Mem Int32 :=
  jb (jgetA 0 2 x0) fun v1 =>
  jb (jcall 0 x0 (f_X0_isLawful x0 v1)) fun v2 =>
  if v2 = 0 then
    X0_lawful_b17 x0 0
  else
    X0_lawful_b17 x0 1
theorem j_X0_lawful (D : va_G) (dA : Nat → ClassId) (x0 : Nat) : J (PM D dA false) Y_X0_lawful [(0, .ref x0)] [] 0 (f_X0_lawful x0) (FRet injI) := by
  unfold f_X0_lawful
  refine J_aload_n dX0_lawful_0 rfl 0 rfl ?_
  refine J_aload_n dX0_lawful_1 rfl 0 rfl ?_
  refine J_aload_n dX0_lawful_2 rfl 0 rfl ?_
  refine J_getA dX0_lawful_3 fl_X0_30 rfl (fun v1 => ?_)
  refine J_callVI (c := 0) (as := [.ref v1]) dX0_lawful_6 (by decide) rfl (Nat.le_of_ble_eq_true rfl) (cw_X0_isLawful _ (by decide)) q1060 q1062 qs15 q1063 np_X0_isLawful (i_X0_isLawful x0 v1) jad_id rfl (fun v2 => ?_)
  refine J_if_eq (tgt := 16) dX0_lawful_9 rfl ?_ ?_
  · refine J_iconst (v := 0) dX0_lawful_16 (by decide) ?_
    refine J_sub [] rfl ?_
    exact j_X0_lawful_b17 D dA x0 0
  refine J_iconst (v := 1) dX0_lawful_12 (by decide) ?_
  refine J_goto (tgt := 17) dX0_lawful_13 rfl ?_
  refine J_sub [] rfl ?_
  exact j_X0_lawful_b17 D dA x0 1
theorem i_X0_lawful (x0 : Nat) : Impl (ws_ yX0_lawful cX0_lawful 1 (some .int)) yX0_lawful 5 false 0 0 [.ref x0] (f_X0_lawful x0) injI := impl_of (plainFor_of_name (by decide)) (Nat.le_of_ble_eq_true rfl) (fun D dA => j_X0_lawful D dA x0)
theorem cw_X0_lawful (Y : JY) (h : 6 ≤ Y.2.2.2.1) : JCw Y (ws_ yX0_lawful cX0_lawful 1 (some .int)) yX0_lawful cX0_lawful 1 (some .int) 5 := ⟨h, by decide, lw_meth q1059, q187, by decide, by decide⟩
theorem np_X0_lawful : JNp yX0_lawful.desc 0 := by decide +kernel
-- BracketRoom.failing(I)I
abbrev Y_X0_failing : JY := (cX0_failing, yX0_failing.cls, 2, 5, yX0_failing.name, (some .int), [])
noncomputable def X0_failing_b9 (x0 : Nat) : JM Mem Int32 :=
  jb (jcall 0 x0 (f_X0_none x0 5)) fun v1 =>
  jp v1
theorem j_X0_failing_b9 (D : va_G) (dA : Nat → ClassId) (x0 : Nat) : J (PM D dA false) Y_X0_failing [(0, .ref x0)] [] 9 (X0_failing_b9 x0) (FRet injI) := by
  unfold X0_failing_b9
  refine J_aload_n dX0_failing_9 rfl 0 rfl ?_
  refine J_iconst (v := 5) dX0_failing_10 (by decide) ?_
  refine J_callVI (c := 0) (as := [.int 5]) dX0_failing_11 (by decide) rfl (Nat.le_of_ble_eq_true rfl) (cw_X0_none _ (by decide)) q729 q731 qs3 q732 np_X0_none (i_X0_none x0 5) jad_id rfl (fun v1 => ?_)
  exact J_ireturn dX0_failing_14 rfl
noncomputable def f_X0_failing (x0 : Nat) (x1 : Int32) : JM Mem Int32 :=
  if x1 < 0 then
    X0_failing_b9 x0
  else
  if x1 ≤ 2 then
    jb (jgetA 0 2 x0) fun v2 =>
    jb (jcall 0 x0 (f_X0_isLawful x0 v2)) fun v3 =>
    if v3 = 0 then
      jb (jgetA 0 17 x0) fun v4 =>
      jb (jald mI 0 v4 x1) fun v5 =>
      jb (jcall 0 x0 (f_X0_gives x0 v5)) fun v6 =>
      jp v6
    else
    jb (jcall 0 x0 (f_X0_none x0 8)) fun v7 =>
    jp v7
  else
    X0_failing_b9 x0
theorem j_X0_failing (D : va_G) (dA : Nat → ClassId) (x0 : Nat) (x1 : Int32) : J (PM D dA false) Y_X0_failing [(0, .ref x0), (1, .int x1)] [] 0 (f_X0_failing x0 x1) (FRet injI) := by
  unfold f_X0_failing
  refine J_iload_n dX0_failing_0 rfl 1 rfl ?_
  refine J_if_lt (tgt := 9) dX0_failing_1 rfl ?_ ?_
  · refine J_sub [0] rfl ?_
    exact j_X0_failing_b9 D dA x0
  refine J_iload_n dX0_failing_4 rfl 1 rfl ?_
  refine J_iconst (v := 2) dX0_failing_5 (by decide) ?_
  refine J_icmp_le (tgt := 15) dX0_failing_6 rfl ?_ ?_
  · refine J_aload_n dX0_failing_15 rfl 0 rfl ?_
    refine J_aload_n dX0_failing_16 rfl 0 rfl ?_
    refine J_getA dX0_failing_17 fl_X0_30 rfl (fun v2 => ?_)
    refine J_callVI (c := 0) (as := [.ref v2]) dX0_failing_20 (by decide) rfl (Nat.le_of_ble_eq_true rfl) (cw_X0_isLawful _ (by decide)) q1060 q1062 qs15 q1063 np_X0_isLawful (i_X0_isLawful x0 v2) jad_id rfl (fun v3 => ?_)
    refine J_if_eq (tgt := 35) dX0_failing_23 rfl ?_ ?_
    · refine J_aload_n dX0_failing_35 rfl 0 rfl ?_
      refine J_aload_n dX0_failing_36 rfl 0 rfl ?_
      refine J_getA dX0_failing_37 fl_X0_69 rfl (fun v4 => ?_)
      refine J_iload_n dX0_failing_40 rfl 1 rfl ?_
      refine J_iald dX0_failing_41 (fun v5 => ?_)
      refine J_callVI (c := 0) (as := [.int v5]) dX0_failing_42 (by decide) rfl (Nat.le_of_ble_eq_true rfl) (cw_X0_gives _ (by decide)) q944 q946 qs9 q947 np_X0_gives (i_X0_gives x0 v5) jad_id rfl (fun v6 => ?_)
      exact J_ireturn dX0_failing_45 rfl
    refine J_aload_n dX0_failing_26 rfl 0 rfl ?_
    refine J_bipush (v := 8) dX0_failing_27 (by decide) ?_
    refine J_callVI (c := 0) (as := [.int 8]) dX0_failing_29 (by decide) rfl (Nat.le_of_ble_eq_true rfl) (cw_X0_none _ (by decide)) q729 q731 qs3 q732 np_X0_none (i_X0_none x0 8) jad_id rfl (fun v7 => ?_)
    refine J_goto (tgt := 45) dX0_failing_32 rfl ?_
    exact J_ireturn dX0_failing_45 rfl
  refine J_sub [0] rfl ?_
  exact j_X0_failing_b9 D dA x0
theorem i_X0_failing (x0 : Nat) (x1 : Int32) : Impl (ws_ yX0_failing cX0_failing 2 (some .int)) yX0_failing 5 false 0 0 [.ref x0, .int x1] (f_X0_failing x0 x1) injI := impl_of (plainFor_of_name (by decide)) (Nat.le_of_ble_eq_true rfl) (fun D dA => j_X0_failing D dA x0 x1)
theorem cw_X0_failing (Y : JY) (h : 6 ≤ Y.2.2.2.1) : JCw Y (ws_ yX0_failing cX0_failing 2 (some .int)) yX0_failing cX0_failing 2 (some .int) 5 := ⟨h, by decide, lw_meth q1071, q187, by decide, by decide⟩
theorem np_X0_failing : JNp yX0_failing.desc 1 := by decide +kernel
-- BracketRoom.isShelf(I)Z
abbrev Y_X0_isShelf : JY := (cX0_isShelf, yX0_isShelf.cls, 1, 1, yX0_isShelf.name, (some .boolean), [])
noncomputable def f_X0_isShelf (x0 : Int32) : JM Mem Int32 :=
  if x0 < 0 then
    jp 0
  else
  if 4 ≤ x0 then
    jp 0
  else
    jp 1
theorem j_X0_isShelf (D : va_G) (dA : Nat → ClassId) (x0 : Int32) : J (PM D dA false) Y_X0_isShelf [(0, .int x0)] [] 0 (f_X0_isShelf x0) (FRet injI) := by
  unfold f_X0_isShelf
  refine J_iload_n dX0_isShelf_0 rfl 0 rfl ?_
  refine J_if_lt (tgt := 13) dX0_isShelf_1 rfl ?_ ?_
  · refine J_iconst (v := 0) dX0_isShelf_13 (by decide) ?_
    exact J_zreturn0 dX0_isShelf_14 rfl
  refine J_iload_n dX0_isShelf_4 rfl 0 rfl ?_
  refine J_iconst (v := 4) dX0_isShelf_5 (by decide) ?_
  refine J_icmp_ge (tgt := 13) dX0_isShelf_6 rfl ?_ ?_
  · refine J_iconst (v := 0) dX0_isShelf_13 (by decide) ?_
    exact J_zreturn0 dX0_isShelf_14 rfl
  refine J_iconst (v := 1) dX0_isShelf_9 (by decide) ?_
  refine J_goto (tgt := 14) dX0_isShelf_10 rfl ?_
  exact J_zreturn1 dX0_isShelf_14 rfl
theorem i_X0_isShelf (x0 : Int32) : Impl (ws_ yX0_isShelf cX0_isShelf 1 (some .boolean)) yX0_isShelf 1 false 0 0 [.int x0] (f_X0_isShelf x0) injI := impl_of (plainFor_of_name (by decide)) (Nat.le_of_ble_eq_true rfl) (fun D dA => j_X0_isShelf D dA x0)
theorem cw_X0_isShelf (Y : JY) (h : 2 ≤ Y.2.2.2.1) : JCw Y (ws_ yX0_isShelf cX0_isShelf 1 (some .boolean)) yX0_isShelf cX0_isShelf 1 (some .boolean) 1 := ⟨h, by decide, lw_meth q1078, q187, by decide, by decide⟩
theorem np_X0_isShelf : JNp yX0_isShelf.desc 1 := by decide +kernel
-- BracketRoom.keeps(I)V
abbrev Y_X0_keeps : JY := (cX0_keeps, yX0_keeps.cls, 2, 2, yX0_keeps.name, none, [])
noncomputable def f_X0_keeps (x0 : Nat) (x1 : Int32) : JM Mem Unit :=
  jb (jgetA 0 4 x0) fun v1 =>
  jb (jaldA 7 v1 x1) fun v2 =>
  jb (jgetA 0 2 x0) fun v3 =>
  jb (jcall 3 v2 (f_X4_copy v2 v3)) fun _ =>
  jb (jgetA 0 5 x0) fun v4 =>
  jb (jast_z v4 x1 1) fun _ =>
  jp ()
theorem j_X0_keeps (D : va_G) (dA : Nat → ClassId) (x0 : Nat) (x1 : Int32) : J (PM D dA false) Y_X0_keeps [(0, .ref x0), (1, .int x1)] [] 0 (f_X0_keeps x0 x1) (FRet injU) := by
  unfold f_X0_keeps
  refine J_aload_n dX0_keeps_0 rfl 0 rfl ?_
  refine J_getA dX0_keeps_1 fl_X0_37 rfl (fun v1 => ?_)
  refine J_iload_n dX0_keeps_4 rfl 1 rfl ?_
  refine J_aald dX0_keeps_5 rfl (by decide) (fun v2 => ?_)
  refine J_aload_n dX0_keeps_6 rfl 0 rfl ?_
  refine J_getA dX0_keeps_7 fl_X0_30 rfl (fun v3 => ?_)
  refine J_callVV (c := 3) (as := [.ref v3]) dX0_keeps_10 (by decide) rfl (Nat.le_of_ble_eq_true rfl) (cw_X4_copy _ (by decide)) q939 q940 q941 q942 np_X4_copy (i_X4_copy v2 v3) jad_id rfl ?_
  refine J_aload_n dX0_keeps_13 rfl 0 rfl ?_
  refine J_getA dX0_keeps_14 fl_X0_41 rfl (fun v4 => ?_)
  refine J_iload_n dX0_keeps_17 rfl 1 rfl ?_
  refine J_iconst (v := 1) dX0_keeps_18 (by decide) ?_
  refine J_zast dX0_keeps_19 ?_
  exact J_return dX0_keeps_20 rfl
theorem i_X0_keeps (x0 : Nat) (x1 : Int32) : Impl (ws_ yX0_keeps cX0_keeps 2 none) yX0_keeps 2 false 0 0 [.ref x0, .int x1] (f_X0_keeps x0 x1) injU := impl_of (plainFor_of_name (by decide)) (Nat.le_of_ble_eq_true rfl) (fun D dA => j_X0_keeps D dA x0 x1)
theorem cw_X0_keeps (Y : JY) (h : 3 ≤ Y.2.2.2.1) : JCw Y (ws_ yX0_keeps cX0_keeps 2 none) yX0_keeps cX0_keeps 2 none 2 := ⟨h, by decide, lw_meth q1082, q187, by decide, by decide⟩
theorem np_X0_keeps : JNp yX0_keeps.desc 1 := by decide +kernel
-- BracketRoom.keep(I)Z
abbrev Y_X0_keep : JY := (cX0_keep, yX0_keep.cls, 2, 3, yX0_keep.name, (some .boolean), [])
noncomputable def f_X0_keep (x0 : Nat) (x1 : Int32) : JM Mem Int32 :=
  jb ((f_X0_isShelf x1)) fun v1 =>
  if v1 = 0 then
    jb (jcall 0 x0 (f_X0_is0 x0 2)) fun v3 =>
    jrz v3
  else
  jb (jcall 0 x0 (f_X0_keeps x0 x1)) fun _ =>
  jb (jcall 0 x0 (f_X0_is0 x0 0)) fun v2 =>
  jrz v2
theorem j_X0_keep (D : va_G) (dA : Nat → ClassId) (x0 : Nat) (x1 : Int32) : J (PM D dA false) Y_X0_keep [(0, .ref x0), (1, .int x1)] [] 0 (f_X0_keep x0 x1) (FRet injI) := by
  unfold f_X0_keep
  refine J_iload_n dX0_keep_0 rfl 1 rfl ?_
  refine J_callSI (host := "") (as := [.int x1]) dX0_keep_1 rfl (Nat.le_of_ble_eq_true rfl) (cw_X0_isShelf _ (by decide)) q1076 q1077 q1078 np_X0_isShelf (i_X0_isShelf x1) jad_id rfl (fun v1 => ?_)
  refine J_if_ne (tgt := 13) dX0_keep_4 rfl ?_ ?_
  · refine J_aload_n dX0_keep_13 rfl 0 rfl ?_
    refine J_iload_n dX0_keep_14 rfl 1 rfl ?_
    refine J_callVV (c := 0) (as := [.int x1]) dX0_keep_15 (by decide) rfl (Nat.le_of_ble_eq_true rfl) (cw_X0_keeps _ (by decide)) q1079 q1081 qs16 q1082 np_X0_keeps (i_X0_keeps x0 x1) jad_id rfl ?_
    refine J_aload_n dX0_keep_18 rfl 0 rfl ?_
    refine J_iconst (v := 0) dX0_keep_19 (by decide) ?_
    refine J_callVI (c := 0) (as := [.int 0]) dX0_keep_20 (by decide) rfl (Nat.le_of_ble_eq_true rfl) (cw_X0_is0 _ (by decide)) q659 q661 qs2 q662 np_X0_is0 (i_X0_is0 x0 0) jad_id rfl (fun v2 => ?_)
    exact J_zreturn dX0_keep_23 rfl
  refine J_aload_n dX0_keep_7 rfl 0 rfl ?_
  refine J_iconst (v := 2) dX0_keep_8 (by decide) ?_
  refine J_callVI (c := 0) (as := [.int 2]) dX0_keep_9 (by decide) rfl (Nat.le_of_ble_eq_true rfl) (cw_X0_is0 _ (by decide)) q659 q661 qs2 q662 np_X0_is0 (i_X0_is0 x0 2) jad_id rfl (fun v3 => ?_)
  exact J_zreturn dX0_keep_12 rfl
theorem i_X0_keep (x0 : Nat) (x1 : Int32) : Impl (ws_ yX0_keep cX0_keep 2 (some .boolean)) yX0_keep 3 false 0 0 [.ref x0, .int x1] (f_X0_keep x0 x1) injI := impl_of (plainFor_of_name (by decide)) (Nat.le_of_ble_eq_true rfl) (fun D dA => j_X0_keep D dA x0 x1)
theorem cw_X0_keep (Y : JY) (h : 4 ≤ Y.2.2.2.1) : JCw Y (ws_ yX0_keep cX0_keep 2 (some .boolean)) yX0_keep cX0_keep 2 (some .boolean) 3 := ⟨h, by decide, lw_meth q1075, q187, by decide, by decide⟩
theorem np_X0_keep : JNp yX0_keep.desc 1 := by decide +kernel
-- BracketRoom.noShelf(I)I
abbrev Y_X0_noShelf : JY := (cX0_noShelf, yX0_noShelf.cls, 2, 2, yX0_noShelf.name, (some .int), [])
noncomputable def f_X0_noShelf (x0 : Nat) (x1 : Int32) : JM Mem Int32 :=
  jb ((f_X0_isShelf x1)) fun v1 =>
  if v1 = 0 then
    jp 2
  else
  jb (jgetA 0 5 x0) fun v2 =>
  jb (jald mI 4 v2 x1) fun v3 =>
  if v3 = 0 then
    jp 8
  else
    jp 0
theorem j_X0_noShelf (D : va_G) (dA : Nat → ClassId) (x0 : Nat) (x1 : Int32) : J (PM D dA false) Y_X0_noShelf [(0, .ref x0), (1, .int x1)] [] 0 (f_X0_noShelf x0 x1) (FRet injI) := by
  unfold f_X0_noShelf
  refine J_iload_n dX0_noShelf_0 rfl 1 rfl ?_
  refine J_callSI (host := "") (as := [.int x1]) dX0_noShelf_1 rfl (Nat.le_of_ble_eq_true rfl) (cw_X0_isShelf _ (by decide)) q1076 q1077 q1078 np_X0_isShelf (i_X0_isShelf x1) jad_id rfl (fun v1 => ?_)
  refine J_if_ne (tgt := 11) dX0_noShelf_4 rfl ?_ ?_
  · refine J_aload_n dX0_noShelf_11 rfl 0 rfl ?_
    refine J_getA dX0_noShelf_12 fl_X0_41 rfl (fun v2 => ?_)
    refine J_iload_n dX0_noShelf_15 rfl 1 rfl ?_
    refine J_zald dX0_noShelf_16 (fun v3 => ?_)
    refine J_if_eq (tgt := 24) dX0_noShelf_17 rfl ?_ ?_
    · refine J_bipush (v := 8) dX0_noShelf_24 (by decide) ?_
      exact J_ireturn dX0_noShelf_26 rfl
    refine J_iconst (v := 0) dX0_noShelf_20 (by decide) ?_
    refine J_goto (tgt := 26) dX0_noShelf_21 rfl ?_
    exact J_ireturn dX0_noShelf_26 rfl
  refine J_iconst (v := 2) dX0_noShelf_7 (by decide) ?_
  refine J_goto (tgt := 26) dX0_noShelf_8 rfl ?_
  exact J_ireturn dX0_noShelf_26 rfl
theorem i_X0_noShelf (x0 : Nat) (x1 : Int32) : Impl (ws_ yX0_noShelf cX0_noShelf 2 (some .int)) yX0_noShelf 2 false 0 0 [.ref x0, .int x1] (f_X0_noShelf x0 x1) injI := impl_of (plainFor_of_name (by decide)) (Nat.le_of_ble_eq_true rfl) (fun D dA => j_X0_noShelf D dA x0 x1)
theorem cw_X0_noShelf (Y : JY) (h : 3 ≤ Y.2.2.2.1) : JCw Y (ws_ yX0_noShelf cX0_noShelf 2 (some .int)) yX0_noShelf cX0_noShelf 2 (some .int) 2 := ⟨h, by decide, lw_meth q1090, q187, by decide, by decide⟩
theorem np_X0_noShelf : JNp yX0_noShelf.desc 1 := by decide +kernel
-- BracketRoom.take(I)Z
abbrev Y_X0_take : JY := (cX0_take, yX0_take.cls, 3, 3, yX0_take.name, (some .boolean), [])
noncomputable def X0_take_b23 (x0 : Nat) (x2 : Int32) : JM Mem Int32 :=
  jb (jcall 0 x0 (f_X0_is0 x0 x2)) fun v2 =>
  jrz v2
theorem j_X0_take_b23 (D : va_G) (dA : Nat → ClassId) (x0 : Nat) (x2 : Int32) : J (PM D dA false) Y_X0_take [(0, .ref x0), (2, .int x2)] [] 23 (X0_take_b23 x0 x2) (FRet injI) := by
  unfold X0_take_b23
  refine J_aload_n dX0_take_23 rfl 0 rfl ?_
  refine J_iload_n dX0_take_24 rfl 1 rfl ?_
  refine J_callVI (c := 0) (as := [.int x2]) dX0_take_25 (by decide) rfl (Nat.le_of_ble_eq_true rfl) (cw_X0_is0 _ (by decide)) q659 q661 qs2 q662 np_X0_is0 (i_X0_is0 x0 x2) jad_id rfl (fun v2 => ?_)
  exact J_zreturn dX0_take_28 rfl
noncomputable def f_X0_take (x0 : Nat) (x1 : Int32) : JM Mem Int32 :=
  jb (jcall 0 x0 (f_X0_noShelf x0 x1)) fun v1 =>
  if v1 = 0 then
    jb (jgetA 0 2 x0) fun v3 =>
    jb (jgetA 0 4 x0) fun v4 =>
    jb (jaldA 7 v4 x1) fun v5 =>
    jb (jcall 3 v3 (f_X4_copy v3 v5)) fun _ =>
    X0_take_b23 x0 v1
  else
    X0_take_b23 x0 v1
theorem j_X0_take (D : va_G) (dA : Nat → ClassId) (x0 : Nat) (x1 : Int32) : J (PM D dA false) Y_X0_take [(0, .ref x0), (1, .int x1)] [] 0 (f_X0_take x0 x1) (FRet injI) := by
  unfold f_X0_take
  refine J_aload_n dX0_take_0 rfl 0 rfl ?_
  refine J_iload_n dX0_take_1 rfl 1 rfl ?_
  refine J_callVI (c := 0) (as := [.int x1]) dX0_take_2 (by decide) rfl (Nat.le_of_ble_eq_true rfl) (cw_X0_noShelf _ (by decide)) q1087 q1089 qs17 q1090 np_X0_noShelf (i_X0_noShelf x0 x1) jad_id rfl (fun v1 => ?_)
  refine J_istore_n (env' := [(2, .int v1), (0, .ref x0), (1, .int x1)]) dX0_take_5 rfl (by decide) rfl ?_
  refine J_iload_n dX0_take_6 rfl 0 rfl ?_
  refine J_if_ne (tgt := 23) dX0_take_7 rfl ?_ ?_
  · refine J_sub [1, 0] rfl ?_
    exact j_X0_take_b23 D dA x0 v1
  refine J_aload_n dX0_take_10 rfl 1 rfl ?_
  refine J_getA dX0_take_11 fl_X0_30 rfl (fun v3 => ?_)
  refine J_aload_n dX0_take_14 rfl 1 rfl ?_
  refine J_getA dX0_take_15 fl_X0_37 rfl (fun v4 => ?_)
  refine J_iload_n dX0_take_18 rfl 2 rfl ?_
  refine J_aald dX0_take_19 rfl (by decide) (fun v5 => ?_)
  refine J_callVV (c := 3) (as := [.ref v5]) dX0_take_20 (by decide) rfl (Nat.le_of_ble_eq_true rfl) (cw_X4_copy _ (by decide)) q939 q940 q941 q942 np_X4_copy (i_X4_copy v3 v5) jad_id rfl ?_
  refine J_sub [1, 0] rfl ?_
  exact j_X0_take_b23 D dA x0 v1
theorem i_X0_take (x0 : Nat) (x1 : Int32) : Impl (ws_ yX0_take cX0_take 3 (some .boolean)) yX0_take 3 false 0 0 [.ref x0, .int x1] (f_X0_take x0 x1) injI := impl_of (plainFor_of_name (by decide)) (Nat.le_of_ble_eq_true rfl) (fun D dA => j_X0_take D dA x0 x1)
theorem cw_X0_take (Y : JY) (h : 4 ≤ Y.2.2.2.1) : JCw Y (ws_ yX0_take cX0_take 3 (some .boolean)) yX0_take cX0_take 3 (some .boolean) 3 := ⟨h, by decide, lw_meth q1086, q187, by decide, by decide⟩
theorem np_X0_take : JNp yX0_take.desc 1 := by decide +kernel
-- BracketRoom.isFrom(JJJ)Z
abbrev Y_X0_isFrom : JY := (cX0_isFrom, yX0_isFrom.cls, 6, 1, yX0_isFrom.name, (some .boolean), [])
noncomputable def f_X0_isFrom (x0 : Int64) (x2 : Int64) (x4 : Int64) : JM Mem Int32 :=
  if x0 < x2 then
    jp 0
  else
  if x4 < x0 then
    jp 0
  else
    jp 1
theorem j_X0_isFrom (D : va_G) (dA : Nat → ClassId) (x0 : Int64) (x2 : Int64) (x4 : Int64) : J (PM D dA false) Y_X0_isFrom [(0, .long x0), (2, .long x2), (4, .long x4)] [] 0 (f_X0_isFrom x0 x2 x4) (FRet injI) := by
  unfold f_X0_isFrom
  refine J_lload_n dX0_isFrom_0 rfl 0 rfl ?_
  refine J_lload_n dX0_isFrom_1 rfl 1 rfl ?_
  refine J_lcmp_lt (tgt := 17) dX0_isFrom_2 dX0_isFrom_3 rfl ?_ ?_
  · refine J_iconst (v := 0) dX0_isFrom_17 (by decide) ?_
    exact J_zreturn0 dX0_isFrom_18 rfl
  refine J_lload_n dX0_isFrom_6 rfl 0 rfl ?_
  refine J_lload dX0_isFrom_7 2 rfl ?_
  refine J_lcmp_gt (tgt := 17) dX0_isFrom_9 dX0_isFrom_10 rfl ?_ ?_
  · refine J_iconst (v := 0) dX0_isFrom_17 (by decide) ?_
    exact J_zreturn0 dX0_isFrom_18 rfl
  refine J_iconst (v := 1) dX0_isFrom_13 (by decide) ?_
  refine J_goto (tgt := 18) dX0_isFrom_14 rfl ?_
  exact J_zreturn1 dX0_isFrom_18 rfl
theorem i_X0_isFrom (x0 : Int64) (x2 : Int64) (x4 : Int64) : Impl (ws_ yX0_isFrom cX0_isFrom 6 (some .boolean)) yX0_isFrom 1 false 0 0 [.long x0, .long x2, .long x4] (f_X0_isFrom x0 x2 x4) injI := impl_of (plainFor_of_name (by decide)) (Nat.le_of_ble_eq_true rfl) (fun D dA => j_X0_isFrom D dA x0 x2 x4)
theorem cw_X0_isFrom (Y : JY) (h : 2 ≤ Y.2.2.2.1) : JCw Y (ws_ yX0_isFrom cX0_isFrom 6 (some .boolean)) yX0_isFrom cX0_isFrom 6 (some .boolean) 1 := ⟨h, by decide, lw_meth q1098, q187, by decide, by decide⟩
theorem np_X0_isFrom : JNp yX0_isFrom.desc 3 := by decide +kernel
-- BracketRoom.wrongRow(IIZ)I
abbrev Y_X0_wrongRow : JY := (cX0_wrongRow, yX0_wrongRow.cls, 6, 3, yX0_wrongRow.name, (some .int), [])
noncomputable def X0_wrongRow_L47 (x0 : Nat) (x2 : Int32) (x4 : Nat) (x5 : Int32) : JM Mem (Int32 ⊕ (Int32)) :=
  if x2 ≤ x5 then
    jinl (jp 0)
  else
  jb (jcall 5 x4 (f_X6_get x4 x5)) fun v6 =>
  jb (jcall 0 x0 (f_X0_isVector x0 v6)) fun v7 =>
  if v7 = 0 then
    jinl (jp 5)
  else
    jcont (x5 + 1)
theorem j_X0_wrongRow_L47 (D : va_G) (dA : Nat → ClassId) (x0 : Nat) (x2 : Int32) (x4 : Nat) (x5 : Int32) : J (PM D dA false) Y_X0_wrongRow [(0, .ref x0), (2, .int x2), (4, .ref x4), (5, .int x5)] [] 47 (X0_wrongRow_L47 x0 x2 x4 x5) (FLoop (FRet injI) 47 (fun (t : Int32) => [(0, .ref x0), (2, .int x2), (4, .ref x4), (5, .int t)])) := by
  unfold X0_wrongRow_L47
  refine J_iload dX0_wrongRow_47 3 rfl ?_
  refine J_iload_n dX0_wrongRow_49 rfl 1 rfl ?_
  refine J_icmp_ge (tgt := 75) dX0_wrongRow_50 rfl ?_ ?_
  · refine J_inl ?_
    refine J_iconst (v := 0) dX0_wrongRow_75 (by decide) ?_
    exact J_ireturn dX0_wrongRow_76 rfl
  refine J_aload_n dX0_wrongRow_53 rfl 0 rfl ?_
  refine J_aload dX0_wrongRow_54 2 rfl ?_
  refine J_iload dX0_wrongRow_56 3 rfl ?_
  refine J_callVL (c := 5) (as := [.int x5]) dX0_wrongRow_58 (by decide) rfl (Nat.le_of_ble_eq_true rfl) (cw_X6_get _ (by decide)) q733 q734 q735 q736 np_X6_get (i_X6_get x4 x5) jad_id rfl (fun v6 => ?_)
  refine J_callVI (c := 0) (as := [.long v6]) dX0_wrongRow_61 (by decide) rfl (Nat.le_of_ble_eq_true rfl) (cw_X0_isVector _ (by decide)) q1036 q1038 qs14 q1039 np_X0_isVector (i_X0_isVector x0 v6) jad_id rfl (fun v7 => ?_)
  refine J_if_ne (tgt := 69) dX0_wrongRow_64 rfl ?_ ?_
  · refine J_iinc (v := x5 + 1) (env' := [(5, .int (x5 + 1)), (0, .ref x0), (2, .int x2), (4, .ref x4)]) dX0_wrongRow_69 3 rfl rfl (by decide) rfl ?_
    refine J_goto (tgt := 47) dX0_wrongRow_72 rfl ?_
    exact J_cont [1, 2, 3, 0] rfl
  refine J_inl ?_
  refine J_iconst (v := 5) dX0_wrongRow_67 (by decide) ?_
  exact J_ireturn dX0_wrongRow_68 rfl
noncomputable def f_X0_wrongRow (x0 : Nat) (x1 : Int32) (x2 : Int32) (x3 : Int32) : JM Mem Int32 :=
  jb ((f_X0_isTray x1)) fun v1 =>
  if v1 = 0 then
    jp 1
  else
  jb (jgetA 0 0 x0) fun v2 =>
  jb (jaldA 9 v2 x1) fun v3 =>
  jb (jgetO 5 0 v3) fun v4 =>
  if v4 = none then
    jp 3
  else
  if x3 = 0 then
    jp 5
  else
  jb (jcall 5 v3 (f_X6_many v3)) fun v5 =>
  if x2 ≤ v5 then
    jloop (fun (t : Int32) => X0_wrongRow_L47 x0 x2 v3 t) 0
  else
    jp 4
theorem j_X0_wrongRow (D : va_G) (dA : Nat → ClassId) (x0 : Nat) (x1 : Int32) (x2 : Int32) (x3 : Int32) : J (PM D dA false) Y_X0_wrongRow [(0, .ref x0), (1, .int x1), (2, .int x2), (3, .int x3)] [] 0 (f_X0_wrongRow x0 x1 x2 x3) (FRet injI) := by
  unfold f_X0_wrongRow
  refine J_iload_n dX0_wrongRow_0 rfl 1 rfl ?_
  refine J_callSI (host := "") (as := [.int x1]) dX0_wrongRow_1 rfl (Nat.le_of_ble_eq_true rfl) (cw_X0_isTray _ (by decide)) q656 q657 q658 np_X0_isTray (i_X0_isTray x1) jad_id rfl (fun v1 => ?_)
  refine J_if_ne (tgt := 9) dX0_wrongRow_4 rfl ?_ ?_
  · refine J_aload_n dX0_wrongRow_9 rfl 0 rfl ?_
    refine J_getA dX0_wrongRow_10 fl_X0_11 rfl (fun v2 => ?_)
    refine J_iload_n dX0_wrongRow_13 rfl 1 rfl ?_
    refine J_aald dX0_wrongRow_14 rfl (by decide) (fun v3 => ?_)
    refine J_astore (env' := [(4, .ref v3), (0, .ref x0), (1, .int x1), (2, .int x2), (3, .int x3)]) dX0_wrongRow_15 (by decide) rfl ?_
    refine J_aload dX0_wrongRow_17 0 rfl ?_
    refine J_getO dX0_wrongRow_19 fl_X0_181 rfl (fun v4 => ?_)
    refine J_ifnonnull (x := v4) (tgt := 27) dX0_wrongRow_22 rfl ?_ ?_
    · refine J_iload_n dX0_wrongRow_27 rfl 4 rfl ?_
      refine J_if_ne (tgt := 33) dX0_wrongRow_28 rfl ?_ ?_
      · refine J_aload dX0_wrongRow_33 0 rfl ?_
        refine J_callVI (c := 5) (as := []) dX0_wrongRow_35 (by decide) rfl (Nat.le_of_ble_eq_true rfl) (cw_X6_many _ (by decide)) q1103 q1104 q1105 q1106 np_X6_many (i_X6_many v3) jad_id rfl (fun v5 => ?_)
        refine J_iload_n dX0_wrongRow_38 rfl 3 rfl ?_
        refine J_icmp_ge (tgt := 44) dX0_wrongRow_39 rfl ?_ ?_
        · refine J_iconst (v := 0) dX0_wrongRow_44 (by decide) ?_
          refine J_istore (env' := [(5, .int 0), (4, .ref v3), (0, .ref x0), (1, .int x1), (2, .int x2), (3, .int x3)]) dX0_wrongRow_45 (by decide) rfl ?_
          refine J_loop (he := fun (t : Int32) => [(0, .ref x0), (2, .int x2), (4, .ref v3), (5, .int t)]) [2, 4, 1, 0] rfl (fun t => ?_)
          exact j_X0_wrongRow_L47 D dA x0 x2 v3 t
        refine J_iconst (v := 4) dX0_wrongRow_42 (by decide) ?_
        exact J_ireturn dX0_wrongRow_43 rfl
      refine J_iconst (v := 5) dX0_wrongRow_31 (by decide) ?_
      exact J_ireturn dX0_wrongRow_32 rfl
    refine J_iconst (v := 3) dX0_wrongRow_25 (by decide) ?_
    exact J_ireturn dX0_wrongRow_26 rfl
  refine J_iconst (v := 1) dX0_wrongRow_7 (by decide) ?_
  exact J_ireturn dX0_wrongRow_8 rfl
theorem i_X0_wrongRow (x0 : Nat) (x1 : Int32) (x2 : Int32) (x3 : Int32) : Impl (ws_ yX0_wrongRow cX0_wrongRow 6 (some .int)) yX0_wrongRow 3 false 0 0 [.ref x0, .int x1, .int x2, .int x3] (f_X0_wrongRow x0 x1 x2 x3) injI := impl_of (plainFor_of_name (by decide)) (Nat.le_of_ble_eq_true rfl) (fun D dA => j_X0_wrongRow D dA x0 x1 x2 x3)
theorem cw_X0_wrongRow (Y : JY) (h : 4 ≤ Y.2.2.2.1) : JCw Y (ws_ yX0_wrongRow cX0_wrongRow 6 (some .int)) yX0_wrongRow cX0_wrongRow 6 (some .int) 3 := ⟨h, by decide, lw_meth q1102, q187, by decide, by decide⟩
theorem np_X0_wrongRow : JNp yX0_wrongRow.desc 3 := by decide +kernel
-- BracketRoom.spans(LBracketRoom$Span;II)V
abbrev Y_X0_spans : JY := (cX0_spans, yX0_spans.cls, 5, 5, yX0_spans.name, none, [])
noncomputable def X0_spans_L8 (x0 : Nat) (x1 : Nat) (x2 : Int32) (x3 : Int32) (x4 : Int32) : JM Mem (Unit ⊕ (Int32)) :=
  if x3 ≤ x4 then
    jinl (jp ())
  else
  jb (jgetA 0 2 x0) fun v1 =>
  jb (jgetA 0 0 x0) fun v2 =>
  jb (jaldA 9 v2 x2) fun v3 =>
  jb (jcall 5 v3 (f_X6_get v3 x4)) fun v4 =>
  jb (jgetA 0 15 x0) fun v5 =>
  jb (jcall 3 v1 (f_X4_parts v1 ((v4 : Int64).toInt32) v5)) fun _ =>
  jb (jgetA 0 2 x0) fun v6 =>
  jb (jgetA 0 15 x0) fun v7 =>
  jb (jcall 4 x1 (f_X5_add x1 v6 v7)) fun v8 =>
  jcont (x4 + 1)
theorem j_X0_spans_L8 (D : va_G) (dA : Nat → ClassId) (x0 : Nat) (x1 : Nat) (x2 : Int32) (x3 : Int32) (x4 : Int32) : J (PM D dA false) Y_X0_spans [(0, .ref x0), (1, .ref x1), (2, .int x2), (3, .int x3), (4, .int x4)] [] 8 (X0_spans_L8 x0 x1 x2 x3 x4) (FLoop (FRet injU) 8 (fun (t : Int32) => [(0, .ref x0), (1, .ref x1), (2, .int x2), (3, .int x3), (4, .int t)])) := by
  unfold X0_spans_L8
  refine J_iload dX0_spans_8 4 rfl ?_
  refine J_iload_n dX0_spans_10 rfl 3 rfl ?_
  refine J_icmp_ge (tgt := 56) dX0_spans_11 rfl ?_ ?_
  · refine J_inl ?_
    exact J_return dX0_spans_56 rfl
  refine J_aload_n dX0_spans_14 rfl 0 rfl ?_
  refine J_getA dX0_spans_15 fl_X0_30 rfl (fun v1 => ?_)
  refine J_aload_n dX0_spans_18 rfl 0 rfl ?_
  refine J_getA dX0_spans_19 fl_X0_11 rfl (fun v2 => ?_)
  refine J_iload_n dX0_spans_22 rfl 2 rfl ?_
  refine J_aald dX0_spans_23 rfl (by decide) (fun v3 => ?_)
  refine J_iload dX0_spans_24 4 rfl ?_
  refine J_callVL (c := 5) (as := [.int x4]) dX0_spans_26 (by decide) rfl (Nat.le_of_ble_eq_true rfl) (cw_X6_get _ (by decide)) q733 q734 q735 q736 np_X6_get (i_X6_get v3 x4) jad_id rfl (fun v4 => ?_)
  refine J_l2i dX0_spans_29 ?_
  refine J_aload_n dX0_spans_30 rfl 0 rfl ?_
  refine J_getA dX0_spans_31 fl_X0_63 rfl (fun v5 => ?_)
  refine J_callVV (c := 3) (as := [.int ((v4 : Int64).toInt32), .ref v5]) dX0_spans_34 (by decide) rfl (Nat.le_of_ble_eq_true rfl) (cw_X4_parts _ (by decide)) q1044 q1045 q1046 q1047 np_X4_parts (i_X4_parts v1 ((v4 : Int64).toInt32) v5) jad_id rfl ?_
  refine J_aload_n dX0_spans_37 rfl 1 rfl ?_
  refine J_aload_n dX0_spans_38 rfl 0 rfl ?_
  refine J_getA dX0_spans_39 fl_X0_30 rfl (fun v6 => ?_)
  refine J_aload_n dX0_spans_42 rfl 0 rfl ?_
  refine J_getA dX0_spans_43 fl_X0_63 rfl (fun v7 => ?_)
  refine J_callVI (c := 4) (as := [.ref v6, .ref v7]) dX0_spans_46 (by decide) rfl (Nat.le_of_ble_eq_true rfl) (cw_X5_add _ (by decide)) q1111 q1112 q1113 q1114 np_X5_add (i_X5_add x1 v6 v7) jad_id rfl (fun v8 => ?_)
  refine J_pop dX0_spans_49 rfl ?_
  refine J_iinc (v := x4 + 1) (env' := [(4, .int (x4 + 1)), (0, .ref x0), (1, .ref x1), (2, .int x2), (3, .int x3)]) dX0_spans_50 4 rfl rfl (by decide) rfl ?_
  refine J_goto (tgt := 8) dX0_spans_53 rfl ?_
  exact J_cont [1, 2, 3, 4, 0] rfl
noncomputable def f_X0_spans (x0 : Nat) (x1 : Nat) (x2 : Int32) (x3 : Int32) : JM Mem Unit :=
  jb (jputI 4 2 x1 0) fun _ =>
  jloop (fun (t : Int32) => X0_spans_L8 x0 x1 x2 x3 t) 0
theorem j_X0_spans (D : va_G) (dA : Nat → ClassId) (x0 : Nat) (x1 : Nat) (x2 : Int32) (x3 : Int32) : J (PM D dA false) Y_X0_spans [(0, .ref x0), (1, .ref x1), (2, .int x2), (3, .int x3)] [] 0 (f_X0_spans x0 x1 x2 x3) (FRet injU) := by
  unfold f_X0_spans
  refine J_aload_n dX0_spans_0 rfl 1 rfl ?_
  refine J_iconst (v := 0) dX0_spans_1 (by decide) ?_
  refine J_putI dX0_spans_2 ⟨fl_X0_302, Or.inl rfl⟩ rfl ?_
  refine J_iconst (v := 0) dX0_spans_5 (by decide) ?_
  refine J_istore (env' := [(4, .int 0), (0, .ref x0), (1, .ref x1), (2, .int x2), (3, .int x3)]) dX0_spans_6 (by decide) rfl ?_
  refine J_loop (he := fun (t : Int32) => [(0, .ref x0), (1, .ref x1), (2, .int x2), (3, .int x3), (4, .int t)]) [1, 2, 3, 4, 0] rfl (fun t => ?_)
  exact j_X0_spans_L8 D dA x0 x1 x2 x3 t
theorem i_X0_spans (x0 : Nat) (x1 : Nat) (x2 : Int32) (x3 : Int32) : Impl (ws_ yX0_spans cX0_spans 5 none) yX0_spans 5 false 0 0 [.ref x0, .ref x1, .int x2, .int x3] (f_X0_spans x0 x1 x2 x3) injU := impl_of (plainFor_of_name (by decide)) (Nat.le_of_ble_eq_true rfl) (fun D dA => j_X0_spans D dA x0 x1 x2 x3)
theorem cw_X0_spans (Y : JY) (h : 6 ≤ Y.2.2.2.1) : JCw Y (ws_ yX0_spans cX0_spans 5 none) yX0_spans cX0_spans 5 none 5 := ⟨h, by decide, lw_meth q1110, q187, by decide, by decide⟩
theorem np_X0_spans : JNp yX0_spans.desc 3 := by decide +kernel
-- BracketRoom.brackets(LBracketRoom$World;LBracketRoom$Span;LBracketRoom$Span;LBracketRoom$Span;)V
abbrev Y_X0_brackets : JY := (cX0_brackets, yX0_brackets.cls, 7, 5, yX0_brackets.name, none, [])
noncomputable def X0_brackets_b69 (x0 : Nat) (x1 : Nat) (x2 : Nat) (x3 : Nat) (x4 : Nat) (x5 : Int32) : JM Mem (Unit ⊕ (Int32)) :=
  jcont (x5 + 1)
theorem j_X0_brackets_b69 (D : va_G) (dA : Nat → ClassId) (x0 : Nat) (x1 : Nat) (x2 : Nat) (x3 : Nat) (x4 : Nat) (x5 : Int32) : J (PM D dA false) Y_X0_brackets [(0, .ref x0), (1, .ref x1), (2, .ref x2), (3, .ref x3), (4, .ref x4), (5, .int x5)] [] 69 (X0_brackets_b69 x0 x1 x2 x3 x4 x5) (FLoop (FRet injU) 9 (fun (t : Int32) => [(0, .ref x0), (1, .ref x1), (2, .ref x2), (3, .ref x3), (4, .ref x4), (5, .int t)])) := by
  unfold X0_brackets_b69
  refine J_iinc (v := x5 + 1) (env' := [(5, .int (x5 + 1)), (0, .ref x0), (1, .ref x1), (2, .ref x2), (3, .ref x3), (4, .ref x4)]) dX0_brackets_69 5 rfl rfl (by decide) rfl ?_
  refine J_goto (tgt := 9) dX0_brackets_72 rfl ?_
  exact J_cont [1, 2, 3, 4, 5, 0] rfl
noncomputable def X0_brackets_L21 (x0 : Nat) (x1 : Nat) (x2 : Nat) (x3 : Nat) (x4 : Nat) (x5 : Int32) (x6 : Int32) : JM Mem ((Unit ⊕ (Int32)) ⊕ (Int32)) :=
  jb (jgetI 4 2 x3) fun v2 =>
  if v2 ≤ x6 then
    jinl (X0_brackets_b69 x0 x1 x2 x3 x4 x5)
  else
  jb (jgetA 4 0 x2) fun v3 =>
  jb (jaldA 5 v3 x5) fun v4 =>
  jb (jgetA 4 0 x3) fun v5 =>
  jb (jaldA 5 v5 x6) fun v6 =>
  jb (jgetA 0 15 x0) fun v7 =>
  jb (jcall 3 x1 (f_X4_bracket x1 v4 v6 v7)) fun _ =>
  jb (jgetA 0 15 x0) fun v8 =>
  jb (jcall 4 x4 (f_X5_add x4 x1 v8)) fun v9 =>
  jcont (x6 + 1)
theorem j_X0_brackets_L21 (D : va_G) (dA : Nat → ClassId) (x0 : Nat) (x1 : Nat) (x2 : Nat) (x3 : Nat) (x4 : Nat) (x5 : Int32) (x6 : Int32) : J (PM D dA false) Y_X0_brackets [(0, .ref x0), (1, .ref x1), (2, .ref x2), (3, .ref x3), (4, .ref x4), (5, .int x5), (6, .int x6)] [] 21 (X0_brackets_L21 x0 x1 x2 x3 x4 x5 x6) (FLoop (FLoop (FRet injU) 9 (fun (t : Int32) => [(0, .ref x0), (1, .ref x1), (2, .ref x2), (3, .ref x3), (4, .ref x4), (5, .int t)])) 21 (fun (t : Int32) => [(0, .ref x0), (1, .ref x1), (2, .ref x2), (3, .ref x3), (4, .ref x4), (5, .int x5), (6, .int t)])) := by
  unfold X0_brackets_L21
  refine J_iload dX0_brackets_21 6 rfl ?_
  refine J_aload_n dX0_brackets_23 rfl 3 rfl ?_
  refine J_getI dX0_brackets_24 fl_X0_302 rfl (fun v2 => ?_)
  refine J_icmp_ge (tgt := 69) dX0_brackets_27 rfl ?_ ?_
  · refine J_inl ?_
    refine J_sub [0, 1, 2, 3, 4, 5] rfl ?_
    exact j_X0_brackets_b69 D dA x0 x1 x2 x3 x4 x5
  refine J_aload_n dX0_brackets_30 rfl 1 rfl ?_
  refine J_aload_n dX0_brackets_31 rfl 2 rfl ?_
  refine J_getA dX0_brackets_32 fl_X0_305 rfl (fun v3 => ?_)
  refine J_iload dX0_brackets_35 5 rfl ?_
  refine J_aald dX0_brackets_37 rfl (by decide) (fun v4 => ?_)
  refine J_aload_n dX0_brackets_38 rfl 3 rfl ?_
  refine J_getA dX0_brackets_39 fl_X0_305 rfl (fun v5 => ?_)
  refine J_iload dX0_brackets_42 6 rfl ?_
  refine J_aald dX0_brackets_44 rfl (by decide) (fun v6 => ?_)
  refine J_aload_n dX0_brackets_45 rfl 0 rfl ?_
  refine J_getA dX0_brackets_46 fl_X0_63 rfl (fun v7 => ?_)
  refine J_callVV (c := 3) (as := [.ref v4, .ref v6, .ref v7]) dX0_brackets_49 (by decide) rfl (Nat.le_of_ble_eq_true rfl) (cw_X4_bracket _ (by decide)) q1048 q1049 q1050 q1051 np_X4_bracket (i_X4_bracket x1 v4 v6 v7) jad_id rfl ?_
  refine J_aload dX0_brackets_52 4 rfl ?_
  refine J_aload_n dX0_brackets_54 rfl 1 rfl ?_
  refine J_aload_n dX0_brackets_55 rfl 0 rfl ?_
  refine J_getA dX0_brackets_56 fl_X0_63 rfl (fun v8 => ?_)
  refine J_callVI (c := 4) (as := [.ref x1, .ref v8]) dX0_brackets_59 (by decide) rfl (Nat.le_of_ble_eq_true rfl) (cw_X5_add _ (by decide)) q1111 q1112 q1113 q1114 np_X5_add (i_X5_add x4 x1 v8) jad_id rfl (fun v9 => ?_)
  refine J_pop dX0_brackets_62 rfl ?_
  refine J_iinc (v := x6 + 1) (env' := [(6, .int (x6 + 1)), (0, .ref x0), (1, .ref x1), (2, .ref x2), (3, .ref x3), (4, .ref x4), (5, .int x5)]) dX0_brackets_63 6 rfl rfl (by decide) rfl ?_
  refine J_goto (tgt := 21) dX0_brackets_66 rfl ?_
  exact J_cont [1, 2, 3, 4, 5, 6, 0] rfl
noncomputable def X0_brackets_L9 (x0 : Nat) (x1 : Nat) (x2 : Nat) (x3 : Nat) (x4 : Nat) (x5 : Int32) : JM Mem (Unit ⊕ (Int32)) :=
  jb (jgetI 4 2 x2) fun v1 =>
  if v1 ≤ x5 then
    jinl (jp ())
  else
    jloop (fun (t : Int32) => X0_brackets_L21 x0 x1 x2 x3 x4 x5 t) 0
theorem j_X0_brackets_L9 (D : va_G) (dA : Nat → ClassId) (x0 : Nat) (x1 : Nat) (x2 : Nat) (x3 : Nat) (x4 : Nat) (x5 : Int32) : J (PM D dA false) Y_X0_brackets [(0, .ref x0), (1, .ref x1), (2, .ref x2), (3, .ref x3), (4, .ref x4), (5, .int x5)] [] 9 (X0_brackets_L9 x0 x1 x2 x3 x4 x5) (FLoop (FRet injU) 9 (fun (t : Int32) => [(0, .ref x0), (1, .ref x1), (2, .ref x2), (3, .ref x3), (4, .ref x4), (5, .int t)])) := by
  unfold X0_brackets_L9
  refine J_iload dX0_brackets_9 5 rfl ?_
  refine J_aload_n dX0_brackets_11 rfl 2 rfl ?_
  refine J_getI dX0_brackets_12 fl_X0_302 rfl (fun v1 => ?_)
  refine J_icmp_ge (tgt := 75) dX0_brackets_15 rfl ?_ ?_
  · refine J_inl ?_
    exact J_return dX0_brackets_75 rfl
  refine J_iconst (v := 0) dX0_brackets_18 (by decide) ?_
  refine J_istore (env' := [(6, .int 0), (0, .ref x0), (1, .ref x1), (2, .ref x2), (3, .ref x3), (4, .ref x4), (5, .int x5)]) dX0_brackets_19 (by decide) rfl ?_
  refine J_loop (he := fun (t : Int32) => [(0, .ref x0), (1, .ref x1), (2, .ref x2), (3, .ref x3), (4, .ref x4), (5, .int x5), (6, .int t)]) [1, 2, 3, 4, 5, 6, 0] rfl (fun t => ?_)
  exact j_X0_brackets_L21 D dA x0 x1 x2 x3 x4 x5 t
noncomputable def f_X0_brackets (x0 : Nat) (x1 : Nat) (x2 : Nat) (x3 : Nat) (x4 : Nat) : JM Mem Unit :=
  jb (jputI 4 2 x4 0) fun _ =>
  jloop (fun (t : Int32) => X0_brackets_L9 x0 x1 x2 x3 x4 t) 0
theorem j_X0_brackets (D : va_G) (dA : Nat → ClassId) (x0 : Nat) (x1 : Nat) (x2 : Nat) (x3 : Nat) (x4 : Nat) : J (PM D dA false) Y_X0_brackets [(0, .ref x0), (1, .ref x1), (2, .ref x2), (3, .ref x3), (4, .ref x4)] [] 0 (f_X0_brackets x0 x1 x2 x3 x4) (FRet injU) := by
  unfold f_X0_brackets
  refine J_aload dX0_brackets_0 4 rfl ?_
  refine J_iconst (v := 0) dX0_brackets_2 (by decide) ?_
  refine J_putI dX0_brackets_3 ⟨fl_X0_302, Or.inl rfl⟩ rfl ?_
  refine J_iconst (v := 0) dX0_brackets_6 (by decide) ?_
  refine J_istore (env' := [(5, .int 0), (0, .ref x0), (1, .ref x1), (2, .ref x2), (3, .ref x3), (4, .ref x4)]) dX0_brackets_7 (by decide) rfl ?_
  refine J_loop (he := fun (t : Int32) => [(0, .ref x0), (1, .ref x1), (2, .ref x2), (3, .ref x3), (4, .ref x4), (5, .int t)]) [1, 2, 3, 4, 5, 0] rfl (fun t => ?_)
  exact j_X0_brackets_L9 D dA x0 x1 x2 x3 x4 t
theorem i_X0_brackets (x0 : Nat) (x1 : Nat) (x2 : Nat) (x3 : Nat) (x4 : Nat) : Impl (ws_ yX0_brackets cX0_brackets 7 none) yX0_brackets 5 false 0 0 [.ref x0, .ref x1, .ref x2, .ref x3, .ref x4] (f_X0_brackets x0 x1 x2 x3 x4) injU := impl_of (plainFor_of_name (by decide)) (Nat.le_of_ble_eq_true rfl) (fun D dA => j_X0_brackets D dA x0 x1 x2 x3 x4)
theorem cw_X0_brackets (Y : JY) (h : 6 ≤ Y.2.2.2.1) : JCw Y (ws_ yX0_brackets cX0_brackets 7 none) yX0_brackets cX0_brackets 7 none 5 := ⟨h, by decide, lw_meth q1136, q187, by decide, by decide⟩
theorem np_X0_brackets : JNp yX0_brackets.desc 4 := by decide +kernel
-- BracketRoom.closes(LBracketRoom$World;LBracketRoom$Span;Z)V
abbrev Y_X0_closes : JY := (cX0_closes, yX0_closes.cls, 6, 6, yX0_closes.name, none, [])
noncomputable def X0_closes_b98 (x0 : Nat) (x1 : Nat) (x2 : Nat) (x3 : Int32) (x5 : Int32) (s0 : Int32) : JM Mem ((Unit ⊕ (Int32)) ⊕ (Int32 × Int32)) :=
  jcont (s0, x5 + 1)
theorem j_X0_closes_b98 (D : va_G) (dA : Nat → ClassId) (x0 : Nat) (x1 : Nat) (x2 : Nat) (x3 : Int32) (x5 : Int32) (s0 : Int32) : J (PM D dA false) Y_X0_closes [(0, .ref x0), (1, .ref x1), (2, .ref x2), (3, .int x3), (5, .int x5)] [.int s0] 98 (X0_closes_b98 x0 x1 x2 x3 x5 s0) (FLoop (FLoop (FRet injU) 11 (fun (t : Int32) => [(0, .ref x0), (1, .ref x1), (2, .ref x2), (3, .int x3), (4, .int t)])) 44 (fun (t : Int32 × Int32) => [(0, .ref x0), (1, .ref x1), (2, .ref x2), (3, .int x3), (4, .int t.1), (5, .int t.2)])) := by
  unfold X0_closes_b98
  refine J_istore (env' := [(4, .int s0), (0, .ref x0), (1, .ref x1), (2, .ref x2), (3, .int x3), (5, .int x5)]) dX0_closes_98 (by decide) rfl ?_
  refine J_iinc (v := x5 + 1) (env' := [(5, .int (x5 + 1)), (4, .int s0), (0, .ref x0), (1, .ref x1), (2, .ref x2), (3, .int x3)]) dX0_closes_100 5 rfl rfl (by decide) rfl ?_
  refine J_goto (tgt := 44) dX0_closes_103 rfl ?_
  exact J_cont [2, 3, 4, 5, 1, 0] rfl
noncomputable def X0_closes_b93 (x0 : Nat) (x1 : Nat) (x2 : Nat) (x3 : Int32) (x5 : Int32) : JM Mem ((Unit ⊕ (Int32)) ⊕ (Int32 × Int32)) :=
  X0_closes_b98 x0 x1 x2 x3 x5 1
theorem j_X0_closes_b93 (D : va_G) (dA : Nat → ClassId) (x0 : Nat) (x1 : Nat) (x2 : Nat) (x3 : Int32) (x5 : Int32) : J (PM D dA false) Y_X0_closes [(0, .ref x0), (1, .ref x1), (2, .ref x2), (3, .int x3), (5, .int x5)] [] 93 (X0_closes_b93 x0 x1 x2 x3 x5) (FLoop (FLoop (FRet injU) 11 (fun (t : Int32) => [(0, .ref x0), (1, .ref x1), (2, .ref x2), (3, .int x3), (4, .int t)])) 44 (fun (t : Int32 × Int32) => [(0, .ref x0), (1, .ref x1), (2, .ref x2), (3, .int x3), (4, .int t.1), (5, .int t.2)])) := by
  unfold X0_closes_b93
  refine J_iconst (v := 1) dX0_closes_93 (by decide) ?_
  refine J_goto (tgt := 98) dX0_closes_94 rfl ?_
  refine J_sub [0, 1, 2, 3, 4] rfl ?_
  exact j_X0_closes_b98 D dA x0 x1 x2 x3 x5 1
noncomputable def X0_closes_L44 (x0 : Nat) (x1 : Nat) (x2 : Nat) (x3 : Int32) (x4 : Int32) (x5 : Int32) : JM Mem ((Unit ⊕ (Int32)) ⊕ (Int32 × Int32)) :=
  jb (jgetA 0 20 x0) fun v3 =>
  jb (jgetI 4 2 v3) fun v4 =>
  if v4 ≤ x5 then
    jinl (jcont x4)
  else
  jb (jgetA 0 20 x0) fun v5 =>
  jb (jgetA 4 0 v5) fun v6 =>
  jb (jaldA 5 v6 x5) fun v7 =>
  jb (jgetA 0 15 x0) fun v8 =>
  jb (jcopy 0 v7 0 v8 0 5) fun _ =>
  jb (jgetA 0 15 x0) fun v9 =>
  jb (jcall 4 x2 (f_X5_add x2 x1 v9)) fun v10 =>
  if v10 = 0 then
    if x4 = 0 then
      X0_closes_b98 x0 x1 x2 x3 x5 0
    else
      X0_closes_b93 x0 x1 x2 x3 x5
  else
    X0_closes_b93 x0 x1 x2 x3 x5
theorem j_X0_closes_L44 (D : va_G) (dA : Nat → ClassId) (x0 : Nat) (x1 : Nat) (x2 : Nat) (x3 : Int32) (x4 : Int32) (x5 : Int32) : J (PM D dA false) Y_X0_closes [(0, .ref x0), (1, .ref x1), (2, .ref x2), (3, .int x3), (4, .int x4), (5, .int x5)] [] 44 (X0_closes_L44 x0 x1 x2 x3 x4 x5) (FLoop (FLoop (FRet injU) 11 (fun (t : Int32) => [(0, .ref x0), (1, .ref x1), (2, .ref x2), (3, .int x3), (4, .int t)])) 44 (fun (t : Int32 × Int32) => [(0, .ref x0), (1, .ref x1), (2, .ref x2), (3, .int x3), (4, .int t.1), (5, .int t.2)])) := by
  unfold X0_closes_L44
  refine J_iload dX0_closes_44 5 rfl ?_
  refine J_aload_n dX0_closes_46 rfl 0 rfl ?_
  refine J_getA dX0_closes_47 fl_X0_82 rfl (fun v3 => ?_)
  refine J_getI dX0_closes_50 fl_X0_302 rfl (fun v4 => ?_)
  refine J_icmp_ge (tgt := 106) dX0_closes_53 rfl ?_ ?_
  · refine J_inl ?_
    refine J_goto (tgt := 11) dX0_closes_106 rfl ?_
    exact J_cont [0, 1, 2, 3, 4] rfl
  refine J_aload_n dX0_closes_56 rfl 0 rfl ?_
  refine J_getA dX0_closes_57 fl_X0_82 rfl (fun v5 => ?_)
  refine J_getA dX0_closes_60 fl_X0_305 rfl (fun v6 => ?_)
  refine J_iload dX0_closes_63 5 rfl ?_
  refine J_aald dX0_closes_65 rfl (by decide) (fun v7 => ?_)
  refine J_iconst (v := 0) dX0_closes_66 (by decide) ?_
  refine J_aload_n dX0_closes_67 rfl 0 rfl ?_
  refine J_getA dX0_closes_68 fl_X0_63 rfl (fun v8 => ?_)
  refine J_iconst (v := 0) dX0_closes_71 (by decide) ?_
  refine J_iconst (v := 5) dX0_closes_72 (by decide) ?_
  refine J_copy (t := 0) dX0_closes_73 (by decide) (Nat.le_of_ble_eq_true rfl) (by decide) q743 q745 q744 q204 ?_
  refine J_aload_n dX0_closes_76 rfl 2 rfl ?_
  refine J_aload_n dX0_closes_77 rfl 1 rfl ?_
  refine J_aload_n dX0_closes_78 rfl 0 rfl ?_
  refine J_getA dX0_closes_79 fl_X0_63 rfl (fun v9 => ?_)
  refine J_callVI (c := 4) (as := [.ref x1, .ref v9]) dX0_closes_82 (by decide) rfl (Nat.le_of_ble_eq_true rfl) (cw_X5_add _ (by decide)) q1111 q1112 q1113 q1114 np_X5_add (i_X5_add x2 x1 v9) jad_id rfl (fun v10 => ?_)
  refine J_if_ne (tgt := 93) dX0_closes_85 rfl ?_ ?_
  · refine J_sub [0, 1, 2, 3, 5] rfl ?_
    exact j_X0_closes_b93 D dA x0 x1 x2 x3 x5
  refine J_iload dX0_closes_88 4 rfl ?_
  refine J_if_eq (tgt := 97) dX0_closes_90 rfl ?_ ?_
  · refine J_iconst (v := 0) dX0_closes_97 (by decide) ?_
    refine J_sub [0, 1, 2, 3, 5] rfl ?_
    exact j_X0_closes_b98 D dA x0 x1 x2 x3 x5 0
  refine J_sub [0, 1, 2, 3, 5] rfl ?_
  exact j_X0_closes_b93 D dA x0 x1 x2 x3 x5
noncomputable def X0_closes_b31 (x0 : Nat) (x1 : Nat) (x2 : Nat) (x3 : Int32) (s0 : Nat) (s1 : Nat) (s2 : Nat) (s3 : Nat) : JM Mem (Unit ⊕ (Int32)) :=
  jb (jgetA 0 20 x0) fun v2 =>
  jb (jcall 0 s0 (f_X0_brackets s0 s1 s2 s3 v2)) fun _ =>
  jloop (fun (t : Int32 × Int32) => X0_closes_L44 x0 x1 x2 x3 t.1 t.2) (0, 0)
theorem j_X0_closes_b31 (D : va_G) (dA : Nat → ClassId) (x0 : Nat) (x1 : Nat) (x2 : Nat) (x3 : Int32) (s0 : Nat) (s1 : Nat) (s2 : Nat) (s3 : Nat) : J (PM D dA false) Y_X0_closes [(0, .ref x0), (1, .ref x1), (2, .ref x2), (3, .int x3)] [.ref s3, .ref s2, .ref s1, .ref s0] 31 (X0_closes_b31 x0 x1 x2 x3 s0 s1 s2 s3) (FLoop (FRet injU) 11 (fun (t : Int32) => [(0, .ref x0), (1, .ref x1), (2, .ref x2), (3, .int x3), (4, .int t)])) := by
  unfold X0_closes_b31
  refine J_aload_n dX0_closes_31 rfl 0 rfl ?_
  refine J_getA dX0_closes_32 fl_X0_82 rfl (fun v2 => ?_)
  refine J_callVV (c := 0) (as := [.ref s1, .ref s2, .ref s3, .ref v2]) dX0_closes_35 (by decide) rfl (Nat.le_of_ble_eq_true rfl) (cw_X0_brackets _ (by decide)) q1133 q1135 qs21 q1136 np_X0_brackets (i_X0_brackets s0 s1 s2 s3 v2) jad_id rfl ?_
  refine J_iconst (v := 0) dX0_closes_38 (by decide) ?_
  refine J_istore (env' := [(4, .int 0), (0, .ref x0), (1, .ref x1), (2, .ref x2), (3, .int x3)]) dX0_closes_39 (by decide) rfl ?_
  refine J_iconst (v := 0) dX0_closes_41 (by decide) ?_
  refine J_istore (env' := [(5, .int 0), (4, .int 0), (0, .ref x0), (1, .ref x1), (2, .ref x2), (3, .int x3)]) dX0_closes_42 (by decide) rfl ?_
  refine J_loop (he := fun (t : Int32 × Int32) => [(0, .ref x0), (1, .ref x1), (2, .ref x2), (3, .int x3), (4, .int t.1), (5, .int t.2)]) [2, 3, 4, 5, 1, 0] rfl (fun t => ?_)
  exact j_X0_closes_L44 D dA x0 x1 x2 x3 t.1 t.2
noncomputable def X0_closes_L11 (x0 : Nat) (x1 : Nat) (x2 : Nat) (x3 : Int32) (x4 : Int32) : JM Mem (Unit ⊕ (Int32)) :=
  if x4 = 0 then
    jinl (jp ())
  else
  if x3 = 0 then
    X0_closes_b31 x0 x1 x2 x3 x0 x1 x2 x2
  else
  jb (jgetA 0 21 x0) fun v11 =>
  X0_closes_b31 x0 x1 x2 x3 x0 x1 x2 v11
theorem j_X0_closes_L11 (D : va_G) (dA : Nat → ClassId) (x0 : Nat) (x1 : Nat) (x2 : Nat) (x3 : Int32) (x4 : Int32) : J (PM D dA false) Y_X0_closes [(0, .ref x0), (1, .ref x1), (2, .ref x2), (3, .int x3), (4, .int x4)] [] 11 (X0_closes_L11 x0 x1 x2 x3 x4) (FLoop (FRet injU) 11 (fun (t : Int32) => [(0, .ref x0), (1, .ref x1), (2, .ref x2), (3, .int x3), (4, .int t)])) := by
  unfold X0_closes_L11
  refine J_iload dX0_closes_11 4 rfl ?_
  refine J_if_eq (tgt := 109) dX0_closes_13 rfl ?_ ?_
  · refine J_inl ?_
    exact J_return dX0_closes_109 rfl
  refine J_aload_n dX0_closes_16 rfl 0 rfl ?_
  refine J_aload_n dX0_closes_17 rfl 1 rfl ?_
  refine J_aload_n dX0_closes_18 rfl 2 rfl ?_
  refine J_iload_n dX0_closes_19 rfl 3 rfl ?_
  refine J_if_eq (tgt := 30) dX0_closes_20 rfl ?_ ?_
  · refine J_aload_n dX0_closes_30 rfl 2 rfl ?_
    refine J_sub [0, 1, 2, 3] rfl ?_
    exact j_X0_closes_b31 D dA x0 x1 x2 x3 x0 x1 x2 x2
  refine J_aload_n dX0_closes_23 rfl 0 rfl ?_
  refine J_getA dX0_closes_24 fl_X0_85 rfl (fun v11 => ?_)
  refine J_goto (tgt := 31) dX0_closes_27 rfl ?_
  refine J_sub [0, 1, 2, 3] rfl ?_
  exact j_X0_closes_b31 D dA x0 x1 x2 x3 x0 x1 x2 v11
noncomputable def f_X0_closes (x0 : Nat) (x1 : Nat) (x2 : Nat) (x3 : Int32) : JM Mem Unit :=
  jb (jgetA 0 21 x0) fun v1 =>
  jb (jcall 4 v1 (f_X5_all v1 x1)) fun _ =>
  jloop (fun (t : Int32) => X0_closes_L11 x0 x1 x2 x3 t) 1
theorem j_X0_closes (D : va_G) (dA : Nat → ClassId) (x0 : Nat) (x1 : Nat) (x2 : Nat) (x3 : Int32) : J (PM D dA false) Y_X0_closes [(0, .ref x0), (1, .ref x1), (2, .ref x2), (3, .int x3)] [] 0 (f_X0_closes x0 x1 x2 x3) (FRet injU) := by
  unfold f_X0_closes
  refine J_aload_n dX0_closes_0 rfl 0 rfl ?_
  refine J_getA dX0_closes_1 fl_X0_85 rfl (fun v1 => ?_)
  refine J_aload_n dX0_closes_4 rfl 1 rfl ?_
  refine J_callVV (c := 4) (as := [.ref x1]) dX0_closes_5 (by decide) rfl (Nat.le_of_ble_eq_true rfl) (cw_X5_all _ (by decide)) q1129 q1130 q1131 q1132 np_X5_all (i_X5_all v1 x1) jad_id rfl ?_
  refine J_iconst (v := 1) dX0_closes_8 (by decide) ?_
  refine J_istore (env' := [(4, .int 1), (0, .ref x0), (1, .ref x1), (2, .ref x2), (3, .int x3)]) dX0_closes_9 (by decide) rfl ?_
  refine J_loop (he := fun (t : Int32) => [(0, .ref x0), (1, .ref x1), (2, .ref x2), (3, .int x3), (4, .int t)]) [1, 2, 3, 4, 0] rfl (fun t => ?_)
  exact j_X0_closes_L11 D dA x0 x1 x2 x3 t
theorem i_X0_closes (x0 : Nat) (x1 : Nat) (x2 : Nat) (x3 : Int32) : Impl (ws_ yX0_closes cX0_closes 6 none) yX0_closes 6 false 0 0 [.ref x0, .ref x1, .ref x2, .int x3] (f_X0_closes x0 x1 x2 x3) injU := impl_of (plainFor_of_name (by decide)) (Nat.le_of_ble_eq_true rfl) (fun D dA => j_X0_closes D dA x0 x1 x2 x3)
theorem cw_X0_closes (Y : JY) (h : 7 ≤ Y.2.2.2.1) : JCw Y (ws_ yX0_closes cX0_closes 6 none) yX0_closes cX0_closes 6 none 6 := ⟨h, by decide, lw_meth q1128, q187, by decide, by decide⟩
theorem np_X0_closes : JNp yX0_closes.desc 3 := by decide +kernel
-- BracketRoom.span(III)I
abbrev Y_X0_span : JY := (cX0_span, yX0_span.cls, 5, 7, yX0_span.name, (some .int), [])
noncomputable def X0_span_b82 (x0 : Nat) : JM Mem Int32 :=
  jb (jgetA 0 18 x0) fun v4 =>
  jb (jgetI 4 2 v4) fun v5 =>
  jb (jcall 0 x0 (f_X0_gives x0 v5)) fun v6 =>
  jp v6
theorem j_X0_span_b82 (D : va_G) (dA : Nat → ClassId) (x0 : Nat) : J (PM D dA false) Y_X0_span [(0, .ref x0)] [] 82 (X0_span_b82 x0) (FRet injI) := by
  unfold X0_span_b82
  refine J_aload_n dX0_span_82 rfl 0 rfl ?_
  refine J_aload_n dX0_span_83 rfl 0 rfl ?_
  refine J_getA dX0_span_84 fl_X0_75 rfl (fun v4 => ?_)
  refine J_getI dX0_span_87 fl_X0_302 rfl (fun v5 => ?_)
  refine J_callVI (c := 0) (as := [.int v5]) dX0_span_90 (by decide) rfl (Nat.le_of_ble_eq_true rfl) (cw_X0_gives _ (by decide)) q944 q946 qs9 q947 np_X0_gives (i_X0_gives x0 v5) jad_id rfl (fun v6 => ?_)
  exact J_ireturn dX0_span_93 rfl
noncomputable def X0_span_b79 (x0 : Nat) (s0 : Nat) (s1 : Nat) (s2 : Nat) (s3 : Int32) : JM Mem Int32 :=
  jb (jcall 0 s0 (f_X0_closes s0 s1 s2 s3)) fun _ =>
  X0_span_b82 x0
theorem j_X0_span_b79 (D : va_G) (dA : Nat → ClassId) (x0 : Nat) (s0 : Nat) (s1 : Nat) (s2 : Nat) (s3 : Int32) : J (PM D dA false) Y_X0_span [(0, .ref x0)] [.int s3, .ref s2, .ref s1, .ref s0] 79 (X0_span_b79 x0 s0 s1 s2 s3) (FRet injI) := by
  unfold X0_span_b79
  refine J_callVV (c := 0) (as := [.ref s1, .ref s2, .int s3]) dX0_span_79 (by decide) rfl (Nat.le_of_ble_eq_true rfl) (cw_X0_closes _ (by decide)) q1125 q1127 qs20 q1128 np_X0_closes (i_X0_closes s0 s1 s2 s3) jad_id rfl ?_
  refine J_sub [0] rfl ?_
  exact j_X0_span_b82 D dA x0
noncomputable def X0_span_b29 (x0 : Nat) (x1 : Int32) (x2 : Int32) (x3 : Int32) (s0 : Nat) (s1 : Int32) (s2 : Int32) (s3 : Int32) : JM Mem Int32 :=
  jb (jcall 0 s0 (f_X0_wrongRow s0 s1 s2 s3)) fun v2 =>
  if v2 ≤ 0 then
    jb (jgetA 0 18 x0) fun v3 =>
    jb (jcall 0 x0 (f_X0_spans x0 v3 x1 x2)) fun _ =>
    if x3 ≤ 0 then
      X0_span_b82 x0
    else
    jb (jgetA 0 2 x0) fun v7 =>
    jb (jgetA 0 18 x0) fun v8 =>
    if x3 = 2 then
      X0_span_b79 x0 x0 v7 v8 1
    else
      X0_span_b79 x0 x0 v7 v8 0
  else
  jb (jcall 0 x0 (f_X0_none x0 v2)) fun v9 =>
  jp v9
theorem j_X0_span_b29 (D : va_G) (dA : Nat → ClassId) (x0 : Nat) (x1 : Int32) (x2 : Int32) (x3 : Int32) (s0 : Nat) (s1 : Int32) (s2 : Int32) (s3 : Int32) : J (PM D dA false) Y_X0_span [(0, .ref x0), (1, .int x1), (2, .int x2), (3, .int x3)] [.int s3, .int s2, .int s1, .ref s0] 29 (X0_span_b29 x0 x1 x2 x3 s0 s1 s2 s3) (FRet injI) := by
  unfold X0_span_b29
  refine J_callVI (c := 0) (as := [.int s1, .int s2, .int s3]) dX0_span_29 (by decide) rfl (Nat.le_of_ble_eq_true rfl) (cw_X0_wrongRow _ (by decide)) q1099 q1101 qs18 q1102 np_X0_wrongRow (i_X0_wrongRow s0 s1 s2 s3) jad_id rfl (fun v2 => ?_)
  refine J_istore (env' := [(4, .int v2), (0, .ref x0), (1, .int x1), (2, .int x2), (3, .int x3)]) dX0_span_32 (by decide) rfl ?_
  refine J_iload dX0_span_34 0 rfl ?_
  refine J_if_le (tgt := 46) dX0_span_36 rfl ?_ ?_
  · refine J_aload_n dX0_span_46 rfl 1 rfl ?_
    refine J_aload_n dX0_span_47 rfl 1 rfl ?_
    refine J_getA dX0_span_48 fl_X0_75 rfl (fun v3 => ?_)
    refine J_iload_n dX0_span_51 rfl 2 rfl ?_
    refine J_iload_n dX0_span_52 rfl 3 rfl ?_
    refine J_callVV (c := 0) (as := [.ref v3, .int x1, .int x2]) dX0_span_53 (by decide) rfl (Nat.le_of_ble_eq_true rfl) (cw_X0_spans _ (by decide)) q1107 q1109 qs19 q1110 np_X0_spans (i_X0_spans x0 v3 x1 x2) jad_id rfl ?_
    refine J_iload_n dX0_span_56 rfl 4 rfl ?_
    refine J_if_le (tgt := 82) dX0_span_57 rfl ?_ ?_
    · refine J_sub [1] rfl ?_
      exact j_X0_span_b82 D dA x0
    refine J_aload_n dX0_span_60 rfl 1 rfl ?_
    refine J_aload_n dX0_span_61 rfl 1 rfl ?_
    refine J_getA dX0_span_62 fl_X0_30 rfl (fun v7 => ?_)
    refine J_aload_n dX0_span_65 rfl 1 rfl ?_
    refine J_getA dX0_span_66 fl_X0_75 rfl (fun v8 => ?_)
    refine J_iload_n dX0_span_69 rfl 4 rfl ?_
    refine J_iconst (v := 2) dX0_span_70 (by decide) ?_
    refine J_icmp_ne (tgt := 78) dX0_span_71 rfl ?_ ?_
    · refine J_iconst (v := 0) dX0_span_78 (by decide) ?_
      refine J_sub [1] rfl ?_
      exact j_X0_span_b79 D dA x0 x0 v7 v8 0
    refine J_iconst (v := 1) dX0_span_74 (by decide) ?_
    refine J_goto (tgt := 79) dX0_span_75 rfl ?_
    refine J_sub [1] rfl ?_
    exact j_X0_span_b79 D dA x0 x0 v7 v8 1
  refine J_aload_n dX0_span_39 rfl 1 rfl ?_
  refine J_iload dX0_span_40 0 rfl ?_
  refine J_callVI (c := 0) (as := [.int v2]) dX0_span_42 (by decide) rfl (Nat.le_of_ble_eq_true rfl) (cw_X0_none _ (by decide)) q729 q731 qs3 q732 np_X0_none (i_X0_none x0 v2) jad_id rfl (fun v9 => ?_)
  exact J_ireturn dX0_span_45 rfl
noncomputable def X0_span_b28 (x0 : Nat) (x1 : Int32) (x2 : Int32) (x3 : Int32) (s0 : Nat) (s1 : Int32) (s2 : Int32) : JM Mem Int32 :=
  X0_span_b29 x0 x1 x2 x3 s0 s1 s2 0
theorem j_X0_span_b28 (D : va_G) (dA : Nat → ClassId) (x0 : Nat) (x1 : Int32) (x2 : Int32) (x3 : Int32) (s0 : Nat) (s1 : Int32) (s2 : Int32) : J (PM D dA false) Y_X0_span [(0, .ref x0), (1, .int x1), (2, .int x2), (3, .int x3)] [.int s2, .int s1, .ref s0] 28 (X0_span_b28 x0 x1 x2 x3 s0 s1 s2) (FRet injI) := by
  unfold X0_span_b28
  refine J_iconst (v := 0) dX0_span_28 (by decide) ?_
  refine J_sub [0, 1, 2, 3] rfl ?_
  exact j_X0_span_b29 D dA x0 x1 x2 x3 s0 s1 s2 0
noncomputable def f_X0_span (x0 : Nat) (x1 : Int32) (x2 : Int32) (x3 : Int32) : JM Mem Int32 :=
  jb ((f_X0_isFrom ((x2 : Int32).toInt64) 0 20)) fun v1 =>
  if v1 = 0 then
    X0_span_b28 x0 x1 x2 x3 x0 x1 x2
  else
  if x3 < 0 then
    X0_span_b28 x0 x1 x2 x3 x0 x1 x2
  else
  if 2 < x3 then
    X0_span_b28 x0 x1 x2 x3 x0 x1 x2
  else
    X0_span_b29 x0 x1 x2 x3 x0 x1 x2 1
theorem j_X0_span (D : va_G) (dA : Nat → ClassId) (x0 : Nat) (x1 : Int32) (x2 : Int32) (x3 : Int32) : J (PM D dA false) Y_X0_span [(0, .ref x0), (1, .int x1), (2, .int x2), (3, .int x3)] [] 0 (f_X0_span x0 x1 x2 x3) (FRet injI) := by
  unfold f_X0_span
  refine J_aload_n dX0_span_0 rfl 0 rfl ?_
  refine J_iload_n dX0_span_1 rfl 1 rfl ?_
  refine J_iload_n dX0_span_2 rfl 2 rfl ?_
  refine J_iload_n dX0_span_3 rfl 2 rfl ?_
  refine J_i2l dX0_span_4 ?_
  refine J_lconst (v := 0) dX0_span_5 (by decide) ?_
  refine J_ldc2 dX0_span_6 q1095 ?_
  refine J_callSI (host := "") (as := [.long ((x2 : Int32).toInt64), .long 0, .long 20]) dX0_span_9 rfl (Nat.le_of_ble_eq_true rfl) (cw_X0_isFrom _ (by decide)) q1096 q1097 q1098 np_X0_isFrom (i_X0_isFrom ((x2 : Int32).toInt64) 0 20) jad_id rfl (fun v1 => ?_)
  refine J_if_eq (tgt := 28) dX0_span_12 rfl ?_ ?_
  · refine J_sub [0, 1, 2, 3] rfl ?_
    exact j_X0_span_b28 D dA x0 x1 x2 x3 x0 x1 x2
  refine J_iload_n dX0_span_15 rfl 3 rfl ?_
  refine J_if_lt (tgt := 28) dX0_span_16 rfl ?_ ?_
  · refine J_sub [0, 1, 2, 3] rfl ?_
    exact j_X0_span_b28 D dA x0 x1 x2 x3 x0 x1 x2
  refine J_iload_n dX0_span_19 rfl 3 rfl ?_
  refine J_iconst (v := 2) dX0_span_20 (by decide) ?_
  refine J_icmp_gt (tgt := 28) dX0_span_21 rfl ?_ ?_
  · refine J_sub [0, 1, 2, 3] rfl ?_
    exact j_X0_span_b28 D dA x0 x1 x2 x3 x0 x1 x2
  refine J_iconst (v := 1) dX0_span_24 (by decide) ?_
  refine J_goto (tgt := 29) dX0_span_25 rfl ?_
  refine J_sub [0, 1, 2, 3] rfl ?_
  exact j_X0_span_b29 D dA x0 x1 x2 x3 x0 x1 x2 1
theorem i_X0_span (x0 : Nat) (x1 : Int32) (x2 : Int32) (x3 : Int32) : Impl (ws_ yX0_span cX0_span 5 (some .int)) yX0_span 7 false 0 0 [.ref x0, .int x1, .int x2, .int x3] (f_X0_span x0 x1 x2 x3) injI := impl_of (plainFor_of_name (by decide)) (Nat.le_of_ble_eq_true rfl) (fun D dA => j_X0_span D dA x0 x1 x2 x3)
theorem cw_X0_span (Y : JY) (h : 8 ≤ Y.2.2.2.1) : JCw Y (ws_ yX0_span cX0_span 5 (some .int)) yX0_span cX0_span 5 (some .int) 7 := ⟨h, by decide, lw_meth q1094, q187, by decide, by decide⟩
theorem np_X0_span : JNp yX0_span.desc 3 := by decide +kernel
-- BracketRoom.series(LBracketRoom$World;LBracketRoom$Span;IZ)I
abbrev Y_X0_series : JY := (cX0_series, yX0_series.cls, 6, 6, yX0_series.name, (some .int), [])
noncomputable def X0_series_b70 (x0 : Nat) : JM Mem Int32 :=
  jb (jgetA 0 18 x0) fun v2 =>
  jb (jgetI 4 2 v2) fun v3 =>
  jp v3
theorem j_X0_series_b70 (D : va_G) (dA : Nat → ClassId) (x0 : Nat) : J (PM D dA false) Y_X0_series [(0, .ref x0)] [] 70 (X0_series_b70 x0) (FRet injI) := by
  unfold X0_series_b70
  refine J_aload_n dX0_series_70 rfl 0 rfl ?_
  refine J_getA dX0_series_71 fl_X0_75 rfl (fun v2 => ?_)
  refine J_getI dX0_series_74 fl_X0_302 rfl (fun v3 => ?_)
  exact J_ireturn dX0_series_77 rfl
noncomputable def X0_series_b42 (x0 : Nat) (x1 : Nat) (x2 : Nat) (x3 : Int32) (x4 : Int32) (x5 : Int32) (s0 : Nat) (s1 : Nat) (s2 : Nat) : JM Mem (Int32 ⊕ (Int32)) :=
  jb (jgetA 0 18 x0) fun v6 =>
  jb (jgetA 0 19 x0) fun v7 =>
  jb (jcall 0 s0 (f_X0_brackets s0 s1 s2 v6 v7)) fun _ =>
  jb (jgetA 0 18 x0) fun v8 =>
  jb (jgetA 0 19 x0) fun v9 =>
  jb (jcall 4 v8 (f_X5_copy v8 v9)) fun _ =>
  jcont (x5 + 1)
theorem j_X0_series_b42 (D : va_G) (dA : Nat → ClassId) (x0 : Nat) (x1 : Nat) (x2 : Nat) (x3 : Int32) (x4 : Int32) (x5 : Int32) (s0 : Nat) (s1 : Nat) (s2 : Nat) : J (PM D dA false) Y_X0_series [(0, .ref x0), (1, .ref x1), (2, .ref x2), (3, .int x3), (4, .int x4), (5, .int x5)] [.ref s2, .ref s1, .ref s0] 42 (X0_series_b42 x0 x1 x2 x3 x4 x5 s0 s1 s2) (FLoop (FRet injI) 11 (fun (t : Int32) => [(0, .ref x0), (1, .ref x1), (2, .ref x2), (3, .int x3), (4, .int x4), (5, .int t)])) := by
  unfold X0_series_b42
  refine J_aload_n dX0_series_42 rfl 0 rfl ?_
  refine J_getA dX0_series_43 fl_X0_75 rfl (fun v6 => ?_)
  refine J_aload_n dX0_series_46 rfl 0 rfl ?_
  refine J_getA dX0_series_47 fl_X0_79 rfl (fun v7 => ?_)
  refine J_callVV (c := 0) (as := [.ref s1, .ref s2, .ref v6, .ref v7]) dX0_series_50 (by decide) rfl (Nat.le_of_ble_eq_true rfl) (cw_X0_brackets _ (by decide)) q1133 q1135 qs21 q1136 np_X0_brackets (i_X0_brackets s0 s1 s2 v6 v7) jad_id rfl ?_
  refine J_aload_n dX0_series_53 rfl 0 rfl ?_
  refine J_getA dX0_series_54 fl_X0_75 rfl (fun v8 => ?_)
  refine J_aload_n dX0_series_57 rfl 0 rfl ?_
  refine J_getA dX0_series_58 fl_X0_79 rfl (fun v9 => ?_)
  refine J_callVV (c := 4) (as := [.ref v9]) dX0_series_61 (by decide) rfl (Nat.le_of_ble_eq_true rfl) (cw_X5_copy _ (by decide)) q1150 q1151 q1152 q1153 np_X5_copy (i_X5_copy v8 v9) jad_id rfl ?_
  refine J_iinc (v := x5 + 1) (env' := [(5, .int (x5 + 1)), (0, .ref x0), (1, .ref x1), (2, .ref x2), (3, .int x3), (4, .int x4)]) dX0_series_64 5 rfl rfl (by decide) rfl ?_
  refine J_goto (tgt := 11) dX0_series_67 rfl ?_
  exact J_cont [1, 2, 3, 4, 5, 0] rfl
noncomputable def X0_series_L11 (x0 : Nat) (x1 : Nat) (x2 : Nat) (x3 : Int32) (x4 : Int32) (x5 : Int32) : JM Mem (Int32 ⊕ (Int32)) :=
  if x3 ≤ x5 then
    jinl (X0_series_b70 x0)
  else
  jb (jgetA 0 18 x0) fun v4 =>
  jb (jgetI 4 2 v4) fun v5 =>
  if v5 ≤ 0 then
    jinl (X0_series_b70 x0)
  else
  if x4 = 0 then
    X0_series_b42 x0 x1 x2 x3 x4 x5 x0 x1 x2
  else
  jb (jgetA 0 18 x0) fun v10 =>
  X0_series_b42 x0 x1 x2 x3 x4 x5 x0 x1 v10
theorem j_X0_series_L11 (D : va_G) (dA : Nat → ClassId) (x0 : Nat) (x1 : Nat) (x2 : Nat) (x3 : Int32) (x4 : Int32) (x5 : Int32) : J (PM D dA false) Y_X0_series [(0, .ref x0), (1, .ref x1), (2, .ref x2), (3, .int x3), (4, .int x4), (5, .int x5)] [] 11 (X0_series_L11 x0 x1 x2 x3 x4 x5) (FLoop (FRet injI) 11 (fun (t : Int32) => [(0, .ref x0), (1, .ref x1), (2, .ref x2), (3, .int x3), (4, .int x4), (5, .int t)])) := by
  unfold X0_series_L11
  refine J_iload dX0_series_11 5 rfl ?_
  refine J_iload_n dX0_series_13 rfl 3 rfl ?_
  refine J_icmp_ge (tgt := 70) dX0_series_14 rfl ?_ ?_
  · refine J_inl ?_
    refine J_sub [0] rfl ?_
    exact j_X0_series_b70 D dA x0
  refine J_aload_n dX0_series_17 rfl 0 rfl ?_
  refine J_getA dX0_series_18 fl_X0_75 rfl (fun v4 => ?_)
  refine J_getI dX0_series_21 fl_X0_302 rfl (fun v5 => ?_)
  refine J_if_le (tgt := 70) dX0_series_24 rfl ?_ ?_
  · refine J_inl ?_
    refine J_sub [0] rfl ?_
    exact j_X0_series_b70 D dA x0
  refine J_aload_n dX0_series_27 rfl 0 rfl ?_
  refine J_aload_n dX0_series_28 rfl 1 rfl ?_
  refine J_iload dX0_series_29 4 rfl ?_
  refine J_if_eq (tgt := 41) dX0_series_31 rfl ?_ ?_
  · refine J_aload_n dX0_series_41 rfl 2 rfl ?_
    refine J_sub [0, 1, 2, 3, 4, 5] rfl ?_
    exact j_X0_series_b42 D dA x0 x1 x2 x3 x4 x5 x0 x1 x2
  refine J_aload_n dX0_series_34 rfl 0 rfl ?_
  refine J_getA dX0_series_35 fl_X0_75 rfl (fun v10 => ?_)
  refine J_goto (tgt := 42) dX0_series_38 rfl ?_
  refine J_sub [0, 1, 2, 3, 4, 5] rfl ?_
  exact j_X0_series_b42 D dA x0 x1 x2 x3 x4 x5 x0 x1 v10
noncomputable def f_X0_series (x0 : Nat) (x1 : Nat) (x2 : Nat) (x3 : Int32) (x4 : Int32) : JM Mem Int32 :=
  jb (jgetA 0 18 x0) fun v1 =>
  jb (jcall 4 v1 (f_X5_copy v1 x2)) fun _ =>
  jloop (fun (t : Int32) => X0_series_L11 x0 x1 x2 x3 x4 t) 0
theorem j_X0_series (D : va_G) (dA : Nat → ClassId) (x0 : Nat) (x1 : Nat) (x2 : Nat) (x3 : Int32) (x4 : Int32) : J (PM D dA false) Y_X0_series [(0, .ref x0), (1, .ref x1), (2, .ref x2), (3, .int x3), (4, .int x4)] [] 0 (f_X0_series x0 x1 x2 x3 x4) (FRet injI) := by
  unfold f_X0_series
  refine J_aload_n dX0_series_0 rfl 0 rfl ?_
  refine J_getA dX0_series_1 fl_X0_75 rfl (fun v1 => ?_)
  refine J_aload_n dX0_series_4 rfl 2 rfl ?_
  refine J_callVV (c := 4) (as := [.ref x2]) dX0_series_5 (by decide) rfl (Nat.le_of_ble_eq_true rfl) (cw_X5_copy _ (by decide)) q1150 q1151 q1152 q1153 np_X5_copy (i_X5_copy v1 x2) jad_id rfl ?_
  refine J_iconst (v := 0) dX0_series_8 (by decide) ?_
  refine J_istore (env' := [(5, .int 0), (0, .ref x0), (1, .ref x1), (2, .ref x2), (3, .int x3), (4, .int x4)]) dX0_series_9 (by decide) rfl ?_
  refine J_loop (he := fun (t : Int32) => [(0, .ref x0), (1, .ref x1), (2, .ref x2), (3, .int x3), (4, .int x4), (5, .int t)]) [1, 2, 3, 4, 5, 0] rfl (fun t => ?_)
  exact j_X0_series_L11 D dA x0 x1 x2 x3 x4 t
theorem i_X0_series (x0 : Nat) (x1 : Nat) (x2 : Nat) (x3 : Int32) (x4 : Int32) : Impl (ws_ yX0_series cX0_series 6 (some .int)) yX0_series 6 false 0 0 [.ref x0, .ref x1, .ref x2, .int x3, .int x4] (f_X0_series x0 x1 x2 x3 x4) injI := impl_of (plainFor_of_name (by decide)) (Nat.le_of_ble_eq_true rfl) (fun D dA => j_X0_series D dA x0 x1 x2 x3 x4)
theorem cw_X0_series (Y : JY) (h : 7 ≤ Y.2.2.2.1) : JCw Y (ws_ yX0_series cX0_series 6 (some .int)) yX0_series cX0_series 6 (some .int) 6 := ⟨h, by decide, lw_meth q1149, q187, by decide, by decide⟩
theorem np_X0_series : JNp yX0_series.desc 4 := by decide +kernel
-- BracketRoom.derivedOf(LBracketRoom$World;I)I
abbrev Y_X0_derivedOf : JY := (cX0_derivedOf, yX0_derivedOf.cls, 3, 7, yX0_derivedOf.name, (some .int), [])
noncomputable def f_X0_derivedOf (x0 : Nat) (x1 : Nat) (x2 : Int32) : JM Mem Int32 :=
  jb (jgetA 0 22 x0) fun v1 =>
  jb (jcall 4 v1 (f_X5_all v1 x1)) fun _ =>
  jb (jgetA 0 22 x0) fun v2 =>
  jb (jcall 0 x0 (f_X0_series x0 x1 v2 x2 1)) fun v3 =>
  jp v3
theorem j_X0_derivedOf (D : va_G) (dA : Nat → ClassId) (x0 : Nat) (x1 : Nat) (x2 : Int32) : J (PM D dA false) Y_X0_derivedOf [(0, .ref x0), (1, .ref x1), (2, .int x2)] [] 0 (f_X0_derivedOf x0 x1 x2) (FRet injI) := by
  unfold f_X0_derivedOf
  refine J_aload_n dX0_derivedOf_0 rfl 0 rfl ?_
  refine J_getA dX0_derivedOf_1 fl_X0_88 rfl (fun v1 => ?_)
  refine J_aload_n dX0_derivedOf_4 rfl 1 rfl ?_
  refine J_callVV (c := 4) (as := [.ref x1]) dX0_derivedOf_5 (by decide) rfl (Nat.le_of_ble_eq_true rfl) (cw_X5_all _ (by decide)) q1129 q1130 q1131 q1132 np_X5_all (i_X5_all v1 x1) jad_id rfl ?_
  refine J_aload_n dX0_derivedOf_8 rfl 0 rfl ?_
  refine J_aload_n dX0_derivedOf_9 rfl 1 rfl ?_
  refine J_aload_n dX0_derivedOf_10 rfl 0 rfl ?_
  refine J_getA dX0_derivedOf_11 fl_X0_88 rfl (fun v2 => ?_)
  refine J_iload_n dX0_derivedOf_14 rfl 2 rfl ?_
  refine J_iconst (v := 1) dX0_derivedOf_15 (by decide) ?_
  refine J_callVI (c := 0) (as := [.ref x1, .ref v2, .int x2, .int 1]) dX0_derivedOf_16 (by decide) rfl (Nat.le_of_ble_eq_true rfl) (cw_X0_series _ (by decide)) q1146 q1148 qs23 q1149 np_X0_series (i_X0_series x0 x1 v2 x2 1) jad_id rfl (fun v3 => ?_)
  exact J_ireturn dX0_derivedOf_19 rfl
theorem i_X0_derivedOf (x0 : Nat) (x1 : Nat) (x2 : Int32) : Impl (ws_ yX0_derivedOf cX0_derivedOf 3 (some .int)) yX0_derivedOf 7 false 0 0 [.ref x0, .ref x1, .int x2] (f_X0_derivedOf x0 x1 x2) injI := impl_of (plainFor_of_name (by decide)) (Nat.le_of_ble_eq_true rfl) (fun D dA => j_X0_derivedOf D dA x0 x1 x2)
theorem cw_X0_derivedOf (Y : JY) (h : 8 ≤ Y.2.2.2.1) : JCw Y (ws_ yX0_derivedOf cX0_derivedOf 3 (some .int)) yX0_derivedOf cX0_derivedOf 3 (some .int) 7 := ⟨h, by decide, lw_meth q1145, q187, by decide, by decide⟩
theorem np_X0_derivedOf : JNp yX0_derivedOf.desc 2 := by decide +kernel
-- BracketRoom.derived(I)I
abbrev Y_X0_derived : JY := (cX0_derived, yX0_derived.cls, 2, 8, yX0_derived.name, (some .int), [])
noncomputable def f_X0_derived (x0 : Nat) (x1 : Int32) : JM Mem Int32 :=
  jb ((f_X0_isFrom ((x1 : Int32).toInt64) 0 9)) fun v1 =>
  if v1 = 0 then
    jb (jcall 0 x0 (f_X0_none x0 5)) fun v2 =>
    jp v2
  else
  jb (jgetA 0 2 x0) fun v3 =>
  jb (jcall 0 x0 (f_X0_derivedOf x0 v3 x1)) fun v4 =>
  jb (jcall 0 x0 (f_X0_gives x0 v4)) fun v5 =>
  jp v5
theorem j_X0_derived (D : va_G) (dA : Nat → ClassId) (x0 : Nat) (x1 : Int32) : J (PM D dA false) Y_X0_derived [(0, .ref x0), (1, .int x1)] [] 0 (f_X0_derived x0 x1) (FRet injI) := by
  unfold f_X0_derived
  refine J_iload_n dX0_derived_0 rfl 1 rfl ?_
  refine J_i2l dX0_derived_1 ?_
  refine J_lconst (v := 0) dX0_derived_2 (by decide) ?_
  refine J_ldc2 dX0_derived_3 q1141 ?_
  refine J_callSI (host := "") (as := [.long ((x1 : Int32).toInt64), .long 0, .long 9]) dX0_derived_6 rfl (Nat.le_of_ble_eq_true rfl) (cw_X0_isFrom _ (by decide)) q1096 q1097 q1098 np_X0_isFrom (i_X0_isFrom ((x1 : Int32).toInt64) 0 9) jad_id rfl (fun v1 => ?_)
  refine J_if_eq (tgt := 28) dX0_derived_9 rfl ?_ ?_
  · refine J_aload_n dX0_derived_28 rfl 0 rfl ?_
    refine J_iconst (v := 5) dX0_derived_29 (by decide) ?_
    refine J_callVI (c := 0) (as := [.int 5]) dX0_derived_30 (by decide) rfl (Nat.le_of_ble_eq_true rfl) (cw_X0_none _ (by decide)) q729 q731 qs3 q732 np_X0_none (i_X0_none x0 5) jad_id rfl (fun v2 => ?_)
    exact J_ireturn dX0_derived_33 rfl
  refine J_aload_n dX0_derived_12 rfl 0 rfl ?_
  refine J_aload_n dX0_derived_13 rfl 0 rfl ?_
  refine J_aload_n dX0_derived_14 rfl 0 rfl ?_
  refine J_getA dX0_derived_15 fl_X0_30 rfl (fun v3 => ?_)
  refine J_iload_n dX0_derived_18 rfl 1 rfl ?_
  refine J_callVI (c := 0) (as := [.ref v3, .int x1]) dX0_derived_19 (by decide) rfl (Nat.le_of_ble_eq_true rfl) (cw_X0_derivedOf _ (by decide)) q1142 q1144 qs22 q1145 np_X0_derivedOf (i_X0_derivedOf x0 v3 x1) jad_id rfl (fun v4 => ?_)
  refine J_callVI (c := 0) (as := [.int v4]) dX0_derived_22 (by decide) rfl (Nat.le_of_ble_eq_true rfl) (cw_X0_gives _ (by decide)) q944 q946 qs9 q947 np_X0_gives (i_X0_gives x0 v4) jad_id rfl (fun v5 => ?_)
  refine J_goto (tgt := 33) dX0_derived_25 rfl ?_
  exact J_ireturn dX0_derived_33 rfl
theorem i_X0_derived (x0 : Nat) (x1 : Int32) : Impl (ws_ yX0_derived cX0_derived 2 (some .int)) yX0_derived 8 false 0 0 [.ref x0, .int x1] (f_X0_derived x0 x1) injI := impl_of (plainFor_of_name (by decide)) (Nat.le_of_ble_eq_true rfl) (fun D dA => j_X0_derived D dA x0 x1)
theorem cw_X0_derived (Y : JY) (h : 9 ≤ Y.2.2.2.1) : JCw Y (ws_ yX0_derived cX0_derived 2 (some .int)) yX0_derived cX0_derived 2 (some .int) 8 := ⟨h, by decide, lw_meth q1140, q187, by decide, by decide⟩
theorem np_X0_derived : JNp yX0_derived.desc 1 := by decide +kernel
-- BracketRoom.lowerOf(LBracketRoom$World;I)I
abbrev Y_X0_lowerOf : JY := (cX0_lowerOf, yX0_lowerOf.cls, 3, 7, yX0_lowerOf.name, (some .int), [])
noncomputable def f_X0_lowerOf (x0 : Nat) (x1 : Nat) (x2 : Int32) : JM Mem Int32 :=
  jb (jgetA 0 22 x0) fun v1 =>
  jb (jcall 4 v1 (f_X5_all v1 x1)) fun _ =>
  jb (jgetA 0 22 x0) fun v2 =>
  jb (jcall 0 x0 (f_X0_series x0 x1 v2 x2 0)) fun v3 =>
  jp v3
theorem j_X0_lowerOf (D : va_G) (dA : Nat → ClassId) (x0 : Nat) (x1 : Nat) (x2 : Int32) : J (PM D dA false) Y_X0_lowerOf [(0, .ref x0), (1, .ref x1), (2, .int x2)] [] 0 (f_X0_lowerOf x0 x1 x2) (FRet injI) := by
  unfold f_X0_lowerOf
  refine J_aload_n dX0_lowerOf_0 rfl 0 rfl ?_
  refine J_getA dX0_lowerOf_1 fl_X0_88 rfl (fun v1 => ?_)
  refine J_aload_n dX0_lowerOf_4 rfl 1 rfl ?_
  refine J_callVV (c := 4) (as := [.ref x1]) dX0_lowerOf_5 (by decide) rfl (Nat.le_of_ble_eq_true rfl) (cw_X5_all _ (by decide)) q1129 q1130 q1131 q1132 np_X5_all (i_X5_all v1 x1) jad_id rfl ?_
  refine J_aload_n dX0_lowerOf_8 rfl 0 rfl ?_
  refine J_aload_n dX0_lowerOf_9 rfl 1 rfl ?_
  refine J_aload_n dX0_lowerOf_10 rfl 0 rfl ?_
  refine J_getA dX0_lowerOf_11 fl_X0_88 rfl (fun v2 => ?_)
  refine J_iload_n dX0_lowerOf_14 rfl 2 rfl ?_
  refine J_iconst (v := 0) dX0_lowerOf_15 (by decide) ?_
  refine J_callVI (c := 0) (as := [.ref x1, .ref v2, .int x2, .int 0]) dX0_lowerOf_16 (by decide) rfl (Nat.le_of_ble_eq_true rfl) (cw_X0_series _ (by decide)) q1146 q1148 qs23 q1149 np_X0_series (i_X0_series x0 x1 v2 x2 0) jad_id rfl (fun v3 => ?_)
  exact J_ireturn dX0_lowerOf_19 rfl
theorem i_X0_lowerOf (x0 : Nat) (x1 : Nat) (x2 : Int32) : Impl (ws_ yX0_lowerOf cX0_lowerOf 3 (some .int)) yX0_lowerOf 7 false 0 0 [.ref x0, .ref x1, .int x2] (f_X0_lowerOf x0 x1 x2) injI := impl_of (plainFor_of_name (by decide)) (Nat.le_of_ble_eq_true rfl) (fun D dA => j_X0_lowerOf D dA x0 x1 x2)
theorem cw_X0_lowerOf (Y : JY) (h : 8 ≤ Y.2.2.2.1) : JCw Y (ws_ yX0_lowerOf cX0_lowerOf 3 (some .int)) yX0_lowerOf cX0_lowerOf 3 (some .int) 7 := ⟨h, by decide, lw_meth q1161, q187, by decide, by decide⟩
theorem np_X0_lowerOf : JNp yX0_lowerOf.desc 2 := by decide +kernel
-- BracketRoom.lower(I)I
abbrev Y_X0_lower : JY := (cX0_lower, yX0_lower.cls, 2, 8, yX0_lower.name, (some .int), [])
noncomputable def f_X0_lower (x0 : Nat) (x1 : Int32) : JM Mem Int32 :=
  jb ((f_X0_isFrom ((x1 : Int32).toInt64) 0 9)) fun v1 =>
  if v1 = 0 then
    jb (jcall 0 x0 (f_X0_none x0 5)) fun v2 =>
    jp v2
  else
  jb (jgetA 0 2 x0) fun v3 =>
  jb (jcall 0 x0 (f_X0_lowerOf x0 v3 x1)) fun v4 =>
  jb (jcall 0 x0 (f_X0_gives x0 v4)) fun v5 =>
  jp v5
theorem j_X0_lower (D : va_G) (dA : Nat → ClassId) (x0 : Nat) (x1 : Int32) : J (PM D dA false) Y_X0_lower [(0, .ref x0), (1, .int x1)] [] 0 (f_X0_lower x0 x1) (FRet injI) := by
  unfold f_X0_lower
  refine J_iload_n dX0_lower_0 rfl 1 rfl ?_
  refine J_i2l dX0_lower_1 ?_
  refine J_lconst (v := 0) dX0_lower_2 (by decide) ?_
  refine J_ldc2 dX0_lower_3 q1141 ?_
  refine J_callSI (host := "") (as := [.long ((x1 : Int32).toInt64), .long 0, .long 9]) dX0_lower_6 rfl (Nat.le_of_ble_eq_true rfl) (cw_X0_isFrom _ (by decide)) q1096 q1097 q1098 np_X0_isFrom (i_X0_isFrom ((x1 : Int32).toInt64) 0 9) jad_id rfl (fun v1 => ?_)
  refine J_if_eq (tgt := 28) dX0_lower_9 rfl ?_ ?_
  · refine J_aload_n dX0_lower_28 rfl 0 rfl ?_
    refine J_iconst (v := 5) dX0_lower_29 (by decide) ?_
    refine J_callVI (c := 0) (as := [.int 5]) dX0_lower_30 (by decide) rfl (Nat.le_of_ble_eq_true rfl) (cw_X0_none _ (by decide)) q729 q731 qs3 q732 np_X0_none (i_X0_none x0 5) jad_id rfl (fun v2 => ?_)
    exact J_ireturn dX0_lower_33 rfl
  refine J_aload_n dX0_lower_12 rfl 0 rfl ?_
  refine J_aload_n dX0_lower_13 rfl 0 rfl ?_
  refine J_aload_n dX0_lower_14 rfl 0 rfl ?_
  refine J_getA dX0_lower_15 fl_X0_30 rfl (fun v3 => ?_)
  refine J_iload_n dX0_lower_18 rfl 1 rfl ?_
  refine J_callVI (c := 0) (as := [.ref v3, .int x1]) dX0_lower_19 (by decide) rfl (Nat.le_of_ble_eq_true rfl) (cw_X0_lowerOf _ (by decide)) q1158 q1160 qs24 q1161 np_X0_lowerOf (i_X0_lowerOf x0 v3 x1) jad_id rfl (fun v4 => ?_)
  refine J_callVI (c := 0) (as := [.int v4]) dX0_lower_22 (by decide) rfl (Nat.le_of_ble_eq_true rfl) (cw_X0_gives _ (by decide)) q944 q946 qs9 q947 np_X0_gives (i_X0_gives x0 v4) jad_id rfl (fun v5 => ?_)
  refine J_goto (tgt := 33) dX0_lower_25 rfl ?_
  exact J_ireturn dX0_lower_33 rfl
theorem i_X0_lower (x0 : Nat) (x1 : Int32) : Impl (ws_ yX0_lower cX0_lower 2 (some .int)) yX0_lower 8 false 0 0 [.ref x0, .int x1] (f_X0_lower x0 x1) injI := impl_of (plainFor_of_name (by decide)) (Nat.le_of_ble_eq_true rfl) (fun D dA => j_X0_lower D dA x0 x1)
theorem cw_X0_lower (Y : JY) (h : 9 ≤ Y.2.2.2.1) : JCw Y (ws_ yX0_lower cX0_lower 2 (some .int)) yX0_lower cX0_lower 2 (some .int) 8 := ⟨h, by decide, lw_meth q1157, q187, by decide, by decide⟩
theorem np_X0_lower : JNp yX0_lower.desc 1 := by decide +kernel
-- BracketRoom.clearRows(II)V
abbrev Y_X0_clearRows : JY := (cX0_clearRows, yX0_clearRows.cls, 5, 1, yX0_clearRows.name, none, [])
noncomputable def X0_clearRows_b32 (x0 : Nat) (x1 : Int32) (x2 : Int32) (x3 : Int32) : JM Mem (Unit ⊕ (Int32)) :=
  jcont (x3 + 1)
theorem j_X0_clearRows_b32 (D : va_G) (dA : Nat → ClassId) (x0 : Nat) (x1 : Int32) (x2 : Int32) (x3 : Int32) : J (PM D dA false) Y_X0_clearRows [(0, .ref x0), (1, .int x1), (2, .int x2), (3, .int x3)] [] 32 (X0_clearRows_b32 x0 x1 x2 x3) (FLoop (FRet injU) 2 (fun (t : Int32) => [(0, .ref x0), (1, .int x1), (2, .int x2), (3, .int t)])) := by
  unfold X0_clearRows_b32
  refine J_iinc (v := x3 + 1) (env' := [(3, .int (x3 + 1)), (0, .ref x0), (1, .int x1), (2, .int x2)]) dX0_clearRows_32 3 rfl rfl (by decide) rfl ?_
  refine J_goto (tgt := 2) dX0_clearRows_35 rfl ?_
  exact J_cont [1, 2, 3, 0] rfl
noncomputable def X0_clearRows_L10 (x0 : Nat) (x1 : Int32) (x2 : Int32) (x3 : Int32) (x4 : Int32) : JM Mem ((Unit ⊕ (Int32)) ⊕ (Int32)) :=
  if x2 ≤ x4 then
    jinl (X0_clearRows_b32 x0 x1 x2 x3)
  else
  jb (jgetA 0 23 x0) fun v1 =>
  jb (jaldA 5 v1 x3) fun v2 =>
  jb (jast_i v2 x4 0) fun _ =>
  jcont (x4 + 1)
theorem j_X0_clearRows_L10 (D : va_G) (dA : Nat → ClassId) (x0 : Nat) (x1 : Int32) (x2 : Int32) (x3 : Int32) (x4 : Int32) : J (PM D dA false) Y_X0_clearRows [(0, .ref x0), (1, .int x1), (2, .int x2), (3, .int x3), (4, .int x4)] [] 10 (X0_clearRows_L10 x0 x1 x2 x3 x4) (FLoop (FLoop (FRet injU) 2 (fun (t : Int32) => [(0, .ref x0), (1, .int x1), (2, .int x2), (3, .int t)])) 10 (fun (t : Int32) => [(0, .ref x0), (1, .int x1), (2, .int x2), (3, .int x3), (4, .int t)])) := by
  unfold X0_clearRows_L10
  refine J_iload dX0_clearRows_10 4 rfl ?_
  refine J_iload_n dX0_clearRows_12 rfl 2 rfl ?_
  refine J_icmp_ge (tgt := 32) dX0_clearRows_13 rfl ?_ ?_
  · refine J_inl ?_
    refine J_sub [0, 1, 2, 3] rfl ?_
    exact j_X0_clearRows_b32 D dA x0 x1 x2 x3
  refine J_aload_n dX0_clearRows_16 rfl 0 rfl ?_
  refine J_getA dX0_clearRows_17 fl_X0_93 rfl (fun v1 => ?_)
  refine J_iload_n dX0_clearRows_20 rfl 3 rfl ?_
  refine J_aald dX0_clearRows_21 rfl (by decide) (fun v2 => ?_)
  refine J_iload dX0_clearRows_22 4 rfl ?_
  refine J_iconst (v := 0) dX0_clearRows_24 (by decide) ?_
  refine J_iast dX0_clearRows_25 ?_
  refine J_iinc (v := x4 + 1) (env' := [(4, .int (x4 + 1)), (0, .ref x0), (1, .int x1), (2, .int x2), (3, .int x3)]) dX0_clearRows_26 4 rfl rfl (by decide) rfl ?_
  refine J_goto (tgt := 10) dX0_clearRows_29 rfl ?_
  exact J_cont [1, 2, 3, 4, 0] rfl
noncomputable def X0_clearRows_L2 (x0 : Nat) (x1 : Int32) (x2 : Int32) (x3 : Int32) : JM Mem (Unit ⊕ (Int32)) :=
  if x1 ≤ x3 then
    jinl (jp ())
  else
    jloop (fun (t : Int32) => X0_clearRows_L10 x0 x1 x2 x3 t) 0
theorem j_X0_clearRows_L2 (D : va_G) (dA : Nat → ClassId) (x0 : Nat) (x1 : Int32) (x2 : Int32) (x3 : Int32) : J (PM D dA false) Y_X0_clearRows [(0, .ref x0), (1, .int x1), (2, .int x2), (3, .int x3)] [] 2 (X0_clearRows_L2 x0 x1 x2 x3) (FLoop (FRet injU) 2 (fun (t : Int32) => [(0, .ref x0), (1, .int x1), (2, .int x2), (3, .int t)])) := by
  unfold X0_clearRows_L2
  refine J_iload_n dX0_clearRows_2 rfl 3 rfl ?_
  refine J_iload_n dX0_clearRows_3 rfl 1 rfl ?_
  refine J_icmp_ge (tgt := 38) dX0_clearRows_4 rfl ?_ ?_
  · refine J_inl ?_
    exact J_return dX0_clearRows_38 rfl
  refine J_iconst (v := 0) dX0_clearRows_7 (by decide) ?_
  refine J_istore (env' := [(4, .int 0), (0, .ref x0), (1, .int x1), (2, .int x2), (3, .int x3)]) dX0_clearRows_8 (by decide) rfl ?_
  refine J_loop (he := fun (t : Int32) => [(0, .ref x0), (1, .int x1), (2, .int x2), (3, .int x3), (4, .int t)]) [1, 2, 3, 4, 0] rfl (fun t => ?_)
  exact j_X0_clearRows_L10 D dA x0 x1 x2 x3 t
noncomputable def f_X0_clearRows (x0 : Nat) (x1 : Int32) (x2 : Int32) : JM Mem Unit :=
  jloop (fun (t : Int32) => X0_clearRows_L2 x0 x1 x2 t) 0
theorem j_X0_clearRows (D : va_G) (dA : Nat → ClassId) (x0 : Nat) (x1 : Int32) (x2 : Int32) : J (PM D dA false) Y_X0_clearRows [(0, .ref x0), (1, .int x1), (2, .int x2)] [] 0 (f_X0_clearRows x0 x1 x2) (FRet injU) := by
  unfold f_X0_clearRows
  refine J_iconst (v := 0) dX0_clearRows_0 (by decide) ?_
  refine J_istore_n (env' := [(3, .int 0), (0, .ref x0), (1, .int x1), (2, .int x2)]) dX0_clearRows_1 rfl (by decide) rfl ?_
  refine J_loop (he := fun (t : Int32) => [(0, .ref x0), (1, .int x1), (2, .int x2), (3, .int t)]) [1, 2, 3, 0] rfl (fun t => ?_)
  exact j_X0_clearRows_L2 D dA x0 x1 x2 t
theorem i_X0_clearRows (x0 : Nat) (x1 : Int32) (x2 : Int32) : Impl (ws_ yX0_clearRows cX0_clearRows 5 none) yX0_clearRows 1 false 0 0 [.ref x0, .int x1, .int x2] (f_X0_clearRows x0 x1 x2) injU := impl_of (plainFor_of_name (by decide)) (Nat.le_of_ble_eq_true rfl) (fun D dA => j_X0_clearRows D dA x0 x1 x2)
theorem cw_X0_clearRows (Y : JY) (h : 2 ≤ Y.2.2.2.1) : JCw Y (ws_ yX0_clearRows cX0_clearRows 5 none) yX0_clearRows cX0_clearRows 5 none 1 := ⟨h, by decide, lw_meth q1173, q187, by decide, by decide⟩
theorem np_X0_clearRows : JNp yX0_clearRows.desc 2 := by decide +kernel
-- BracketRoom.centreOf(LBracketRoom$World;)I
abbrev Y_X0_centreOf : JY := (cX0_centreOf, yX0_centreOf.cls, 4, 4, yX0_centreOf.name, (some .int), [])
noncomputable def X0_centreOf_b77 (x0 : Nat) (x1 : Nat) : JM Mem Int32 :=
  jb (jgetI 3 2 x1) fun v5 =>
  jb (jgetA 0 23 x0) fun v6 =>
  jb (jgetI 3 2 x1) fun v7 =>
  jb (jgetI 3 2 x1) fun v8 =>
  jb (jgetI 3 2 x1) fun v9 =>
  jb (jcall 3 x1 (f_X4_rank x1 v6 v7 (v8 * v9))) fun v10 =>
  jp (v5 - v10)
theorem j_X0_centreOf_b77 (D : va_G) (dA : Nat → ClassId) (x0 : Nat) (x1 : Nat) : J (PM D dA false) Y_X0_centreOf [(0, .ref x0), (1, .ref x1)] [] 77 (X0_centreOf_b77 x0 x1) (FRet injI) := by
  unfold X0_centreOf_b77
  refine J_aload_n dX0_centreOf_77 rfl 1 rfl ?_
  refine J_getI dX0_centreOf_78 fl_X0_196 rfl (fun v5 => ?_)
  refine J_aload_n dX0_centreOf_81 rfl 1 rfl ?_
  refine J_aload_n dX0_centreOf_82 rfl 0 rfl ?_
  refine J_getA dX0_centreOf_83 fl_X0_93 rfl (fun v6 => ?_)
  refine J_aload_n dX0_centreOf_86 rfl 1 rfl ?_
  refine J_getI dX0_centreOf_87 fl_X0_196 rfl (fun v7 => ?_)
  refine J_aload_n dX0_centreOf_90 rfl 1 rfl ?_
  refine J_getI dX0_centreOf_91 fl_X0_196 rfl (fun v8 => ?_)
  refine J_aload_n dX0_centreOf_94 rfl 1 rfl ?_
  refine J_getI dX0_centreOf_95 fl_X0_196 rfl (fun v9 => ?_)
  refine J_imul dX0_centreOf_98 ?_
  refine J_callVI (c := 3) (as := [.ref v6, .int v7, .int (v8 * v9)]) dX0_centreOf_99 (by decide) rfl (Nat.le_of_ble_eq_true rfl) (cw_X4_rank _ (by decide)) q1174 q1175 q1176 q1177 np_X4_rank (i_X4_rank x1 v6 v7 (v8 * v9)) jad_id rfl (fun v10 => ?_)
  refine J_isub dX0_centreOf_102 ?_
  exact J_ireturn dX0_centreOf_103 rfl
noncomputable def X0_centreOf_b71 (x0 : Nat) (x1 : Nat) (x2 : Int32) : JM Mem (Int32 ⊕ (Int32)) :=
  jcont (x2 + 1)
theorem j_X0_centreOf_b71 (D : va_G) (dA : Nat → ClassId) (x0 : Nat) (x1 : Nat) (x2 : Int32) : J (PM D dA false) Y_X0_centreOf [(0, .ref x0), (1, .ref x1), (2, .int x2)] [] 71 (X0_centreOf_b71 x0 x1 x2) (FLoop (FRet injI) 19 (fun (t : Int32) => [(0, .ref x0), (1, .ref x1), (2, .int t)])) := by
  unfold X0_centreOf_b71
  refine J_iinc (v := x2 + 1) (env' := [(2, .int (x2 + 1)), (0, .ref x0), (1, .ref x1)]) dX0_centreOf_71 2 rfl rfl (by decide) rfl ?_
  refine J_goto (tgt := 19) dX0_centreOf_74 rfl ?_
  exact J_cont [1, 2, 0] rfl
noncomputable def X0_centreOf_L29 (x0 : Nat) (x1 : Nat) (x2 : Int32) (x3 : Int32) : JM Mem ((Int32 ⊕ (Int32)) ⊕ (Int32)) :=
  jb (jgetI 3 2 x1) fun v11 =>
  if v11 ≤ x3 then
    jinl (X0_centreOf_b71 x0 x1 x2)
  else
  jb (jgetA 3 0 x1) fun v12 =>
  jb (jaldA 6 v12 x2) fun v13 =>
  jb (jaldA 5 v13 x3) fun v14 =>
  jb (jgetA 0 23 x0) fun v15 =>
  jb (jaldA 5 v15 x2) fun v16 =>
  jb (jgetI 3 2 x1) fun v17 =>
  jb (jgetI 3 2 x1) fun v18 =>
  jb (jcopy 0 v14 0 v16 (x3 * v17) v18) fun _ =>
  jcont (x3 + 1)
theorem j_X0_centreOf_L29 (D : va_G) (dA : Nat → ClassId) (x0 : Nat) (x1 : Nat) (x2 : Int32) (x3 : Int32) : J (PM D dA false) Y_X0_centreOf [(0, .ref x0), (1, .ref x1), (2, .int x2), (3, .int x3)] [] 29 (X0_centreOf_L29 x0 x1 x2 x3) (FLoop (FLoop (FRet injI) 19 (fun (t : Int32) => [(0, .ref x0), (1, .ref x1), (2, .int t)])) 29 (fun (t : Int32) => [(0, .ref x0), (1, .ref x1), (2, .int x2), (3, .int t)])) := by
  unfold X0_centreOf_L29
  refine J_iload_n dX0_centreOf_29 rfl 3 rfl ?_
  refine J_aload_n dX0_centreOf_30 rfl 1 rfl ?_
  refine J_getI dX0_centreOf_31 fl_X0_196 rfl (fun v11 => ?_)
  refine J_icmp_ge (tgt := 71) dX0_centreOf_34 rfl ?_ ?_
  · refine J_inl ?_
    refine J_sub [0, 1, 2] rfl ?_
    exact j_X0_centreOf_b71 D dA x0 x1 x2
  refine J_aload_n dX0_centreOf_37 rfl 1 rfl ?_
  refine J_getA dX0_centreOf_38 fl_X0_256 rfl (fun v12 => ?_)
  refine J_iload_n dX0_centreOf_41 rfl 2 rfl ?_
  refine J_aald dX0_centreOf_42 rfl (by decide) (fun v13 => ?_)
  refine J_iload_n dX0_centreOf_43 rfl 3 rfl ?_
  refine J_aald dX0_centreOf_44 rfl (by decide) (fun v14 => ?_)
  refine J_iconst (v := 0) dX0_centreOf_45 (by decide) ?_
  refine J_aload_n dX0_centreOf_46 rfl 0 rfl ?_
  refine J_getA dX0_centreOf_47 fl_X0_93 rfl (fun v15 => ?_)
  refine J_iload_n dX0_centreOf_50 rfl 2 rfl ?_
  refine J_aald dX0_centreOf_51 rfl (by decide) (fun v16 => ?_)
  refine J_iload_n dX0_centreOf_52 rfl 3 rfl ?_
  refine J_aload_n dX0_centreOf_53 rfl 1 rfl ?_
  refine J_getI dX0_centreOf_54 fl_X0_196 rfl (fun v17 => ?_)
  refine J_imul dX0_centreOf_57 ?_
  refine J_aload_n dX0_centreOf_58 rfl 1 rfl ?_
  refine J_getI dX0_centreOf_59 fl_X0_196 rfl (fun v18 => ?_)
  refine J_copy (t := 0) dX0_centreOf_62 (by decide) (Nat.le_of_ble_eq_true rfl) (by decide) q743 q745 q744 q204 ?_
  refine J_iinc (v := x3 + 1) (env' := [(3, .int (x3 + 1)), (0, .ref x0), (1, .ref x1), (2, .int x2)]) dX0_centreOf_65 3 rfl rfl (by decide) rfl ?_
  refine J_goto (tgt := 29) dX0_centreOf_68 rfl ?_
  exact J_cont [1, 2, 3, 0] rfl
noncomputable def X0_centreOf_L19 (x0 : Nat) (x1 : Nat) (x2 : Int32) : JM Mem (Int32 ⊕ (Int32)) :=
  jb (jgetI 3 2 x1) fun v4 =>
  if v4 ≤ x2 then
    jinl (X0_centreOf_b77 x0 x1)
  else
    jloop (fun (t : Int32) => X0_centreOf_L29 x0 x1 x2 t) 0
theorem j_X0_centreOf_L19 (D : va_G) (dA : Nat → ClassId) (x0 : Nat) (x1 : Nat) (x2 : Int32) : J (PM D dA false) Y_X0_centreOf [(0, .ref x0), (1, .ref x1), (2, .int x2)] [] 19 (X0_centreOf_L19 x0 x1 x2) (FLoop (FRet injI) 19 (fun (t : Int32) => [(0, .ref x0), (1, .ref x1), (2, .int t)])) := by
  unfold X0_centreOf_L19
  refine J_iload_n dX0_centreOf_19 rfl 2 rfl ?_
  refine J_aload_n dX0_centreOf_20 rfl 1 rfl ?_
  refine J_getI dX0_centreOf_21 fl_X0_196 rfl (fun v4 => ?_)
  refine J_icmp_ge (tgt := 77) dX0_centreOf_24 rfl ?_ ?_
  · refine J_inl ?_
    refine J_sub [0, 1] rfl ?_
    exact j_X0_centreOf_b77 D dA x0 x1
  refine J_iconst (v := 0) dX0_centreOf_27 (by decide) ?_
  refine J_istore_n (env' := [(3, .int 0), (0, .ref x0), (1, .ref x1), (2, .int x2)]) dX0_centreOf_28 rfl (by decide) rfl ?_
  refine J_loop (he := fun (t : Int32) => [(0, .ref x0), (1, .ref x1), (2, .int x2), (3, .int t)]) [1, 2, 3, 0] rfl (fun t => ?_)
  exact j_X0_centreOf_L29 D dA x0 x1 x2 t
noncomputable def f_X0_centreOf (x0 : Nat) (x1 : Nat) : JM Mem Int32 :=
  jb (jgetI 3 2 x1) fun v1 =>
  jb (jgetI 3 2 x1) fun v2 =>
  jb (jgetI 3 2 x1) fun v3 =>
  jb (jcall 0 x0 (f_X0_clearRows x0 v1 (v2 * v3))) fun _ =>
  jloop (fun (t : Int32) => X0_centreOf_L19 x0 x1 t) 0
theorem j_X0_centreOf (D : va_G) (dA : Nat → ClassId) (x0 : Nat) (x1 : Nat) : J (PM D dA false) Y_X0_centreOf [(0, .ref x0), (1, .ref x1)] [] 0 (f_X0_centreOf x0 x1) (FRet injI) := by
  unfold f_X0_centreOf
  refine J_aload_n dX0_centreOf_0 rfl 0 rfl ?_
  refine J_aload_n dX0_centreOf_1 rfl 1 rfl ?_
  refine J_getI dX0_centreOf_2 fl_X0_196 rfl (fun v1 => ?_)
  refine J_aload_n dX0_centreOf_5 rfl 1 rfl ?_
  refine J_getI dX0_centreOf_6 fl_X0_196 rfl (fun v2 => ?_)
  refine J_aload_n dX0_centreOf_9 rfl 1 rfl ?_
  refine J_getI dX0_centreOf_10 fl_X0_196 rfl (fun v3 => ?_)
  refine J_imul dX0_centreOf_13 ?_
  refine J_callVV (c := 0) (as := [.int v1, .int (v2 * v3)]) dX0_centreOf_14 (by decide) rfl (Nat.le_of_ble_eq_true rfl) (cw_X0_clearRows _ (by decide)) q1170 q1172 qs26 q1173 np_X0_clearRows (i_X0_clearRows x0 v1 (v2 * v3)) jad_id rfl ?_
  refine J_iconst (v := 0) dX0_centreOf_17 (by decide) ?_
  refine J_istore_n (env' := [(2, .int 0), (0, .ref x0), (1, .ref x1)]) dX0_centreOf_18 rfl (by decide) rfl ?_
  refine J_loop (he := fun (t : Int32) => [(0, .ref x0), (1, .ref x1), (2, .int t)]) [1, 2, 0] rfl (fun t => ?_)
  exact j_X0_centreOf_L19 D dA x0 x1 t
theorem i_X0_centreOf (x0 : Nat) (x1 : Nat) : Impl (ws_ yX0_centreOf cX0_centreOf 4 (some .int)) yX0_centreOf 4 false 0 0 [.ref x0, .ref x1] (f_X0_centreOf x0 x1) injI := impl_of (plainFor_of_name (by decide)) (Nat.le_of_ble_eq_true rfl) (fun D dA => j_X0_centreOf D dA x0 x1)
theorem cw_X0_centreOf (Y : JY) (h : 5 ≤ Y.2.2.2.1) : JCw Y (ws_ yX0_centreOf cX0_centreOf 4 (some .int)) yX0_centreOf cX0_centreOf 4 (some .int) 4 := ⟨h, by decide, lw_meth q1169, q187, by decide, by decide⟩
theorem np_X0_centreOf : JNp yX0_centreOf.desc 1 := by decide +kernel
-- BracketRoom.centre()I
abbrev Y_X0_centre : JY := (cX0_centre, yX0_centre.cls, 1, 5, yX0_centre.name, (some .int), [])
noncomputable def f_X0_centre (x0 : Nat) : JM Mem Int32 :=
  jb (jgetA 0 2 x0) fun v1 =>
  jb (jcall 0 x0 (f_X0_centreOf x0 v1)) fun v2 =>
  jb (jcall 0 x0 (f_X0_gives x0 v2)) fun v3 =>
  jp v3
theorem j_X0_centre (D : va_G) (dA : Nat → ClassId) (x0 : Nat) : J (PM D dA false) Y_X0_centre [(0, .ref x0)] [] 0 (f_X0_centre x0) (FRet injI) := by
  unfold f_X0_centre
  refine J_aload_n dX0_centre_0 rfl 0 rfl ?_
  refine J_aload_n dX0_centre_1 rfl 0 rfl ?_
  refine J_aload_n dX0_centre_2 rfl 0 rfl ?_
  refine J_getA dX0_centre_3 fl_X0_30 rfl (fun v1 => ?_)
  refine J_callVI (c := 0) (as := [.ref v1]) dX0_centre_6 (by decide) rfl (Nat.le_of_ble_eq_true rfl) (cw_X0_centreOf _ (by decide)) q1166 q1168 qs25 q1169 np_X0_centreOf (i_X0_centreOf x0 v1) jad_id rfl (fun v2 => ?_)
  refine J_callVI (c := 0) (as := [.int v2]) dX0_centre_9 (by decide) rfl (Nat.le_of_ble_eq_true rfl) (cw_X0_gives _ (by decide)) q944 q946 qs9 q947 np_X0_gives (i_X0_gives x0 v2) jad_id rfl (fun v3 => ?_)
  exact J_ireturn dX0_centre_12 rfl
theorem i_X0_centre (x0 : Nat) : Impl (ws_ yX0_centre cX0_centre 1 (some .int)) yX0_centre 5 false 0 0 [.ref x0] (f_X0_centre x0) injI := impl_of (plainFor_of_name (by decide)) (Nat.le_of_ble_eq_true rfl) (fun D dA => j_X0_centre D dA x0)
theorem cw_X0_centre (Y : JY) (h : 6 ≤ Y.2.2.2.1) : JCw Y (ws_ yX0_centre cX0_centre 1 (some .int)) yX0_centre cX0_centre 1 (some .int) 5 := ⟨h, by decide, lw_meth q1165, q187, by decide, by decide⟩
theorem np_X0_centre : JNp yX0_centre.desc 0 := by decide +kernel
-- BracketRoom.rankOf(LBracketRoom$World;I)I
abbrev Y_X0_rankOf : JY := (cX0_rankOf, yX0_rankOf.cls, 5, 4, yX0_rankOf.name, (some .int), [])
noncomputable def X0_rankOf_b76 (x0 : Nat) (x1 : Nat) : JM Mem Int32 :=
  jb (jgetA 0 23 x0) fun v3 =>
  jb (jgetI 3 2 x1) fun v4 =>
  jb (jgetI 3 2 x1) fun v5 =>
  jb (jcall 3 x1 (f_X4_rank x1 v3 v4 v5)) fun v6 =>
  jp v6
theorem j_X0_rankOf_b76 (D : va_G) (dA : Nat → ClassId) (x0 : Nat) (x1 : Nat) : J (PM D dA false) Y_X0_rankOf [(0, .ref x0), (1, .ref x1)] [] 76 (X0_rankOf_b76 x0 x1) (FRet injI) := by
  unfold X0_rankOf_b76
  refine J_aload_n dX0_rankOf_76 rfl 1 rfl ?_
  refine J_aload_n dX0_rankOf_77 rfl 0 rfl ?_
  refine J_getA dX0_rankOf_78 fl_X0_93 rfl (fun v3 => ?_)
  refine J_aload_n dX0_rankOf_81 rfl 1 rfl ?_
  refine J_getI dX0_rankOf_82 fl_X0_196 rfl (fun v4 => ?_)
  refine J_aload_n dX0_rankOf_85 rfl 1 rfl ?_
  refine J_getI dX0_rankOf_86 fl_X0_196 rfl (fun v5 => ?_)
  refine J_callVI (c := 3) (as := [.ref v3, .int v4, .int v5]) dX0_rankOf_89 (by decide) rfl (Nat.le_of_ble_eq_true rfl) (cw_X4_rank _ (by decide)) q1174 q1175 q1176 q1177 np_X4_rank (i_X4_rank x1 v3 v4 v5) jad_id rfl (fun v6 => ?_)
  exact J_ireturn dX0_rankOf_92 rfl
noncomputable def X0_rankOf_b52 (x0 : Nat) (x1 : Nat) (x3 : Int32) : JM Mem (Int32 ⊕ (Int32)) :=
  jb (jgetA 0 13 x0) fun v7 =>
  jb (jgetA 0 14 x0) fun v8 =>
  jb (jgetA 0 23 x0) fun v9 =>
  jb (jaldA 5 v9 x3) fun v10 =>
  jb (jcall 3 x1 (f_X4_bracket x1 v7 v8 v10)) fun _ =>
  jcont (x3 + 1)
theorem j_X0_rankOf_b52 (D : va_G) (dA : Nat → ClassId) (x0 : Nat) (x1 : Nat) (x3 : Int32) : J (PM D dA false) Y_X0_rankOf [(0, .ref x0), (1, .ref x1), (3, .int x3)] [] 52 (X0_rankOf_b52 x0 x1 x3) (FLoop (FRet injI) 11 (fun (t : Int32) => [(0, .ref x0), (1, .ref x1), (3, .int t)])) := by
  unfold X0_rankOf_b52
  refine J_aload_n dX0_rankOf_52 rfl 1 rfl ?_
  refine J_aload_n dX0_rankOf_53 rfl 0 rfl ?_
  refine J_getA dX0_rankOf_54 fl_X0_56 rfl (fun v7 => ?_)
  refine J_aload_n dX0_rankOf_57 rfl 0 rfl ?_
  refine J_getA dX0_rankOf_58 fl_X0_60 rfl (fun v8 => ?_)
  refine J_aload_n dX0_rankOf_61 rfl 0 rfl ?_
  refine J_getA dX0_rankOf_62 fl_X0_93 rfl (fun v9 => ?_)
  refine J_iload_n dX0_rankOf_65 rfl 2 rfl ?_
  refine J_aald dX0_rankOf_66 rfl (by decide) (fun v10 => ?_)
  refine J_callVV (c := 3) (as := [.ref v7, .ref v8, .ref v10]) dX0_rankOf_67 (by decide) rfl (Nat.le_of_ble_eq_true rfl) (cw_X4_bracket _ (by decide)) q1048 q1049 q1050 q1051 np_X4_bracket (i_X4_bracket x1 v7 v8 v10) jad_id rfl ?_
  refine J_iinc (v := x3 + 1) (env' := [(3, .int (x3 + 1)), (0, .ref x0), (1, .ref x1)]) dX0_rankOf_70 2 rfl rfl (by decide) rfl ?_
  refine J_goto (tgt := 11) dX0_rankOf_73 rfl ?_
  exact J_cont [1, 2, 0] rfl
noncomputable def X0_rankOf_b45 (x0 : Nat) (x1 : Nat) (x3 : Int32) (x4 : Int32) (s0 : Nat) (s1 : Int32) (s2 : Int32) : JM Mem ((Int32 ⊕ (Int32)) ⊕ (Int32)) :=
  jb (jast_i s0 s1 s2) fun _ =>
  jcont (x4 + 1)
theorem j_X0_rankOf_b45 (D : va_G) (dA : Nat → ClassId) (x0 : Nat) (x1 : Nat) (x3 : Int32) (x4 : Int32) (s0 : Nat) (s1 : Int32) (s2 : Int32) : J (PM D dA false) Y_X0_rankOf [(0, .ref x0), (1, .ref x1), (3, .int x3), (4, .int x4)] [.int s2, .int s1, .ref s0] 45 (X0_rankOf_b45 x0 x1 x3 x4 s0 s1 s2) (FLoop (FLoop (FRet injI) 11 (fun (t : Int32) => [(0, .ref x0), (1, .ref x1), (3, .int t)])) 22 (fun (t : Int32) => [(0, .ref x0), (1, .ref x1), (3, .int x3), (4, .int t)])) := by
  unfold X0_rankOf_b45
  refine J_iast dX0_rankOf_45 ?_
  refine J_iinc (v := x4 + 1) (env' := [(4, .int (x4 + 1)), (0, .ref x0), (1, .ref x1), (3, .int x3)]) dX0_rankOf_46 3 rfl rfl (by decide) rfl ?_
  refine J_goto (tgt := 22) dX0_rankOf_49 rfl ?_
  exact J_cont [1, 2, 3, 0] rfl
noncomputable def X0_rankOf_L22 (x0 : Nat) (x1 : Nat) (x3 : Int32) (x4 : Int32) : JM Mem ((Int32 ⊕ (Int32)) ⊕ (Int32)) :=
  if 5 ≤ x4 then
    jinl (X0_rankOf_b52 x0 x1 x3)
  else
  jb (jgetA 0 14 x0) fun v11 =>
  if x4 = x3 then
    X0_rankOf_b45 x0 x1 x3 x4 v11 x4 1
  else
    X0_rankOf_b45 x0 x1 x3 x4 v11 x4 0
theorem j_X0_rankOf_L22 (D : va_G) (dA : Nat → ClassId) (x0 : Nat) (x1 : Nat) (x3 : Int32) (x4 : Int32) : J (PM D dA false) Y_X0_rankOf [(0, .ref x0), (1, .ref x1), (3, .int x3), (4, .int x4)] [] 22 (X0_rankOf_L22 x0 x1 x3 x4) (FLoop (FLoop (FRet injI) 11 (fun (t : Int32) => [(0, .ref x0), (1, .ref x1), (3, .int t)])) 22 (fun (t : Int32) => [(0, .ref x0), (1, .ref x1), (3, .int x3), (4, .int t)])) := by
  unfold X0_rankOf_L22
  refine J_iload dX0_rankOf_22 3 rfl ?_
  refine J_iconst (v := 5) dX0_rankOf_24 (by decide) ?_
  refine J_icmp_ge (tgt := 52) dX0_rankOf_25 rfl ?_ ?_
  · refine J_inl ?_
    refine J_sub [0, 1, 2] rfl ?_
    exact j_X0_rankOf_b52 D dA x0 x1 x3
  refine J_aload_n dX0_rankOf_28 rfl 0 rfl ?_
  refine J_getA dX0_rankOf_29 fl_X0_60 rfl (fun v11 => ?_)
  refine J_iload dX0_rankOf_32 3 rfl ?_
  refine J_iload dX0_rankOf_34 3 rfl ?_
  refine J_iload_n dX0_rankOf_36 rfl 2 rfl ?_
  refine J_icmp_ne (tgt := 44) dX0_rankOf_37 rfl ?_ ?_
  · refine J_iconst (v := 0) dX0_rankOf_44 (by decide) ?_
    refine J_sub [0, 1, 2, 3] rfl ?_
    exact j_X0_rankOf_b45 D dA x0 x1 x3 x4 v11 x4 0
  refine J_iconst (v := 1) dX0_rankOf_40 (by decide) ?_
  refine J_goto (tgt := 45) dX0_rankOf_41 rfl ?_
  refine J_sub [0, 1, 2, 3] rfl ?_
  exact j_X0_rankOf_b45 D dA x0 x1 x3 x4 v11 x4 1
noncomputable def X0_rankOf_L11 (x0 : Nat) (x1 : Nat) (x3 : Int32) : JM Mem (Int32 ⊕ (Int32)) :=
  jb (jgetI 3 2 x1) fun v2 =>
  if v2 ≤ x3 then
    jinl (X0_rankOf_b76 x0 x1)
  else
    jloop (fun (t : Int32) => X0_rankOf_L22 x0 x1 x3 t) 0
theorem j_X0_rankOf_L11 (D : va_G) (dA : Nat → ClassId) (x0 : Nat) (x1 : Nat) (x3 : Int32) : J (PM D dA false) Y_X0_rankOf [(0, .ref x0), (1, .ref x1), (3, .int x3)] [] 11 (X0_rankOf_L11 x0 x1 x3) (FLoop (FRet injI) 11 (fun (t : Int32) => [(0, .ref x0), (1, .ref x1), (3, .int t)])) := by
  unfold X0_rankOf_L11
  refine J_iload_n dX0_rankOf_11 rfl 2 rfl ?_
  refine J_aload_n dX0_rankOf_12 rfl 1 rfl ?_
  refine J_getI dX0_rankOf_13 fl_X0_196 rfl (fun v2 => ?_)
  refine J_icmp_ge (tgt := 76) dX0_rankOf_16 rfl ?_ ?_
  · refine J_inl ?_
    refine J_sub [0, 1] rfl ?_
    exact j_X0_rankOf_b76 D dA x0 x1
  refine J_iconst (v := 0) dX0_rankOf_19 (by decide) ?_
  refine J_istore (env' := [(4, .int 0), (0, .ref x0), (1, .ref x1), (3, .int x3)]) dX0_rankOf_20 (by decide) rfl ?_
  refine J_loop (he := fun (t : Int32) => [(0, .ref x0), (1, .ref x1), (3, .int x3), (4, .int t)]) [1, 2, 3, 0] rfl (fun t => ?_)
  exact j_X0_rankOf_L22 D dA x0 x1 x3 t
noncomputable def f_X0_rankOf (x0 : Nat) (x1 : Nat) (x2 : Int32) : JM Mem Int32 :=
  jb (jgetA 0 13 x0) fun v1 =>
  jb (jcall 3 x1 (f_X4_parts x1 x2 v1)) fun _ =>
  jloop (fun (t : Int32) => X0_rankOf_L11 x0 x1 t) 0
theorem j_X0_rankOf (D : va_G) (dA : Nat → ClassId) (x0 : Nat) (x1 : Nat) (x2 : Int32) : J (PM D dA false) Y_X0_rankOf [(0, .ref x0), (1, .ref x1), (2, .int x2)] [] 0 (f_X0_rankOf x0 x1 x2) (FRet injI) := by
  unfold f_X0_rankOf
  refine J_aload_n dX0_rankOf_0 rfl 1 rfl ?_
  refine J_iload_n dX0_rankOf_1 rfl 2 rfl ?_
  refine J_aload_n dX0_rankOf_2 rfl 0 rfl ?_
  refine J_getA dX0_rankOf_3 fl_X0_56 rfl (fun v1 => ?_)
  refine J_callVV (c := 3) (as := [.int x2, .ref v1]) dX0_rankOf_6 (by decide) rfl (Nat.le_of_ble_eq_true rfl) (cw_X4_parts _ (by decide)) q1044 q1045 q1046 q1047 np_X4_parts (i_X4_parts x1 x2 v1) jad_id rfl ?_
  refine J_iconst (v := 0) dX0_rankOf_9 (by decide) ?_
  refine J_istore_n (env' := [(3, .int 0), (0, .ref x0), (1, .ref x1), (2, .int x2)]) dX0_rankOf_10 rfl (by decide) rfl ?_
  refine J_loop (he := fun (t : Int32) => [(0, .ref x0), (1, .ref x1), (3, .int t)]) [1, 2, 0] rfl (fun t => ?_)
  exact j_X0_rankOf_L11 D dA x0 x1 t
theorem i_X0_rankOf (x0 : Nat) (x1 : Nat) (x2 : Int32) : Impl (ws_ yX0_rankOf cX0_rankOf 5 (some .int)) yX0_rankOf 4 false 0 0 [.ref x0, .ref x1, .int x2] (f_X0_rankOf x0 x1 x2) injI := impl_of (plainFor_of_name (by decide)) (Nat.le_of_ble_eq_true rfl) (fun D dA => j_X0_rankOf D dA x0 x1 x2)
theorem cw_X0_rankOf (Y : JY) (h : 5 ≤ Y.2.2.2.1) : JCw Y (ws_ yX0_rankOf cX0_rankOf 5 (some .int)) yX0_rankOf cX0_rankOf 5 (some .int) 4 := ⟨h, by decide, lw_meth q1186, q187, by decide, by decide⟩
theorem np_X0_rankOf : JNp yX0_rankOf.desc 2 := by decide +kernel
-- BracketRoom.centralizer(I)I
abbrev Y_X0_centralizer : JY := (cX0_centralizer, yX0_centralizer.cls, 2, 5, yX0_centralizer.name, (some .int), [])
noncomputable def f_X0_centralizer (x0 : Nat) (x1 : Int32) : JM Mem Int32 :=
  jb (jcall 0 x0 (f_X0_isVector x0 ((x1 : Int32).toInt64))) fun v1 =>
  if v1 = 0 then
    jb (jcall 0 x0 (f_X0_none x0 2)) fun v2 =>
    jp v2
  else
  jb (jgetA 0 2 x0) fun v3 =>
  jb (jgetI 3 2 v3) fun v4 =>
  jb (jgetA 0 2 x0) fun v5 =>
  jb (jcall 0 x0 (f_X0_rankOf x0 v5 x1)) fun v6 =>
  jb (jcall 0 x0 (f_X0_gives x0 (v4 - v6))) fun v7 =>
  jp v7
theorem j_X0_centralizer (D : va_G) (dA : Nat → ClassId) (x0 : Nat) (x1 : Int32) : J (PM D dA false) Y_X0_centralizer [(0, .ref x0), (1, .int x1)] [] 0 (f_X0_centralizer x0 x1) (FRet injI) := by
  unfold f_X0_centralizer
  refine J_aload_n dX0_centralizer_0 rfl 0 rfl ?_
  refine J_iload_n dX0_centralizer_1 rfl 1 rfl ?_
  refine J_i2l dX0_centralizer_2 ?_
  refine J_callVI (c := 0) (as := [.long ((x1 : Int32).toInt64)]) dX0_centralizer_3 (by decide) rfl (Nat.le_of_ble_eq_true rfl) (cw_X0_isVector _ (by decide)) q1036 q1038 qs14 q1039 np_X0_isVector (i_X0_isVector x0 ((x1 : Int32).toInt64)) jad_id rfl (fun v1 => ?_)
  refine J_if_eq (tgt := 33) dX0_centralizer_6 rfl ?_ ?_
  · refine J_aload_n dX0_centralizer_33 rfl 0 rfl ?_
    refine J_iconst (v := 2) dX0_centralizer_34 (by decide) ?_
    refine J_callVI (c := 0) (as := [.int 2]) dX0_centralizer_35 (by decide) rfl (Nat.le_of_ble_eq_true rfl) (cw_X0_none _ (by decide)) q729 q731 qs3 q732 np_X0_none (i_X0_none x0 2) jad_id rfl (fun v2 => ?_)
    exact J_ireturn dX0_centralizer_38 rfl
  refine J_aload_n dX0_centralizer_9 rfl 0 rfl ?_
  refine J_aload_n dX0_centralizer_10 rfl 0 rfl ?_
  refine J_getA dX0_centralizer_11 fl_X0_30 rfl (fun v3 => ?_)
  refine J_getI dX0_centralizer_14 fl_X0_196 rfl (fun v4 => ?_)
  refine J_aload_n dX0_centralizer_17 rfl 0 rfl ?_
  refine J_aload_n dX0_centralizer_18 rfl 0 rfl ?_
  refine J_getA dX0_centralizer_19 fl_X0_30 rfl (fun v5 => ?_)
  refine J_iload_n dX0_centralizer_22 rfl 1 rfl ?_
  refine J_callVI (c := 0) (as := [.ref v5, .int x1]) dX0_centralizer_23 (by decide) rfl (Nat.le_of_ble_eq_true rfl) (cw_X0_rankOf _ (by decide)) q1183 q1185 qs27 q1186 np_X0_rankOf (i_X0_rankOf x0 v5 x1) jad_id rfl (fun v6 => ?_)
  refine J_isub dX0_centralizer_26 ?_
  refine J_callVI (c := 0) (as := [.int (v4 - v6)]) dX0_centralizer_27 (by decide) rfl (Nat.le_of_ble_eq_true rfl) (cw_X0_gives _ (by decide)) q944 q946 qs9 q947 np_X0_gives (i_X0_gives x0 (v4 - v6)) jad_id rfl (fun v7 => ?_)
  refine J_goto (tgt := 38) dX0_centralizer_30 rfl ?_
  exact J_ireturn dX0_centralizer_38 rfl
theorem i_X0_centralizer (x0 : Nat) (x1 : Int32) : Impl (ws_ yX0_centralizer cX0_centralizer 2 (some .int)) yX0_centralizer 5 false 0 0 [.ref x0, .int x1] (f_X0_centralizer x0 x1) injI := impl_of (plainFor_of_name (by decide)) (Nat.le_of_ble_eq_true rfl) (fun D dA => j_X0_centralizer D dA x0 x1)
theorem cw_X0_centralizer (Y : JY) (h : 6 ≤ Y.2.2.2.1) : JCw Y (ws_ yX0_centralizer cX0_centralizer 2 (some .int)) yX0_centralizer cX0_centralizer 2 (some .int) 5 := ⟨h, by decide, lw_meth q1182, q187, by decide, by decide⟩
theorem np_X0_centralizer : JNp yX0_centralizer.desc 1 := by decide +kernel
-- BracketRoom.rank(I)I
abbrev Y_X0_rank : JY := (cX0_rank, yX0_rank.cls, 2, 5, yX0_rank.name, (some .int), [])
noncomputable def f_X0_rank (x0 : Nat) (x1 : Int32) : JM Mem Int32 :=
  jb (jcall 0 x0 (f_X0_isVector x0 ((x1 : Int32).toInt64))) fun v1 =>
  if v1 = 0 then
    jb (jcall 0 x0 (f_X0_none x0 2)) fun v2 =>
    jp v2
  else
  jb (jgetA 0 2 x0) fun v3 =>
  jb (jcall 0 x0 (f_X0_rankOf x0 v3 x1)) fun v4 =>
  jb (jcall 0 x0 (f_X0_gives x0 v4)) fun v5 =>
  jp v5
theorem j_X0_rank (D : va_G) (dA : Nat → ClassId) (x0 : Nat) (x1 : Int32) : J (PM D dA false) Y_X0_rank [(0, .ref x0), (1, .int x1)] [] 0 (f_X0_rank x0 x1) (FRet injI) := by
  unfold f_X0_rank
  refine J_aload_n dX0_rank_0 rfl 0 rfl ?_
  refine J_iload_n dX0_rank_1 rfl 1 rfl ?_
  refine J_i2l dX0_rank_2 ?_
  refine J_callVI (c := 0) (as := [.long ((x1 : Int32).toInt64)]) dX0_rank_3 (by decide) rfl (Nat.le_of_ble_eq_true rfl) (cw_X0_isVector _ (by decide)) q1036 q1038 qs14 q1039 np_X0_isVector (i_X0_isVector x0 ((x1 : Int32).toInt64)) jad_id rfl (fun v1 => ?_)
  refine J_if_eq (tgt := 25) dX0_rank_6 rfl ?_ ?_
  · refine J_aload_n dX0_rank_25 rfl 0 rfl ?_
    refine J_iconst (v := 2) dX0_rank_26 (by decide) ?_
    refine J_callVI (c := 0) (as := [.int 2]) dX0_rank_27 (by decide) rfl (Nat.le_of_ble_eq_true rfl) (cw_X0_none _ (by decide)) q729 q731 qs3 q732 np_X0_none (i_X0_none x0 2) jad_id rfl (fun v2 => ?_)
    exact J_ireturn dX0_rank_30 rfl
  refine J_aload_n dX0_rank_9 rfl 0 rfl ?_
  refine J_aload_n dX0_rank_10 rfl 0 rfl ?_
  refine J_aload_n dX0_rank_11 rfl 0 rfl ?_
  refine J_getA dX0_rank_12 fl_X0_30 rfl (fun v3 => ?_)
  refine J_iload_n dX0_rank_15 rfl 1 rfl ?_
  refine J_callVI (c := 0) (as := [.ref v3, .int x1]) dX0_rank_16 (by decide) rfl (Nat.le_of_ble_eq_true rfl) (cw_X0_rankOf _ (by decide)) q1183 q1185 qs27 q1186 np_X0_rankOf (i_X0_rankOf x0 v3 x1) jad_id rfl (fun v4 => ?_)
  refine J_callVI (c := 0) (as := [.int v4]) dX0_rank_19 (by decide) rfl (Nat.le_of_ble_eq_true rfl) (cw_X0_gives _ (by decide)) q944 q946 qs9 q947 np_X0_gives (i_X0_gives x0 v4) jad_id rfl (fun v5 => ?_)
  refine J_goto (tgt := 30) dX0_rank_22 rfl ?_
  exact J_ireturn dX0_rank_30 rfl
theorem i_X0_rank (x0 : Nat) (x1 : Int32) : Impl (ws_ yX0_rank cX0_rank 2 (some .int)) yX0_rank 5 false 0 0 [.ref x0, .int x1] (f_X0_rank x0 x1) injI := impl_of (plainFor_of_name (by decide)) (Nat.le_of_ble_eq_true rfl) (fun D dA => j_X0_rank D dA x0 x1)
theorem cw_X0_rank (Y : JY) (h : 6 ≤ Y.2.2.2.1) : JCw Y (ws_ yX0_rank cX0_rank 2 (some .int)) yX0_rank cX0_rank 2 (some .int) 5 := ⟨h, by decide, lw_meth q1190, q187, by decide, by decide⟩
theorem np_X0_rank : JNp yX0_rank.desc 1 := by decide +kernel
-- BracketRoom.power(I)I
abbrev Y_X0_power : JY := (cX0_power, yX0_power.cls, 6, 4, yX0_power.name, (some .int), [])
noncomputable def X0_power_b199 (x0 : Nat) : JM Mem Int32 :=
  jb (jcall 0 x0 (f_X0_none x0 8)) fun v10 =>
  jp v10
theorem j_X0_power_b199 (D : va_G) (dA : Nat → ClassId) (x0 : Nat) : J (PM D dA false) Y_X0_power [(0, .ref x0)] [] 199 (X0_power_b199 x0) (FRet injI) := by
  unfold X0_power_b199
  refine J_aload_n dX0_power_199 rfl 0 rfl ?_
  refine J_bipush (v := 8) dX0_power_200 (by decide) ?_
  refine J_callVI (c := 0) (as := [.int 8]) dX0_power_202 (by decide) rfl (Nat.le_of_ble_eq_true rfl) (cw_X0_none _ (by decide)) q729 q731 qs3 q732 np_X0_none (i_X0_none x0 8) jad_id rfl (fun v10 => ?_)
  exact J_ireturn dX0_power_205 rfl
noncomputable def X0_power_b187 (x0 : Nat) (x2 : Int32) : JM Mem Int32 :=
  jb (jcall 0 x0 (f_X0_gives x0 x2)) fun v13 =>
  jp v13
theorem j_X0_power_b187 (D : va_G) (dA : Nat → ClassId) (x0 : Nat) (x2 : Int32) : J (PM D dA false) Y_X0_power [(0, .ref x0), (2, .int x2)] [] 187 (X0_power_b187 x0 x2) (FRet injI) := by
  unfold X0_power_b187
  refine J_aload_n dX0_power_187 rfl 0 rfl ?_
  refine J_iload_n dX0_power_188 rfl 1 rfl ?_
  refine J_callVI (c := 0) (as := [.int x2]) dX0_power_189 (by decide) rfl (Nat.le_of_ble_eq_true rfl) (cw_X0_gives _ (by decide)) q944 q946 qs9 q947 np_X0_gives (i_X0_gives x0 x2) jad_id rfl (fun v13 => ?_)
  exact J_ireturn dX0_power_192 rfl
noncomputable def X0_power_b183 (x0 : Nat) (x2 : Int32) (x3 : Int32) : JM Mem (Int32 ⊕ (Int32)) :=
  if x3 = 0 then
    jcont (x2 + 1)
  else
    jinl (X0_power_b187 x0 x2)
theorem j_X0_power_b183 (D : va_G) (dA : Nat → ClassId) (x0 : Nat) (x2 : Int32) (x3 : Int32) : J (PM D dA false) Y_X0_power [(0, .ref x0), (2, .int x2), (3, .int x3)] [] 183 (X0_power_b183 x0 x2 x3) (FLoop (FRet injI) 69 (fun (t : Int32) => [(0, .ref x0), (2, .int t)])) := by
  unfold X0_power_b183
  refine J_iload_n dX0_power_183 rfl 2 rfl ?_
  refine J_if_eq (tgt := 193) dX0_power_184 rfl ?_ ?_
  · refine J_iinc (v := x2 + 1) (env' := [(2, .int (x2 + 1)), (0, .ref x0), (3, .int x3)]) dX0_power_193 1 rfl rfl (by decide) rfl ?_
    refine J_goto (tgt := 69) dX0_power_196 rfl ?_
    exact J_cont [1, 0] rfl
  refine J_inl ?_
  refine J_sub [0, 1] rfl ?_
  exact j_X0_power_b187 D dA x0 x2
noncomputable def X0_power_b177 (x0 : Nat) (x2 : Int32) (x3 : Int32) (x4 : Int32) : JM Mem ((Int32 ⊕ (Int32)) ⊕ (Int32 × Int32)) :=
  jcont (x3, x4 + 1)
theorem j_X0_power_b177 (D : va_G) (dA : Nat → ClassId) (x0 : Nat) (x2 : Int32) (x3 : Int32) (x4 : Int32) : J (PM D dA false) Y_X0_power [(0, .ref x0), (2, .int x2), (3, .int x3), (4, .int x4)] [] 177 (X0_power_b177 x0 x2 x3 x4) (FLoop (FLoop (FRet injI) 69 (fun (t : Int32) => [(0, .ref x0), (2, .int t)])) 85 (fun (t : Int32 × Int32) => [(0, .ref x0), (2, .int x2), (3, .int t.1), (4, .int t.2)])) := by
  unfold X0_power_b177
  refine J_iinc (v := x4 + 1) (env' := [(4, .int (x4 + 1)), (0, .ref x0), (2, .int x2), (3, .int x3)]) dX0_power_177 3 rfl rfl (by decide) rfl ?_
  refine J_goto (tgt := 85) dX0_power_180 rfl ?_
  exact J_cont [1, 2, 3, 0] rfl
noncomputable def X0_power_b170 (x0 : Nat) (x2 : Int32) (x4 : Int32) (x5 : Int32) (s0 : Int32) : JM Mem (((Int32 ⊕ (Int32)) ⊕ (Int32 × Int32)) ⊕ (Int32 × Int32)) :=
  jcont (s0, x5 + 1)
theorem j_X0_power_b170 (D : va_G) (dA : Nat → ClassId) (x0 : Nat) (x2 : Int32) (x4 : Int32) (x5 : Int32) (s0 : Int32) : J (PM D dA false) Y_X0_power [(0, .ref x0), (2, .int x2), (4, .int x4), (5, .int x5)] [.int s0] 170 (X0_power_b170 x0 x2 x4 x5 s0) (FLoop (FLoop (FLoop (FRet injI) 69 (fun (t : Int32) => [(0, .ref x0), (2, .int t)])) 85 (fun (t : Int32 × Int32) => [(0, .ref x0), (2, .int x2), (3, .int t.1), (4, .int t.2)])) 139 (fun (t : Int32 × Int32) => [(0, .ref x0), (2, .int x2), (3, .int t.1), (4, .int x4), (5, .int t.2)])) := by
  unfold X0_power_b170
  refine J_istore_n (env' := [(3, .int s0), (0, .ref x0), (2, .int x2), (4, .int x4), (5, .int x5)]) dX0_power_170 rfl (by decide) rfl ?_
  refine J_iinc (v := x5 + 1) (env' := [(5, .int (x5 + 1)), (3, .int s0), (0, .ref x0), (2, .int x2), (4, .int x4)]) dX0_power_171 4 rfl rfl (by decide) rfl ?_
  refine J_goto (tgt := 139) dX0_power_174 rfl ?_
  exact J_cont [2, 3, 1, 4, 0] rfl
noncomputable def X0_power_b169 (x0 : Nat) (x2 : Int32) (x4 : Int32) (x5 : Int32) : JM Mem (((Int32 ⊕ (Int32)) ⊕ (Int32 × Int32)) ⊕ (Int32 × Int32)) :=
  X0_power_b170 x0 x2 x4 x5 0
theorem j_X0_power_b169 (D : va_G) (dA : Nat → ClassId) (x0 : Nat) (x2 : Int32) (x4 : Int32) (x5 : Int32) : J (PM D dA false) Y_X0_power [(0, .ref x0), (2, .int x2), (4, .int x4), (5, .int x5)] [] 169 (X0_power_b169 x0 x2 x4 x5) (FLoop (FLoop (FLoop (FRet injI) 69 (fun (t : Int32) => [(0, .ref x0), (2, .int t)])) 85 (fun (t : Int32 × Int32) => [(0, .ref x0), (2, .int x2), (3, .int t.1), (4, .int t.2)])) 139 (fun (t : Int32 × Int32) => [(0, .ref x0), (2, .int x2), (3, .int t.1), (4, .int x4), (5, .int t.2)])) := by
  unfold X0_power_b169
  refine J_iconst (v := 0) dX0_power_169 (by decide) ?_
  refine J_sub [0, 1, 2, 3] rfl ?_
  exact j_X0_power_b170 D dA x0 x2 x4 x5 0
noncomputable def X0_power_L139 (x0 : Nat) (x2 : Int32) (x4 : Int32) (x3 : Int32) (x5 : Int32) : JM Mem (((Int32 ⊕ (Int32)) ⊕ (Int32 × Int32)) ⊕ (Int32 × Int32)) :=
  jb (jgetA 0 2 x0) fun v22 =>
  jb (jgetI 3 2 v22) fun v23 =>
  if v23 ≤ x5 then
    jinl (X0_power_b177 x0 x2 x3 x4)
  else
  if x3 = 0 then
    X0_power_b169 x0 x2 x4 x5
  else
  jb (jgetA 0 15 x0) fun v24 =>
  jb (jald mI 0 v24 x5) fun v25 =>
  if v25 = 0 then
    X0_power_b170 x0 x2 x4 x5 1
  else
    X0_power_b169 x0 x2 x4 x5
theorem j_X0_power_L139 (D : va_G) (dA : Nat → ClassId) (x0 : Nat) (x2 : Int32) (x4 : Int32) (x3 : Int32) (x5 : Int32) : J (PM D dA false) Y_X0_power [(0, .ref x0), (2, .int x2), (3, .int x3), (4, .int x4), (5, .int x5)] [] 139 (X0_power_L139 x0 x2 x4 x3 x5) (FLoop (FLoop (FLoop (FRet injI) 69 (fun (t : Int32) => [(0, .ref x0), (2, .int t)])) 85 (fun (t : Int32 × Int32) => [(0, .ref x0), (2, .int x2), (3, .int t.1), (4, .int t.2)])) 139 (fun (t : Int32 × Int32) => [(0, .ref x0), (2, .int x2), (3, .int t.1), (4, .int x4), (5, .int t.2)])) := by
  unfold X0_power_L139
  refine J_iload dX0_power_139 4 rfl ?_
  refine J_aload_n dX0_power_141 rfl 0 rfl ?_
  refine J_getA dX0_power_142 fl_X0_30 rfl (fun v22 => ?_)
  refine J_getI dX0_power_145 fl_X0_196 rfl (fun v23 => ?_)
  refine J_icmp_ge (tgt := 177) dX0_power_148 rfl ?_ ?_
  · refine J_inl ?_
    refine J_sub [0, 1, 2, 3] rfl ?_
    exact j_X0_power_b177 D dA x0 x2 x3 x4
  refine J_iload_n dX0_power_151 rfl 2 rfl ?_
  refine J_if_eq (tgt := 169) dX0_power_152 rfl ?_ ?_
  · refine J_sub [0, 1, 3, 4] rfl ?_
    exact j_X0_power_b169 D dA x0 x2 x4 x5
  refine J_aload_n dX0_power_155 rfl 0 rfl ?_
  refine J_getA dX0_power_156 fl_X0_63 rfl (fun v24 => ?_)
  refine J_iload dX0_power_159 4 rfl ?_
  refine J_iald dX0_power_161 (fun v25 => ?_)
  refine J_if_ne (tgt := 169) dX0_power_162 rfl ?_ ?_
  · refine J_sub [0, 1, 3, 4] rfl ?_
    exact j_X0_power_b169 D dA x0 x2 x4 x5
  refine J_iconst (v := 1) dX0_power_165 (by decide) ?_
  refine J_goto (tgt := 170) dX0_power_166 rfl ?_
  refine J_sub [0, 1, 3, 4] rfl ?_
  exact j_X0_power_b170 D dA x0 x2 x4 x5 1
noncomputable def X0_power_L85 (x0 : Nat) (x2 : Int32) (x3 : Int32) (x4 : Int32) : JM Mem ((Int32 ⊕ (Int32)) ⊕ (Int32 × Int32)) :=
  jb (jgetA 0 2 x0) fun v11 =>
  jb (jgetI 3 2 v11) fun v12 =>
  if v12 ≤ x4 then
    jinl (X0_power_b183 x0 x2 x3)
  else
  jb (jgetA 0 2 x0) fun v14 =>
  jb (jgetA 0 13 x0) fun v15 =>
  jb (jgetA 0 23 x0) fun v16 =>
  jb (jaldA 5 v16 x4) fun v17 =>
  jb (jgetA 0 15 x0) fun v18 =>
  jb (jcall 3 v14 (f_X4_bracket v14 v15 v17 v18)) fun _ =>
  jb (jgetA 0 15 x0) fun v19 =>
  jb (jgetA 0 23 x0) fun v20 =>
  jb (jaldA 5 v20 x4) fun v21 =>
  jb (jcopy 0 v19 0 v21 0 5) fun _ =>
  jloop (fun (t : Int32 × Int32) => X0_power_L139 x0 x2 x4 t.1 t.2) (x3, 0)
theorem j_X0_power_L85 (D : va_G) (dA : Nat → ClassId) (x0 : Nat) (x2 : Int32) (x3 : Int32) (x4 : Int32) : J (PM D dA false) Y_X0_power [(0, .ref x0), (2, .int x2), (3, .int x3), (4, .int x4)] [] 85 (X0_power_L85 x0 x2 x3 x4) (FLoop (FLoop (FRet injI) 69 (fun (t : Int32) => [(0, .ref x0), (2, .int t)])) 85 (fun (t : Int32 × Int32) => [(0, .ref x0), (2, .int x2), (3, .int t.1), (4, .int t.2)])) := by
  unfold X0_power_L85
  refine J_iload dX0_power_85 3 rfl ?_
  refine J_aload_n dX0_power_87 rfl 0 rfl ?_
  refine J_getA dX0_power_88 fl_X0_30 rfl (fun v11 => ?_)
  refine J_getI dX0_power_91 fl_X0_196 rfl (fun v12 => ?_)
  refine J_icmp_ge (tgt := 183) dX0_power_94 rfl ?_ ?_
  · refine J_inl ?_
    refine J_sub [0, 1, 2] rfl ?_
    exact j_X0_power_b183 D dA x0 x2 x3
  refine J_aload_n dX0_power_97 rfl 0 rfl ?_
  refine J_getA dX0_power_98 fl_X0_30 rfl (fun v14 => ?_)
  refine J_aload_n dX0_power_101 rfl 0 rfl ?_
  refine J_getA dX0_power_102 fl_X0_56 rfl (fun v15 => ?_)
  refine J_aload_n dX0_power_105 rfl 0 rfl ?_
  refine J_getA dX0_power_106 fl_X0_93 rfl (fun v16 => ?_)
  refine J_iload dX0_power_109 3 rfl ?_
  refine J_aald dX0_power_111 rfl (by decide) (fun v17 => ?_)
  refine J_aload_n dX0_power_112 rfl 0 rfl ?_
  refine J_getA dX0_power_113 fl_X0_63 rfl (fun v18 => ?_)
  refine J_callVV (c := 3) (as := [.ref v15, .ref v17, .ref v18]) dX0_power_116 (by decide) rfl (Nat.le_of_ble_eq_true rfl) (cw_X4_bracket _ (by decide)) q1048 q1049 q1050 q1051 np_X4_bracket (i_X4_bracket v14 v15 v17 v18) jad_id rfl ?_
  refine J_aload_n dX0_power_119 rfl 0 rfl ?_
  refine J_getA dX0_power_120 fl_X0_63 rfl (fun v19 => ?_)
  refine J_iconst (v := 0) dX0_power_123 (by decide) ?_
  refine J_aload_n dX0_power_124 rfl 0 rfl ?_
  refine J_getA dX0_power_125 fl_X0_93 rfl (fun v20 => ?_)
  refine J_iload dX0_power_128 3 rfl ?_
  refine J_aald dX0_power_130 rfl (by decide) (fun v21 => ?_)
  refine J_iconst (v := 0) dX0_power_131 (by decide) ?_
  refine J_iconst (v := 5) dX0_power_132 (by decide) ?_
  refine J_copy (t := 0) dX0_power_133 (by decide) (Nat.le_of_ble_eq_true rfl) (by decide) q743 q745 q744 q204 ?_
  refine J_iconst (v := 0) dX0_power_136 (by decide) ?_
  refine J_istore (env' := [(5, .int 0), (0, .ref x0), (2, .int x2), (3, .int x3), (4, .int x4)]) dX0_power_137 (by decide) rfl ?_
  refine J_loop (he := fun (t : Int32 × Int32) => [(0, .ref x0), (2, .int x2), (3, .int t.1), (4, .int x4), (5, .int t.2)]) [1, 2, 3, 4, 0] rfl (fun t => ?_)
  exact j_X0_power_L139 D dA x0 x2 x4 t.1 t.2
noncomputable def X0_power_L69 (x0 : Nat) (x2 : Int32) : JM Mem (Int32 ⊕ (Int32)) :=
  jb (jgetA 0 2 x0) fun v8 =>
  jb (jgetI 3 2 v8) fun v9 =>
  if v9 < x2 then
    jinl (X0_power_b199 x0)
  else
    jloop (fun (t : Int32 × Int32) => X0_power_L85 x0 x2 t.1 t.2) (1, 0)
theorem j_X0_power_L69 (D : va_G) (dA : Nat → ClassId) (x0 : Nat) (x2 : Int32) : J (PM D dA false) Y_X0_power [(0, .ref x0), (2, .int x2)] [] 69 (X0_power_L69 x0 x2) (FLoop (FRet injI) 69 (fun (t : Int32) => [(0, .ref x0), (2, .int t)])) := by
  unfold X0_power_L69
  refine J_iload_n dX0_power_69 rfl 1 rfl ?_
  refine J_aload_n dX0_power_70 rfl 0 rfl ?_
  refine J_getA dX0_power_71 fl_X0_30 rfl (fun v8 => ?_)
  refine J_getI dX0_power_74 fl_X0_196 rfl (fun v9 => ?_)
  refine J_icmp_gt (tgt := 199) dX0_power_77 rfl ?_ ?_
  · refine J_inl ?_
    refine J_sub [0] rfl ?_
    exact j_X0_power_b199 D dA x0
  refine J_iconst (v := 1) dX0_power_80 (by decide) ?_
  refine J_istore_n (env' := [(3, .int 1), (0, .ref x0), (2, .int x2)]) dX0_power_81 rfl (by decide) rfl ?_
  refine J_iconst (v := 0) dX0_power_82 (by decide) ?_
  refine J_istore (env' := [(4, .int 0), (3, .int 1), (0, .ref x0), (2, .int x2)]) dX0_power_83 (by decide) rfl ?_
  refine J_loop (he := fun (t : Int32 × Int32) => [(0, .ref x0), (2, .int x2), (3, .int t.1), (4, .int t.2)]) [2, 3, 1, 0] rfl (fun t => ?_)
  exact j_X0_power_L85 D dA x0 x2 t.1 t.2
noncomputable def X0_power_b67 (x0 : Nat) : JM Mem Int32 :=
  jloop (fun (t : Int32) => X0_power_L69 x0 t) 1
theorem j_X0_power_b67 (D : va_G) (dA : Nat → ClassId) (x0 : Nat) : J (PM D dA false) Y_X0_power [(0, .ref x0)] [] 67 (X0_power_b67 x0) (FRet injI) := by
  unfold X0_power_b67
  refine J_iconst (v := 1) dX0_power_67 (by decide) ?_
  refine J_istore_n (env' := [(2, .int 1), (0, .ref x0)]) dX0_power_68 rfl (by decide) rfl ?_
  refine J_loop (he := fun (t : Int32) => [(0, .ref x0), (2, .int t)]) [1, 0] rfl (fun t => ?_)
  exact j_X0_power_L69 D dA x0 t
noncomputable def X0_power_L41 (x0 : Nat) (x2 : Int32) : JM Mem (Int32 ⊕ (Int32)) :=
  jb (jgetA 0 2 x0) fun v6 =>
  jb (jgetI 3 2 v6) fun v7 =>
  if v7 ≤ x2 then
    jinl (X0_power_b67 x0)
  else
  jb (jgetA 0 23 x0) fun v26 =>
  jb (jaldA 5 v26 x2) fun v27 =>
  jb (jast_i v27 x2 1) fun _ =>
  jcont (x2 + 1)
theorem j_X0_power_L41 (D : va_G) (dA : Nat → ClassId) (x0 : Nat) (x2 : Int32) : J (PM D dA false) Y_X0_power [(0, .ref x0), (2, .int x2)] [] 41 (X0_power_L41 x0 x2) (FLoop (FRet injI) 41 (fun (t : Int32) => [(0, .ref x0), (2, .int t)])) := by
  unfold X0_power_L41
  refine J_iload_n dX0_power_41 rfl 1 rfl ?_
  refine J_aload_n dX0_power_42 rfl 0 rfl ?_
  refine J_getA dX0_power_43 fl_X0_30 rfl (fun v6 => ?_)
  refine J_getI dX0_power_46 fl_X0_196 rfl (fun v7 => ?_)
  refine J_icmp_ge (tgt := 67) dX0_power_49 rfl ?_ ?_
  · refine J_inl ?_
    refine J_sub [0] rfl ?_
    exact j_X0_power_b67 D dA x0
  refine J_aload_n dX0_power_52 rfl 0 rfl ?_
  refine J_getA dX0_power_53 fl_X0_93 rfl (fun v26 => ?_)
  refine J_iload_n dX0_power_56 rfl 1 rfl ?_
  refine J_aald dX0_power_57 rfl (by decide) (fun v27 => ?_)
  refine J_iload_n dX0_power_58 rfl 1 rfl ?_
  refine J_iconst (v := 1) dX0_power_59 (by decide) ?_
  refine J_iast dX0_power_60 ?_
  refine J_iinc (v := x2 + 1) (env' := [(2, .int (x2 + 1)), (0, .ref x0)]) dX0_power_61 1 rfl rfl (by decide) rfl ?_
  refine J_goto (tgt := 41) dX0_power_64 rfl ?_
  exact J_cont [1, 0] rfl
noncomputable def f_X0_power (x0 : Nat) (x1 : Int32) : JM Mem Int32 :=
  jb (jcall 0 x0 (f_X0_isVector x0 ((x1 : Int32).toInt64))) fun v1 =>
  if v1 = 0 then
    jb (jcall 0 x0 (f_X0_none x0 2)) fun v28 =>
    jp v28
  else
  jb (jgetA 0 2 x0) fun v2 =>
  jb (jgetA 0 13 x0) fun v3 =>
  jb (jcall 3 v2 (f_X4_parts v2 x1 v3)) fun _ =>
  jb (jgetA 0 2 x0) fun v4 =>
  jb (jgetI 3 2 v4) fun v5 =>
  jb (jcall 0 x0 (f_X0_clearRows x0 v5 5)) fun _ =>
  jloop (fun (t : Int32) => X0_power_L41 x0 t) 0
theorem j_X0_power (D : va_G) (dA : Nat → ClassId) (x0 : Nat) (x1 : Int32) : J (PM D dA false) Y_X0_power [(0, .ref x0), (1, .int x1)] [] 0 (f_X0_power x0 x1) (FRet injI) := by
  unfold f_X0_power
  refine J_aload_n dX0_power_0 rfl 0 rfl ?_
  refine J_iload_n dX0_power_1 rfl 1 rfl ?_
  refine J_i2l dX0_power_2 ?_
  refine J_callVI (c := 0) (as := [.long ((x1 : Int32).toInt64)]) dX0_power_3 (by decide) rfl (Nat.le_of_ble_eq_true rfl) (cw_X0_isVector _ (by decide)) q1036 q1038 qs14 q1039 np_X0_isVector (i_X0_isVector x0 ((x1 : Int32).toInt64)) jad_id rfl (fun v1 => ?_)
  refine J_if_ne (tgt := 15) dX0_power_6 rfl ?_ ?_
  · refine J_aload_n dX0_power_15 rfl 0 rfl ?_
    refine J_getA dX0_power_16 fl_X0_30 rfl (fun v2 => ?_)
    refine J_iload_n dX0_power_19 rfl 1 rfl ?_
    refine J_aload_n dX0_power_20 rfl 0 rfl ?_
    refine J_getA dX0_power_21 fl_X0_56 rfl (fun v3 => ?_)
    refine J_callVV (c := 3) (as := [.int x1, .ref v3]) dX0_power_24 (by decide) rfl (Nat.le_of_ble_eq_true rfl) (cw_X4_parts _ (by decide)) q1044 q1045 q1046 q1047 np_X4_parts (i_X4_parts v2 x1 v3) jad_id rfl ?_
    refine J_aload_n dX0_power_27 rfl 0 rfl ?_
    refine J_aload_n dX0_power_28 rfl 0 rfl ?_
    refine J_getA dX0_power_29 fl_X0_30 rfl (fun v4 => ?_)
    refine J_getI dX0_power_32 fl_X0_196 rfl (fun v5 => ?_)
    refine J_iconst (v := 5) dX0_power_35 (by decide) ?_
    refine J_callVV (c := 0) (as := [.int v5, .int 5]) dX0_power_36 (by decide) rfl (Nat.le_of_ble_eq_true rfl) (cw_X0_clearRows _ (by decide)) q1170 q1172 qs26 q1173 np_X0_clearRows (i_X0_clearRows x0 v5 5) jad_id rfl ?_
    refine J_iconst (v := 0) dX0_power_39 (by decide) ?_
    refine J_istore_n (env' := [(2, .int 0), (0, .ref x0), (1, .int x1)]) dX0_power_40 rfl (by decide) rfl ?_
    refine J_loop (he := fun (t : Int32) => [(0, .ref x0), (2, .int t)]) [1, 0] rfl (fun t => ?_)
    exact j_X0_power_L41 D dA x0 t
  refine J_aload_n dX0_power_9 rfl 0 rfl ?_
  refine J_iconst (v := 2) dX0_power_10 (by decide) ?_
  refine J_callVI (c := 0) (as := [.int 2]) dX0_power_11 (by decide) rfl (Nat.le_of_ble_eq_true rfl) (cw_X0_none _ (by decide)) q729 q731 qs3 q732 np_X0_none (i_X0_none x0 2) jad_id rfl (fun v28 => ?_)
  exact J_ireturn dX0_power_14 rfl
theorem i_X0_power (x0 : Nat) (x1 : Int32) : Impl (ws_ yX0_power cX0_power 6 (some .int)) yX0_power 4 false 0 0 [.ref x0, .int x1] (f_X0_power x0 x1) injI := impl_of (plainFor_of_name (by decide)) (Nat.le_of_ble_eq_true rfl) (fun D dA => j_X0_power D dA x0 x1)
theorem cw_X0_power (Y : JY) (h : 5 ≤ Y.2.2.2.1) : JCw Y (ws_ yX0_power cX0_power 6 (some .int)) yX0_power cX0_power 6 (some .int) 4 := ⟨h, by decide, lw_meth q1194, q187, by decide, by decide⟩
theorem np_X0_power : JNp yX0_power.desc 1 := by decide +kernel
-- BracketRoom.isPart(LBracketRoom$World;LBracketRoom$Span;)Z
abbrev Y_X0_isPart : JY := (cX0_isPart, yX0_isPart.cls, 5, 5, yX0_isPart.name, (some .boolean), [])
noncomputable def X0_isPart_b64 (x0 : Nat) (x1 : Nat) (x2 : Nat) (x3 : Int32) : JM Mem (Int32 ⊕ (Int32)) :=
  jcont (x3 + 1)
theorem j_X0_isPart_b64 (D : va_G) (dA : Nat → ClassId) (x0 : Nat) (x1 : Nat) (x2 : Nat) (x3 : Int32) : J (PM D dA false) Y_X0_isPart [(0, .ref x0), (1, .ref x1), (2, .ref x2), (3, .int x3)] [] 64 (X0_isPart_b64 x0 x1 x2 x3) (FLoop (FRet injI) 2 (fun (t : Int32) => [(0, .ref x0), (1, .ref x1), (2, .ref x2), (3, .int t)])) := by
  unfold X0_isPart_b64
  refine J_iinc (v := x3 + 1) (env' := [(3, .int (x3 + 1)), (0, .ref x0), (1, .ref x1), (2, .ref x2)]) dX0_isPart_64 3 rfl rfl (by decide) rfl ?_
  refine J_goto (tgt := 2) dX0_isPart_67 rfl ?_
  exact J_cont [1, 2, 3, 0] rfl
noncomputable def X0_isPart_L13 (x0 : Nat) (x1 : Nat) (x2 : Nat) (x3 : Int32) (x4 : Int32) : JM Mem ((Int32 ⊕ (Int32)) ⊕ (Int32)) :=
  if x3 ≤ x4 then
    jinl (X0_isPart_b64 x0 x1 x2 x3)
  else
  jb (jgetA 4 0 x2) fun v2 =>
  jb (jaldA 5 v2 x3) fun v3 =>
  jb (jgetA 4 0 x2) fun v4 =>
  jb (jaldA 5 v4 x4) fun v5 =>
  jb (jgetA 0 15 x0) fun v6 =>
  jb (jcall 3 x1 (f_X4_bracket x1 v3 v5 v6)) fun _ =>
  jb (jgetA 0 15 x0) fun v7 =>
  jb (jgetA 0 16 x0) fun v8 =>
  jb (jcall 4 x2 (f_X5_holds x2 x1 v7 v8)) fun v9 =>
  if v9 = 0 then
    jinl (jinl (jp 0))
  else
    jcont (x4 + 1)
theorem j_X0_isPart_L13 (D : va_G) (dA : Nat → ClassId) (x0 : Nat) (x1 : Nat) (x2 : Nat) (x3 : Int32) (x4 : Int32) : J (PM D dA false) Y_X0_isPart [(0, .ref x0), (1, .ref x1), (2, .ref x2), (3, .int x3), (4, .int x4)] [] 13 (X0_isPart_L13 x0 x1 x2 x3 x4) (FLoop (FLoop (FRet injI) 2 (fun (t : Int32) => [(0, .ref x0), (1, .ref x1), (2, .ref x2), (3, .int t)])) 13 (fun (t : Int32) => [(0, .ref x0), (1, .ref x1), (2, .ref x2), (3, .int x3), (4, .int t)])) := by
  unfold X0_isPart_L13
  refine J_iload dX0_isPart_13 4 rfl ?_
  refine J_iload_n dX0_isPart_15 rfl 3 rfl ?_
  refine J_icmp_ge (tgt := 64) dX0_isPart_16 rfl ?_ ?_
  · refine J_inl ?_
    refine J_sub [0, 1, 2, 3] rfl ?_
    exact j_X0_isPart_b64 D dA x0 x1 x2 x3
  refine J_aload_n dX0_isPart_19 rfl 1 rfl ?_
  refine J_aload_n dX0_isPart_20 rfl 2 rfl ?_
  refine J_getA dX0_isPart_21 fl_X0_305 rfl (fun v2 => ?_)
  refine J_iload_n dX0_isPart_24 rfl 3 rfl ?_
  refine J_aald dX0_isPart_25 rfl (by decide) (fun v3 => ?_)
  refine J_aload_n dX0_isPart_26 rfl 2 rfl ?_
  refine J_getA dX0_isPart_27 fl_X0_305 rfl (fun v4 => ?_)
  refine J_iload dX0_isPart_30 4 rfl ?_
  refine J_aald dX0_isPart_32 rfl (by decide) (fun v5 => ?_)
  refine J_aload_n dX0_isPart_33 rfl 0 rfl ?_
  refine J_getA dX0_isPart_34 fl_X0_63 rfl (fun v6 => ?_)
  refine J_callVV (c := 3) (as := [.ref v3, .ref v5, .ref v6]) dX0_isPart_37 (by decide) rfl (Nat.le_of_ble_eq_true rfl) (cw_X4_bracket _ (by decide)) q1048 q1049 q1050 q1051 np_X4_bracket (i_X4_bracket x1 v3 v5 v6) jad_id rfl ?_
  refine J_aload_n dX0_isPart_40 rfl 2 rfl ?_
  refine J_aload_n dX0_isPart_41 rfl 1 rfl ?_
  refine J_aload_n dX0_isPart_42 rfl 0 rfl ?_
  refine J_getA dX0_isPart_43 fl_X0_63 rfl (fun v7 => ?_)
  refine J_aload_n dX0_isPart_46 rfl 0 rfl ?_
  refine J_getA dX0_isPart_47 fl_X0_66 rfl (fun v8 => ?_)
  refine J_callVI (c := 4) (as := [.ref x1, .ref v7, .ref v8]) dX0_isPart_50 (by decide) rfl (Nat.le_of_ble_eq_true rfl) (cw_X5_holds _ (by decide)) q1225 q1226 q1227 q1228 np_X5_holds (i_X5_holds x2 x1 v7 v8) jad_id rfl (fun v9 => ?_)
  refine J_if_ne (tgt := 58) dX0_isPart_53 rfl ?_ ?_
  · refine J_iinc (v := x4 + 1) (env' := [(4, .int (x4 + 1)), (0, .ref x0), (1, .ref x1), (2, .ref x2), (3, .int x3)]) dX0_isPart_58 4 rfl rfl (by decide) rfl ?_
    refine J_goto (tgt := 13) dX0_isPart_61 rfl ?_
    exact J_cont [1, 2, 3, 4, 0] rfl
  refine J_inl ?_
  refine J_inl ?_
  refine J_iconst (v := 0) dX0_isPart_56 (by decide) ?_
  exact J_zreturn0 dX0_isPart_57 rfl
noncomputable def X0_isPart_L2 (x0 : Nat) (x1 : Nat) (x2 : Nat) (x3 : Int32) : JM Mem (Int32 ⊕ (Int32)) :=
  jb (jgetI 4 2 x2) fun v1 =>
  if v1 ≤ x3 then
    jinl (jp 1)
  else
    jloop (fun (t : Int32) => X0_isPart_L13 x0 x1 x2 x3 t) 0
theorem j_X0_isPart_L2 (D : va_G) (dA : Nat → ClassId) (x0 : Nat) (x1 : Nat) (x2 : Nat) (x3 : Int32) : J (PM D dA false) Y_X0_isPart [(0, .ref x0), (1, .ref x1), (2, .ref x2), (3, .int x3)] [] 2 (X0_isPart_L2 x0 x1 x2 x3) (FLoop (FRet injI) 2 (fun (t : Int32) => [(0, .ref x0), (1, .ref x1), (2, .ref x2), (3, .int t)])) := by
  unfold X0_isPart_L2
  refine J_iload_n dX0_isPart_2 rfl 3 rfl ?_
  refine J_aload_n dX0_isPart_3 rfl 2 rfl ?_
  refine J_getI dX0_isPart_4 fl_X0_302 rfl (fun v1 => ?_)
  refine J_icmp_ge (tgt := 70) dX0_isPart_7 rfl ?_ ?_
  · refine J_inl ?_
    refine J_iconst (v := 1) dX0_isPart_70 (by decide) ?_
    exact J_zreturn1 dX0_isPart_71 rfl
  refine J_iconst (v := 0) dX0_isPart_10 (by decide) ?_
  refine J_istore (env' := [(4, .int 0), (0, .ref x0), (1, .ref x1), (2, .ref x2), (3, .int x3)]) dX0_isPart_11 (by decide) rfl ?_
  refine J_loop (he := fun (t : Int32) => [(0, .ref x0), (1, .ref x1), (2, .ref x2), (3, .int x3), (4, .int t)]) [1, 2, 3, 4, 0] rfl (fun t => ?_)
  exact j_X0_isPart_L13 D dA x0 x1 x2 x3 t
noncomputable def f_X0_isPart (x0 : Nat) (x1 : Nat) (x2 : Nat) : JM Mem Int32 :=
  jloop (fun (t : Int32) => X0_isPart_L2 x0 x1 x2 t) 0
theorem j_X0_isPart (D : va_G) (dA : Nat → ClassId) (x0 : Nat) (x1 : Nat) (x2 : Nat) : J (PM D dA false) Y_X0_isPart [(0, .ref x0), (1, .ref x1), (2, .ref x2)] [] 0 (f_X0_isPart x0 x1 x2) (FRet injI) := by
  unfold f_X0_isPart
  refine J_iconst (v := 0) dX0_isPart_0 (by decide) ?_
  refine J_istore_n (env' := [(3, .int 0), (0, .ref x0), (1, .ref x1), (2, .ref x2)]) dX0_isPart_1 rfl (by decide) rfl ?_
  refine J_loop (he := fun (t : Int32) => [(0, .ref x0), (1, .ref x1), (2, .ref x2), (3, .int t)]) [1, 2, 3, 0] rfl (fun t => ?_)
  exact j_X0_isPart_L2 D dA x0 x1 x2 t
theorem i_X0_isPart (x0 : Nat) (x1 : Nat) (x2 : Nat) : Impl (ws_ yX0_isPart cX0_isPart 5 (some .boolean)) yX0_isPart 5 false 0 0 [.ref x0, .ref x1, .ref x2] (f_X0_isPart x0 x1 x2) injI := impl_of (plainFor_of_name (by decide)) (Nat.le_of_ble_eq_true rfl) (fun D dA => j_X0_isPart D dA x0 x1 x2)
theorem cw_X0_isPart (Y : JY) (h : 6 ≤ Y.2.2.2.1) : JCw Y (ws_ yX0_isPart cX0_isPart 5 (some .boolean)) yX0_isPart cX0_isPart 5 (some .boolean) 5 := ⟨h, by decide, lw_meth q1224, q187, by decide, by decide⟩
theorem np_X0_isPart : JNp yX0_isPart.desc 2 := by decide +kernel
-- BracketRoom.isIdeal(LBracketRoom$World;LBracketRoom$Span;)Z
abbrev Y_X0_isIdeal : JY := (cX0_isIdeal, yX0_isIdeal.cls, 6, 5, yX0_isIdeal.name, (some .boolean), [])
noncomputable def X0_isIdeal_b98 (x0 : Nat) (x1 : Nat) (x2 : Nat) (x3 : Int32) : JM Mem (Int32 ⊕ (Int32)) :=
  jcont (x3 + 1)
theorem j_X0_isIdeal_b98 (D : va_G) (dA : Nat → ClassId) (x0 : Nat) (x1 : Nat) (x2 : Nat) (x3 : Int32) : J (PM D dA false) Y_X0_isIdeal [(0, .ref x0), (1, .ref x1), (2, .ref x2), (3, .int x3)] [] 98 (X0_isIdeal_b98 x0 x1 x2 x3) (FLoop (FRet injI) 2 (fun (t : Int32) => [(0, .ref x0), (1, .ref x1), (2, .ref x2), (3, .int t)])) := by
  unfold X0_isIdeal_b98
  refine J_iinc (v := x3 + 1) (env' := [(3, .int (x3 + 1)), (0, .ref x0), (1, .ref x1), (2, .ref x2)]) dX0_isIdeal_98 3 rfl rfl (by decide) rfl ?_
  refine J_goto (tgt := 2) dX0_isIdeal_101 rfl ?_
  exact J_cont [1, 2, 3, 0] rfl
noncomputable def X0_isIdeal_b56 (x0 : Nat) (x1 : Nat) (x2 : Nat) (x3 : Int32) (x4 : Int32) : JM Mem ((Int32 ⊕ (Int32)) ⊕ (Int32)) :=
  jb (jgetA 4 0 x2) fun v3 =>
  jb (jaldA 5 v3 x3) fun v4 =>
  jb (jgetA 0 14 x0) fun v5 =>
  jb (jgetA 0 15 x0) fun v6 =>
  jb (jcall 3 x1 (f_X4_bracket x1 v4 v5 v6)) fun _ =>
  jb (jgetA 0 15 x0) fun v7 =>
  jb (jgetA 0 16 x0) fun v8 =>
  jb (jcall 4 x2 (f_X5_holds x2 x1 v7 v8)) fun v9 =>
  if v9 = 0 then
    jinl (jinl (jp 0))
  else
    jcont (x4 + 1)
theorem j_X0_isIdeal_b56 (D : va_G) (dA : Nat → ClassId) (x0 : Nat) (x1 : Nat) (x2 : Nat) (x3 : Int32) (x4 : Int32) : J (PM D dA false) Y_X0_isIdeal [(0, .ref x0), (1, .ref x1), (2, .ref x2), (3, .int x3), (4, .int x4)] [] 56 (X0_isIdeal_b56 x0 x1 x2 x3 x4) (FLoop (FLoop (FRet injI) 2 (fun (t : Int32) => [(0, .ref x0), (1, .ref x1), (2, .ref x2), (3, .int t)])) 13 (fun (t : Int32) => [(0, .ref x0), (1, .ref x1), (2, .ref x2), (3, .int x3), (4, .int t)])) := by
  unfold X0_isIdeal_b56
  refine J_aload_n dX0_isIdeal_56 rfl 1 rfl ?_
  refine J_aload_n dX0_isIdeal_57 rfl 2 rfl ?_
  refine J_getA dX0_isIdeal_58 fl_X0_305 rfl (fun v3 => ?_)
  refine J_iload_n dX0_isIdeal_61 rfl 3 rfl ?_
  refine J_aald dX0_isIdeal_62 rfl (by decide) (fun v4 => ?_)
  refine J_aload_n dX0_isIdeal_63 rfl 0 rfl ?_
  refine J_getA dX0_isIdeal_64 fl_X0_60 rfl (fun v5 => ?_)
  refine J_aload_n dX0_isIdeal_67 rfl 0 rfl ?_
  refine J_getA dX0_isIdeal_68 fl_X0_63 rfl (fun v6 => ?_)
  refine J_callVV (c := 3) (as := [.ref v4, .ref v5, .ref v6]) dX0_isIdeal_71 (by decide) rfl (Nat.le_of_ble_eq_true rfl) (cw_X4_bracket _ (by decide)) q1048 q1049 q1050 q1051 np_X4_bracket (i_X4_bracket x1 v4 v5 v6) jad_id rfl ?_
  refine J_aload_n dX0_isIdeal_74 rfl 2 rfl ?_
  refine J_aload_n dX0_isIdeal_75 rfl 1 rfl ?_
  refine J_aload_n dX0_isIdeal_76 rfl 0 rfl ?_
  refine J_getA dX0_isIdeal_77 fl_X0_63 rfl (fun v7 => ?_)
  refine J_aload_n dX0_isIdeal_80 rfl 0 rfl ?_
  refine J_getA dX0_isIdeal_81 fl_X0_66 rfl (fun v8 => ?_)
  refine J_callVI (c := 4) (as := [.ref x1, .ref v7, .ref v8]) dX0_isIdeal_84 (by decide) rfl (Nat.le_of_ble_eq_true rfl) (cw_X5_holds _ (by decide)) q1225 q1226 q1227 q1228 np_X5_holds (i_X5_holds x2 x1 v7 v8) jad_id rfl (fun v9 => ?_)
  refine J_if_ne (tgt := 92) dX0_isIdeal_87 rfl ?_ ?_
  · refine J_iinc (v := x4 + 1) (env' := [(4, .int (x4 + 1)), (0, .ref x0), (1, .ref x1), (2, .ref x2), (3, .int x3)]) dX0_isIdeal_92 4 rfl rfl (by decide) rfl ?_
    refine J_goto (tgt := 13) dX0_isIdeal_95 rfl ?_
    exact J_cont [1, 2, 3, 4, 0] rfl
  refine J_inl ?_
  refine J_inl ?_
  refine J_iconst (v := 0) dX0_isIdeal_90 (by decide) ?_
  exact J_zreturn0 dX0_isIdeal_91 rfl
noncomputable def X0_isIdeal_b49 (x0 : Nat) (x1 : Nat) (x2 : Nat) (x3 : Int32) (x4 : Int32) (x5 : Int32) (s0 : Nat) (s1 : Int32) (s2 : Int32) : JM Mem (((Int32 ⊕ (Int32)) ⊕ (Int32)) ⊕ (Int32)) :=
  jb (jast_i s0 s1 s2) fun _ =>
  jcont (x5 + 1)
theorem j_X0_isIdeal_b49 (D : va_G) (dA : Nat → ClassId) (x0 : Nat) (x1 : Nat) (x2 : Nat) (x3 : Int32) (x4 : Int32) (x5 : Int32) (s0 : Nat) (s1 : Int32) (s2 : Int32) : J (PM D dA false) Y_X0_isIdeal [(0, .ref x0), (1, .ref x1), (2, .ref x2), (3, .int x3), (4, .int x4), (5, .int x5)] [.int s2, .int s1, .ref s0] 49 (X0_isIdeal_b49 x0 x1 x2 x3 x4 x5 s0 s1 s2) (FLoop (FLoop (FLoop (FRet injI) 2 (fun (t : Int32) => [(0, .ref x0), (1, .ref x1), (2, .ref x2), (3, .int t)])) 13 (fun (t : Int32) => [(0, .ref x0), (1, .ref x1), (2, .ref x2), (3, .int x3), (4, .int t)])) 25 (fun (t : Int32) => [(0, .ref x0), (1, .ref x1), (2, .ref x2), (3, .int x3), (4, .int x4), (5, .int t)])) := by
  unfold X0_isIdeal_b49
  refine J_iast dX0_isIdeal_49 ?_
  refine J_iinc (v := x5 + 1) (env' := [(5, .int (x5 + 1)), (0, .ref x0), (1, .ref x1), (2, .ref x2), (3, .int x3), (4, .int x4)]) dX0_isIdeal_50 5 rfl rfl (by decide) rfl ?_
  refine J_goto (tgt := 25) dX0_isIdeal_53 rfl ?_
  exact J_cont [1, 2, 3, 4, 5, 0] rfl
noncomputable def X0_isIdeal_L25 (x0 : Nat) (x1 : Nat) (x2 : Nat) (x3 : Int32) (x4 : Int32) (x5 : Int32) : JM Mem (((Int32 ⊕ (Int32)) ⊕ (Int32)) ⊕ (Int32)) :=
  if 5 ≤ x5 then
    jinl (X0_isIdeal_b56 x0 x1 x2 x3 x4)
  else
  jb (jgetA 0 14 x0) fun v10 =>
  if x5 = x4 then
    X0_isIdeal_b49 x0 x1 x2 x3 x4 x5 v10 x5 1
  else
    X0_isIdeal_b49 x0 x1 x2 x3 x4 x5 v10 x5 0
theorem j_X0_isIdeal_L25 (D : va_G) (dA : Nat → ClassId) (x0 : Nat) (x1 : Nat) (x2 : Nat) (x3 : Int32) (x4 : Int32) (x5 : Int32) : J (PM D dA false) Y_X0_isIdeal [(0, .ref x0), (1, .ref x1), (2, .ref x2), (3, .int x3), (4, .int x4), (5, .int x5)] [] 25 (X0_isIdeal_L25 x0 x1 x2 x3 x4 x5) (FLoop (FLoop (FLoop (FRet injI) 2 (fun (t : Int32) => [(0, .ref x0), (1, .ref x1), (2, .ref x2), (3, .int t)])) 13 (fun (t : Int32) => [(0, .ref x0), (1, .ref x1), (2, .ref x2), (3, .int x3), (4, .int t)])) 25 (fun (t : Int32) => [(0, .ref x0), (1, .ref x1), (2, .ref x2), (3, .int x3), (4, .int x4), (5, .int t)])) := by
  unfold X0_isIdeal_L25
  refine J_iload dX0_isIdeal_25 5 rfl ?_
  refine J_iconst (v := 5) dX0_isIdeal_27 (by decide) ?_
  refine J_icmp_ge (tgt := 56) dX0_isIdeal_28 rfl ?_ ?_
  · refine J_inl ?_
    refine J_sub [0, 1, 2, 3, 4] rfl ?_
    exact j_X0_isIdeal_b56 D dA x0 x1 x2 x3 x4
  refine J_aload_n dX0_isIdeal_31 rfl 0 rfl ?_
  refine J_getA dX0_isIdeal_32 fl_X0_60 rfl (fun v10 => ?_)
  refine J_iload dX0_isIdeal_35 5 rfl ?_
  refine J_iload dX0_isIdeal_37 5 rfl ?_
  refine J_iload dX0_isIdeal_39 4 rfl ?_
  refine J_icmp_ne (tgt := 48) dX0_isIdeal_41 rfl ?_ ?_
  · refine J_iconst (v := 0) dX0_isIdeal_48 (by decide) ?_
    refine J_sub [0, 1, 2, 3, 4, 5] rfl ?_
    exact j_X0_isIdeal_b49 D dA x0 x1 x2 x3 x4 x5 v10 x5 0
  refine J_iconst (v := 1) dX0_isIdeal_44 (by decide) ?_
  refine J_goto (tgt := 49) dX0_isIdeal_45 rfl ?_
  refine J_sub [0, 1, 2, 3, 4, 5] rfl ?_
  exact j_X0_isIdeal_b49 D dA x0 x1 x2 x3 x4 x5 v10 x5 1
noncomputable def X0_isIdeal_L13 (x0 : Nat) (x1 : Nat) (x2 : Nat) (x3 : Int32) (x4 : Int32) : JM Mem ((Int32 ⊕ (Int32)) ⊕ (Int32)) :=
  jb (jgetI 3 2 x1) fun v2 =>
  if v2 ≤ x4 then
    jinl (X0_isIdeal_b98 x0 x1 x2 x3)
  else
    jloop (fun (t : Int32) => X0_isIdeal_L25 x0 x1 x2 x3 x4 t) 0
theorem j_X0_isIdeal_L13 (D : va_G) (dA : Nat → ClassId) (x0 : Nat) (x1 : Nat) (x2 : Nat) (x3 : Int32) (x4 : Int32) : J (PM D dA false) Y_X0_isIdeal [(0, .ref x0), (1, .ref x1), (2, .ref x2), (3, .int x3), (4, .int x4)] [] 13 (X0_isIdeal_L13 x0 x1 x2 x3 x4) (FLoop (FLoop (FRet injI) 2 (fun (t : Int32) => [(0, .ref x0), (1, .ref x1), (2, .ref x2), (3, .int t)])) 13 (fun (t : Int32) => [(0, .ref x0), (1, .ref x1), (2, .ref x2), (3, .int x3), (4, .int t)])) := by
  unfold X0_isIdeal_L13
  refine J_iload dX0_isIdeal_13 4 rfl ?_
  refine J_aload_n dX0_isIdeal_15 rfl 1 rfl ?_
  refine J_getI dX0_isIdeal_16 fl_X0_196 rfl (fun v2 => ?_)
  refine J_icmp_ge (tgt := 98) dX0_isIdeal_19 rfl ?_ ?_
  · refine J_inl ?_
    refine J_sub [0, 1, 2, 3] rfl ?_
    exact j_X0_isIdeal_b98 D dA x0 x1 x2 x3
  refine J_iconst (v := 0) dX0_isIdeal_22 (by decide) ?_
  refine J_istore (env' := [(5, .int 0), (0, .ref x0), (1, .ref x1), (2, .ref x2), (3, .int x3), (4, .int x4)]) dX0_isIdeal_23 (by decide) rfl ?_
  refine J_loop (he := fun (t : Int32) => [(0, .ref x0), (1, .ref x1), (2, .ref x2), (3, .int x3), (4, .int x4), (5, .int t)]) [1, 2, 3, 4, 5, 0] rfl (fun t => ?_)
  exact j_X0_isIdeal_L25 D dA x0 x1 x2 x3 x4 t
noncomputable def X0_isIdeal_L2 (x0 : Nat) (x1 : Nat) (x2 : Nat) (x3 : Int32) : JM Mem (Int32 ⊕ (Int32)) :=
  jb (jgetI 4 2 x2) fun v1 =>
  if v1 ≤ x3 then
    jinl (jp 1)
  else
    jloop (fun (t : Int32) => X0_isIdeal_L13 x0 x1 x2 x3 t) 0
theorem j_X0_isIdeal_L2 (D : va_G) (dA : Nat → ClassId) (x0 : Nat) (x1 : Nat) (x2 : Nat) (x3 : Int32) : J (PM D dA false) Y_X0_isIdeal [(0, .ref x0), (1, .ref x1), (2, .ref x2), (3, .int x3)] [] 2 (X0_isIdeal_L2 x0 x1 x2 x3) (FLoop (FRet injI) 2 (fun (t : Int32) => [(0, .ref x0), (1, .ref x1), (2, .ref x2), (3, .int t)])) := by
  unfold X0_isIdeal_L2
  refine J_iload_n dX0_isIdeal_2 rfl 3 rfl ?_
  refine J_aload_n dX0_isIdeal_3 rfl 2 rfl ?_
  refine J_getI dX0_isIdeal_4 fl_X0_302 rfl (fun v1 => ?_)
  refine J_icmp_ge (tgt := 104) dX0_isIdeal_7 rfl ?_ ?_
  · refine J_inl ?_
    refine J_iconst (v := 1) dX0_isIdeal_104 (by decide) ?_
    exact J_zreturn1 dX0_isIdeal_105 rfl
  refine J_iconst (v := 0) dX0_isIdeal_10 (by decide) ?_
  refine J_istore (env' := [(4, .int 0), (0, .ref x0), (1, .ref x1), (2, .ref x2), (3, .int x3)]) dX0_isIdeal_11 (by decide) rfl ?_
  refine J_loop (he := fun (t : Int32) => [(0, .ref x0), (1, .ref x1), (2, .ref x2), (3, .int x3), (4, .int t)]) [1, 2, 3, 4, 0] rfl (fun t => ?_)
  exact j_X0_isIdeal_L13 D dA x0 x1 x2 x3 t
noncomputable def f_X0_isIdeal (x0 : Nat) (x1 : Nat) (x2 : Nat) : JM Mem Int32 :=
  jloop (fun (t : Int32) => X0_isIdeal_L2 x0 x1 x2 t) 0
theorem j_X0_isIdeal (D : va_G) (dA : Nat → ClassId) (x0 : Nat) (x1 : Nat) (x2 : Nat) : J (PM D dA false) Y_X0_isIdeal [(0, .ref x0), (1, .ref x1), (2, .ref x2)] [] 0 (f_X0_isIdeal x0 x1 x2) (FRet injI) := by
  unfold f_X0_isIdeal
  refine J_iconst (v := 0) dX0_isIdeal_0 (by decide) ?_
  refine J_istore_n (env' := [(3, .int 0), (0, .ref x0), (1, .ref x1), (2, .ref x2)]) dX0_isIdeal_1 rfl (by decide) rfl ?_
  refine J_loop (he := fun (t : Int32) => [(0, .ref x0), (1, .ref x1), (2, .ref x2), (3, .int t)]) [1, 2, 3, 0] rfl (fun t => ?_)
  exact j_X0_isIdeal_L2 D dA x0 x1 x2 t
theorem i_X0_isIdeal (x0 : Nat) (x1 : Nat) (x2 : Nat) : Impl (ws_ yX0_isIdeal cX0_isIdeal 6 (some .boolean)) yX0_isIdeal 5 false 0 0 [.ref x0, .ref x1, .ref x2] (f_X0_isIdeal x0 x1 x2) injI := impl_of (plainFor_of_name (by decide)) (Nat.le_of_ble_eq_true rfl) (fun D dA => j_X0_isIdeal D dA x0 x1 x2)
theorem cw_X0_isIdeal (Y : JY) (h : 6 ≤ Y.2.2.2.1) : JCw Y (ws_ yX0_isIdeal cX0_isIdeal 6 (some .boolean)) yX0_isIdeal cX0_isIdeal 6 (some .boolean) 5 := ⟨h, by decide, lw_meth q1232, q187, by decide, by decide⟩
theorem np_X0_isIdeal : JNp yX0_isIdeal.desc 2 := by decide +kernel
-- BracketRoom.isAbelian(LBracketRoom$World;LBracketRoom$Span;)Z
abbrev Y_X0_isAbelian : JY := (cX0_isAbelian, yX0_isAbelian.cls, 3, 6, yX0_isAbelian.name, (some .boolean), [])
noncomputable def f_X0_isAbelian (x0 : Nat) (x1 : Nat) (x2 : Nat) : JM Mem Int32 :=
  jb (jgetA 0 20 x0) fun v1 =>
  jb (jcall 0 x0 (f_X0_brackets x0 x1 x2 x2 v1)) fun _ =>
  jb (jgetA 0 20 x0) fun v2 =>
  jb (jgetI 4 2 v2) fun v3 =>
  if v3 = 0 then
    jp 1
  else
    jp 0
theorem j_X0_isAbelian (D : va_G) (dA : Nat → ClassId) (x0 : Nat) (x1 : Nat) (x2 : Nat) : J (PM D dA false) Y_X0_isAbelian [(0, .ref x0), (1, .ref x1), (2, .ref x2)] [] 0 (f_X0_isAbelian x0 x1 x2) (FRet injI) := by
  unfold f_X0_isAbelian
  refine J_aload_n dX0_isAbelian_0 rfl 0 rfl ?_
  refine J_aload_n dX0_isAbelian_1 rfl 1 rfl ?_
  refine J_aload_n dX0_isAbelian_2 rfl 2 rfl ?_
  refine J_aload_n dX0_isAbelian_3 rfl 2 rfl ?_
  refine J_aload_n dX0_isAbelian_4 rfl 0 rfl ?_
  refine J_getA dX0_isAbelian_5 fl_X0_82 rfl (fun v1 => ?_)
  refine J_callVV (c := 0) (as := [.ref x1, .ref x2, .ref x2, .ref v1]) dX0_isAbelian_8 (by decide) rfl (Nat.le_of_ble_eq_true rfl) (cw_X0_brackets _ (by decide)) q1133 q1135 qs21 q1136 np_X0_brackets (i_X0_brackets x0 x1 x2 x2 v1) jad_id rfl ?_
  refine J_aload_n dX0_isAbelian_11 rfl 0 rfl ?_
  refine J_getA dX0_isAbelian_12 fl_X0_82 rfl (fun v2 => ?_)
  refine J_getI dX0_isAbelian_15 fl_X0_302 rfl (fun v3 => ?_)
  refine J_if_ne (tgt := 25) dX0_isAbelian_18 rfl ?_ ?_
  · refine J_iconst (v := 0) dX0_isAbelian_25 (by decide) ?_
    exact J_zreturn0 dX0_isAbelian_26 rfl
  refine J_iconst (v := 1) dX0_isAbelian_21 (by decide) ?_
  refine J_goto (tgt := 26) dX0_isAbelian_22 rfl ?_
  exact J_zreturn1 dX0_isAbelian_26 rfl
theorem i_X0_isAbelian (x0 : Nat) (x1 : Nat) (x2 : Nat) : Impl (ws_ yX0_isAbelian cX0_isAbelian 3 (some .boolean)) yX0_isAbelian 6 false 0 0 [.ref x0, .ref x1, .ref x2] (f_X0_isAbelian x0 x1 x2) injI := impl_of (plainFor_of_name (by decide)) (Nat.le_of_ble_eq_true rfl) (fun D dA => j_X0_isAbelian D dA x0 x1 x2)
theorem cw_X0_isAbelian (Y : JY) (h : 7 ≤ Y.2.2.2.1) : JCw Y (ws_ yX0_isAbelian cX0_isAbelian 3 (some .boolean)) yX0_isAbelian cX0_isAbelian 3 (some .boolean) 6 := ⟨h, by decide, lw_meth q1236, q187, by decide, by decide⟩
theorem np_X0_isAbelian : JNp yX0_isAbelian.desc 2 := by decide +kernel
-- BracketRoom.isNilpotent(LBracketRoom$World;LBracketRoom$Span;)Z
abbrev Y_X0_isNilpotent : JY := (cX0_isNilpotent, yX0_isNilpotent.cls, 3, 7, yX0_isNilpotent.name, (some .boolean), [])
noncomputable def f_X0_isNilpotent (x0 : Nat) (x1 : Nat) (x2 : Nat) : JM Mem Int32 :=
  jb (jcall 0 x0 (f_X0_series x0 x1 x2 5 0)) fun v1 =>
  if v1 = 0 then
    jp 1
  else
    jp 0
theorem j_X0_isNilpotent (D : va_G) (dA : Nat → ClassId) (x0 : Nat) (x1 : Nat) (x2 : Nat) : J (PM D dA false) Y_X0_isNilpotent [(0, .ref x0), (1, .ref x1), (2, .ref x2)] [] 0 (f_X0_isNilpotent x0 x1 x2) (FRet injI) := by
  unfold f_X0_isNilpotent
  refine J_aload_n dX0_isNilpotent_0 rfl 0 rfl ?_
  refine J_aload_n dX0_isNilpotent_1 rfl 1 rfl ?_
  refine J_aload_n dX0_isNilpotent_2 rfl 2 rfl ?_
  refine J_iconst (v := 5) dX0_isNilpotent_3 (by decide) ?_
  refine J_iconst (v := 0) dX0_isNilpotent_4 (by decide) ?_
  refine J_callVI (c := 0) (as := [.ref x1, .ref x2, .int 5, .int 0]) dX0_isNilpotent_5 (by decide) rfl (Nat.le_of_ble_eq_true rfl) (cw_X0_series _ (by decide)) q1146 q1148 qs23 q1149 np_X0_series (i_X0_series x0 x1 x2 5 0) jad_id rfl (fun v1 => ?_)
  refine J_if_ne (tgt := 15) dX0_isNilpotent_8 rfl ?_ ?_
  · refine J_iconst (v := 0) dX0_isNilpotent_15 (by decide) ?_
    exact J_zreturn0 dX0_isNilpotent_16 rfl
  refine J_iconst (v := 1) dX0_isNilpotent_11 (by decide) ?_
  refine J_goto (tgt := 16) dX0_isNilpotent_12 rfl ?_
  exact J_zreturn1 dX0_isNilpotent_16 rfl
theorem i_X0_isNilpotent (x0 : Nat) (x1 : Nat) (x2 : Nat) : Impl (ws_ yX0_isNilpotent cX0_isNilpotent 3 (some .boolean)) yX0_isNilpotent 7 false 0 0 [.ref x0, .ref x1, .ref x2] (f_X0_isNilpotent x0 x1 x2) injI := impl_of (plainFor_of_name (by decide)) (Nat.le_of_ble_eq_true rfl) (fun D dA => j_X0_isNilpotent D dA x0 x1 x2)
theorem cw_X0_isNilpotent (Y : JY) (h : 8 ≤ Y.2.2.2.1) : JCw Y (ws_ yX0_isNilpotent cX0_isNilpotent 3 (some .boolean)) yX0_isNilpotent cX0_isNilpotent 3 (some .boolean) 7 := ⟨h, by decide, lw_meth q1240, q187, by decide, by decide⟩
theorem np_X0_isNilpotent : JNp yX0_isNilpotent.desc 2 := by decide +kernel
-- BracketRoom.normalizer(LBracketRoom$World;LBracketRoom$Span;)I
abbrev Y_X0_normalizer : JY := (cX0_normalizer, yX0_normalizer.cls, 6, 4, yX0_normalizer.name, (some .int), [])
noncomputable def X0_normalizer_b124 (x0 : Nat) (x1 : Nat) : JM Mem Int32 :=
  jb (jgetI 3 2 x1) fun v3 =>
  jb (jgetA 0 23 x0) fun v4 =>
  jb (jgetI 3 2 x1) fun v5 =>
  jb (jcall 3 x1 (f_X4_rank x1 v4 v5 25)) fun v6 =>
  jp (v3 - v6)
theorem j_X0_normalizer_b124 (D : va_G) (dA : Nat → ClassId) (x0 : Nat) (x1 : Nat) : J (PM D dA false) Y_X0_normalizer [(0, .ref x0), (1, .ref x1)] [] 124 (X0_normalizer_b124 x0 x1) (FRet injI) := by
  unfold X0_normalizer_b124
  refine J_aload_n dX0_normalizer_124 rfl 1 rfl ?_
  refine J_getI dX0_normalizer_125 fl_X0_196 rfl (fun v3 => ?_)
  refine J_aload_n dX0_normalizer_128 rfl 1 rfl ?_
  refine J_aload_n dX0_normalizer_129 rfl 0 rfl ?_
  refine J_getA dX0_normalizer_130 fl_X0_93 rfl (fun v4 => ?_)
  refine J_aload_n dX0_normalizer_133 rfl 1 rfl ?_
  refine J_getI dX0_normalizer_134 fl_X0_196 rfl (fun v5 => ?_)
  refine J_bipush (v := 25) dX0_normalizer_137 (by decide) ?_
  refine J_callVI (c := 3) (as := [.ref v4, .int v5, .int 25]) dX0_normalizer_139 (by decide) rfl (Nat.le_of_ble_eq_true rfl) (cw_X4_rank _ (by decide)) q1174 q1175 q1176 q1177 np_X4_rank (i_X4_rank x1 v4 v5 25) jad_id rfl (fun v6 => ?_)
  refine J_isub dX0_normalizer_142 ?_
  exact J_ireturn dX0_normalizer_143 rfl
noncomputable def X0_normalizer_b118 (x0 : Nat) (x1 : Nat) (x2 : Nat) (x3 : Int32) : JM Mem (Int32 ⊕ (Int32)) :=
  jcont (x3 + 1)
theorem j_X0_normalizer_b118 (D : va_G) (dA : Nat → ClassId) (x0 : Nat) (x1 : Nat) (x2 : Nat) (x3 : Int32) : J (PM D dA false) Y_X0_normalizer [(0, .ref x0), (1, .ref x1), (2, .ref x2), (3, .int x3)] [] 118 (X0_normalizer_b118 x0 x1 x2 x3) (FLoop (FRet injI) 12 (fun (t : Int32) => [(0, .ref x0), (1, .ref x1), (2, .ref x2), (3, .int t)])) := by
  unfold X0_normalizer_b118
  refine J_iinc (v := x3 + 1) (env' := [(3, .int (x3 + 1)), (0, .ref x0), (1, .ref x1), (2, .ref x2)]) dX0_normalizer_118 3 rfl rfl (by decide) rfl ?_
  refine J_goto (tgt := 12) dX0_normalizer_121 rfl ?_
  exact J_cont [1, 2, 3, 0] rfl
noncomputable def X0_normalizer_b65 (x0 : Nat) (x1 : Nat) (x2 : Nat) (x3 : Int32) (x4 : Int32) : JM Mem ((Int32 ⊕ (Int32)) ⊕ (Int32)) :=
  jb (jgetA 0 14 x0) fun v8 =>
  jb (jgetA 4 0 x2) fun v9 =>
  jb (jaldA 5 v9 x4) fun v10 =>
  jb (jgetA 0 15 x0) fun v11 =>
  jb (jcall 3 x1 (f_X4_bracket x1 v8 v10 v11)) fun _ =>
  jb (jgetA 0 15 x0) fun v12 =>
  jb (jcall 4 x2 (f_X5_reduce x2 x1 v12)) fun _ =>
  jb (jgetA 0 15 x0) fun v13 =>
  jb (jgetA 0 23 x0) fun v14 =>
  jb (jaldA 5 v14 x3) fun v15 =>
  jb (jcopy 0 v13 0 v15 (5 * x4) 5) fun _ =>
  jcont (x4 + 1)
theorem j_X0_normalizer_b65 (D : va_G) (dA : Nat → ClassId) (x0 : Nat) (x1 : Nat) (x2 : Nat) (x3 : Int32) (x4 : Int32) : J (PM D dA false) Y_X0_normalizer [(0, .ref x0), (1, .ref x1), (2, .ref x2), (3, .int x3), (4, .int x4)] [] 65 (X0_normalizer_b65 x0 x1 x2 x3 x4) (FLoop (FLoop (FRet injI) 12 (fun (t : Int32) => [(0, .ref x0), (1, .ref x1), (2, .ref x2), (3, .int t)])) 23 (fun (t : Int32) => [(0, .ref x0), (1, .ref x1), (2, .ref x2), (3, .int x3), (4, .int t)])) := by
  unfold X0_normalizer_b65
  refine J_aload_n dX0_normalizer_65 rfl 1 rfl ?_
  refine J_aload_n dX0_normalizer_66 rfl 0 rfl ?_
  refine J_getA dX0_normalizer_67 fl_X0_60 rfl (fun v8 => ?_)
  refine J_aload_n dX0_normalizer_70 rfl 2 rfl ?_
  refine J_getA dX0_normalizer_71 fl_X0_305 rfl (fun v9 => ?_)
  refine J_iload dX0_normalizer_74 4 rfl ?_
  refine J_aald dX0_normalizer_76 rfl (by decide) (fun v10 => ?_)
  refine J_aload_n dX0_normalizer_77 rfl 0 rfl ?_
  refine J_getA dX0_normalizer_78 fl_X0_63 rfl (fun v11 => ?_)
  refine J_callVV (c := 3) (as := [.ref v8, .ref v10, .ref v11]) dX0_normalizer_81 (by decide) rfl (Nat.le_of_ble_eq_true rfl) (cw_X4_bracket _ (by decide)) q1048 q1049 q1050 q1051 np_X4_bracket (i_X4_bracket x1 v8 v10 v11) jad_id rfl ?_
  refine J_aload_n dX0_normalizer_84 rfl 2 rfl ?_
  refine J_aload_n dX0_normalizer_85 rfl 1 rfl ?_
  refine J_aload_n dX0_normalizer_86 rfl 0 rfl ?_
  refine J_getA dX0_normalizer_87 fl_X0_63 rfl (fun v12 => ?_)
  refine J_callVV (c := 4) (as := [.ref x1, .ref v12]) dX0_normalizer_90 (by decide) rfl (Nat.le_of_ble_eq_true rfl) (cw_X5_reduce _ (by decide)) q1245 q1116 q1117 q1118 np_X5_reduce (i_X5_reduce x2 x1 v12) jad_id rfl ?_
  refine J_aload_n dX0_normalizer_93 rfl 0 rfl ?_
  refine J_getA dX0_normalizer_94 fl_X0_63 rfl (fun v13 => ?_)
  refine J_iconst (v := 0) dX0_normalizer_97 (by decide) ?_
  refine J_aload_n dX0_normalizer_98 rfl 0 rfl ?_
  refine J_getA dX0_normalizer_99 fl_X0_93 rfl (fun v14 => ?_)
  refine J_iload_n dX0_normalizer_102 rfl 3 rfl ?_
  refine J_aald dX0_normalizer_103 rfl (by decide) (fun v15 => ?_)
  refine J_iconst (v := 5) dX0_normalizer_104 (by decide) ?_
  refine J_iload dX0_normalizer_105 4 rfl ?_
  refine J_imul dX0_normalizer_107 ?_
  refine J_iconst (v := 5) dX0_normalizer_108 (by decide) ?_
  refine J_copy (t := 0) dX0_normalizer_109 (by decide) (Nat.le_of_ble_eq_true rfl) (by decide) q743 q745 q744 q204 ?_
  refine J_iinc (v := x4 + 1) (env' := [(4, .int (x4 + 1)), (0, .ref x0), (1, .ref x1), (2, .ref x2), (3, .int x3)]) dX0_normalizer_112 4 rfl rfl (by decide) rfl ?_
  refine J_goto (tgt := 23) dX0_normalizer_115 rfl ?_
  exact J_cont [1, 2, 3, 4, 0] rfl
noncomputable def X0_normalizer_b58 (x0 : Nat) (x1 : Nat) (x2 : Nat) (x3 : Int32) (x4 : Int32) (x5 : Int32) (s0 : Nat) (s1 : Int32) (s2 : Int32) : JM Mem (((Int32 ⊕ (Int32)) ⊕ (Int32)) ⊕ (Int32)) :=
  jb (jast_i s0 s1 s2) fun _ =>
  jcont (x5 + 1)
theorem j_X0_normalizer_b58 (D : va_G) (dA : Nat → ClassId) (x0 : Nat) (x1 : Nat) (x2 : Nat) (x3 : Int32) (x4 : Int32) (x5 : Int32) (s0 : Nat) (s1 : Int32) (s2 : Int32) : J (PM D dA false) Y_X0_normalizer [(0, .ref x0), (1, .ref x1), (2, .ref x2), (3, .int x3), (4, .int x4), (5, .int x5)] [.int s2, .int s1, .ref s0] 58 (X0_normalizer_b58 x0 x1 x2 x3 x4 x5 s0 s1 s2) (FLoop (FLoop (FLoop (FRet injI) 12 (fun (t : Int32) => [(0, .ref x0), (1, .ref x1), (2, .ref x2), (3, .int t)])) 23 (fun (t : Int32) => [(0, .ref x0), (1, .ref x1), (2, .ref x2), (3, .int x3), (4, .int t)])) 35 (fun (t : Int32) => [(0, .ref x0), (1, .ref x1), (2, .ref x2), (3, .int x3), (4, .int x4), (5, .int t)])) := by
  unfold X0_normalizer_b58
  refine J_iast dX0_normalizer_58 ?_
  refine J_iinc (v := x5 + 1) (env' := [(5, .int (x5 + 1)), (0, .ref x0), (1, .ref x1), (2, .ref x2), (3, .int x3), (4, .int x4)]) dX0_normalizer_59 5 rfl rfl (by decide) rfl ?_
  refine J_goto (tgt := 35) dX0_normalizer_62 rfl ?_
  exact J_cont [1, 2, 3, 4, 5, 0] rfl
noncomputable def X0_normalizer_L35 (x0 : Nat) (x1 : Nat) (x2 : Nat) (x3 : Int32) (x4 : Int32) (x5 : Int32) : JM Mem (((Int32 ⊕ (Int32)) ⊕ (Int32)) ⊕ (Int32)) :=
  if 5 ≤ x5 then
    jinl (X0_normalizer_b65 x0 x1 x2 x3 x4)
  else
  jb (jgetA 0 14 x0) fun v16 =>
  if x5 = x3 then
    X0_normalizer_b58 x0 x1 x2 x3 x4 x5 v16 x5 1
  else
    X0_normalizer_b58 x0 x1 x2 x3 x4 x5 v16 x5 0
theorem j_X0_normalizer_L35 (D : va_G) (dA : Nat → ClassId) (x0 : Nat) (x1 : Nat) (x2 : Nat) (x3 : Int32) (x4 : Int32) (x5 : Int32) : J (PM D dA false) Y_X0_normalizer [(0, .ref x0), (1, .ref x1), (2, .ref x2), (3, .int x3), (4, .int x4), (5, .int x5)] [] 35 (X0_normalizer_L35 x0 x1 x2 x3 x4 x5) (FLoop (FLoop (FLoop (FRet injI) 12 (fun (t : Int32) => [(0, .ref x0), (1, .ref x1), (2, .ref x2), (3, .int t)])) 23 (fun (t : Int32) => [(0, .ref x0), (1, .ref x1), (2, .ref x2), (3, .int x3), (4, .int t)])) 35 (fun (t : Int32) => [(0, .ref x0), (1, .ref x1), (2, .ref x2), (3, .int x3), (4, .int x4), (5, .int t)])) := by
  unfold X0_normalizer_L35
  refine J_iload dX0_normalizer_35 5 rfl ?_
  refine J_iconst (v := 5) dX0_normalizer_37 (by decide) ?_
  refine J_icmp_ge (tgt := 65) dX0_normalizer_38 rfl ?_ ?_
  · refine J_inl ?_
    refine J_sub [0, 1, 2, 3, 4] rfl ?_
    exact j_X0_normalizer_b65 D dA x0 x1 x2 x3 x4
  refine J_aload_n dX0_normalizer_41 rfl 0 rfl ?_
  refine J_getA dX0_normalizer_42 fl_X0_60 rfl (fun v16 => ?_)
  refine J_iload dX0_normalizer_45 5 rfl ?_
  refine J_iload dX0_normalizer_47 5 rfl ?_
  refine J_iload_n dX0_normalizer_49 rfl 3 rfl ?_
  refine J_icmp_ne (tgt := 57) dX0_normalizer_50 rfl ?_ ?_
  · refine J_iconst (v := 0) dX0_normalizer_57 (by decide) ?_
    refine J_sub [0, 1, 2, 3, 4, 5] rfl ?_
    exact j_X0_normalizer_b58 D dA x0 x1 x2 x3 x4 x5 v16 x5 0
  refine J_iconst (v := 1) dX0_normalizer_53 (by decide) ?_
  refine J_goto (tgt := 58) dX0_normalizer_54 rfl ?_
  refine J_sub [0, 1, 2, 3, 4, 5] rfl ?_
  exact j_X0_normalizer_b58 D dA x0 x1 x2 x3 x4 x5 v16 x5 1
noncomputable def X0_normalizer_L23 (x0 : Nat) (x1 : Nat) (x2 : Nat) (x3 : Int32) (x4 : Int32) : JM Mem ((Int32 ⊕ (Int32)) ⊕ (Int32)) :=
  jb (jgetI 4 2 x2) fun v7 =>
  if v7 ≤ x4 then
    jinl (X0_normalizer_b118 x0 x1 x2 x3)
  else
    jloop (fun (t : Int32) => X0_normalizer_L35 x0 x1 x2 x3 x4 t) 0
theorem j_X0_normalizer_L23 (D : va_G) (dA : Nat → ClassId) (x0 : Nat) (x1 : Nat) (x2 : Nat) (x3 : Int32) (x4 : Int32) : J (PM D dA false) Y_X0_normalizer [(0, .ref x0), (1, .ref x1), (2, .ref x2), (3, .int x3), (4, .int x4)] [] 23 (X0_normalizer_L23 x0 x1 x2 x3 x4) (FLoop (FLoop (FRet injI) 12 (fun (t : Int32) => [(0, .ref x0), (1, .ref x1), (2, .ref x2), (3, .int t)])) 23 (fun (t : Int32) => [(0, .ref x0), (1, .ref x1), (2, .ref x2), (3, .int x3), (4, .int t)])) := by
  unfold X0_normalizer_L23
  refine J_iload dX0_normalizer_23 4 rfl ?_
  refine J_aload_n dX0_normalizer_25 rfl 2 rfl ?_
  refine J_getI dX0_normalizer_26 fl_X0_302 rfl (fun v7 => ?_)
  refine J_icmp_ge (tgt := 118) dX0_normalizer_29 rfl ?_ ?_
  · refine J_inl ?_
    refine J_sub [0, 1, 2, 3] rfl ?_
    exact j_X0_normalizer_b118 D dA x0 x1 x2 x3
  refine J_iconst (v := 0) dX0_normalizer_32 (by decide) ?_
  refine J_istore (env' := [(5, .int 0), (0, .ref x0), (1, .ref x1), (2, .ref x2), (3, .int x3), (4, .int x4)]) dX0_normalizer_33 (by decide) rfl ?_
  refine J_loop (he := fun (t : Int32) => [(0, .ref x0), (1, .ref x1), (2, .ref x2), (3, .int x3), (4, .int x4), (5, .int t)]) [1, 2, 3, 4, 5, 0] rfl (fun t => ?_)
  exact j_X0_normalizer_L35 D dA x0 x1 x2 x3 x4 t
noncomputable def X0_normalizer_L12 (x0 : Nat) (x1 : Nat) (x2 : Nat) (x3 : Int32) : JM Mem (Int32 ⊕ (Int32)) :=
  jb (jgetI 3 2 x1) fun v2 =>
  if v2 ≤ x3 then
    jinl (X0_normalizer_b124 x0 x1)
  else
    jloop (fun (t : Int32) => X0_normalizer_L23 x0 x1 x2 x3 t) 0
theorem j_X0_normalizer_L12 (D : va_G) (dA : Nat → ClassId) (x0 : Nat) (x1 : Nat) (x2 : Nat) (x3 : Int32) : J (PM D dA false) Y_X0_normalizer [(0, .ref x0), (1, .ref x1), (2, .ref x2), (3, .int x3)] [] 12 (X0_normalizer_L12 x0 x1 x2 x3) (FLoop (FRet injI) 12 (fun (t : Int32) => [(0, .ref x0), (1, .ref x1), (2, .ref x2), (3, .int t)])) := by
  unfold X0_normalizer_L12
  refine J_iload_n dX0_normalizer_12 rfl 3 rfl ?_
  refine J_aload_n dX0_normalizer_13 rfl 1 rfl ?_
  refine J_getI dX0_normalizer_14 fl_X0_196 rfl (fun v2 => ?_)
  refine J_icmp_ge (tgt := 124) dX0_normalizer_17 rfl ?_ ?_
  · refine J_inl ?_
    refine J_sub [0, 1] rfl ?_
    exact j_X0_normalizer_b124 D dA x0 x1
  refine J_iconst (v := 0) dX0_normalizer_20 (by decide) ?_
  refine J_istore (env' := [(4, .int 0), (0, .ref x0), (1, .ref x1), (2, .ref x2), (3, .int x3)]) dX0_normalizer_21 (by decide) rfl ?_
  refine J_loop (he := fun (t : Int32) => [(0, .ref x0), (1, .ref x1), (2, .ref x2), (3, .int x3), (4, .int t)]) [1, 2, 3, 4, 0] rfl (fun t => ?_)
  exact j_X0_normalizer_L23 D dA x0 x1 x2 x3 t
noncomputable def f_X0_normalizer (x0 : Nat) (x1 : Nat) (x2 : Nat) : JM Mem Int32 :=
  jb (jgetI 3 2 x1) fun v1 =>
  jb (jcall 0 x0 (f_X0_clearRows x0 v1 25)) fun _ =>
  jloop (fun (t : Int32) => X0_normalizer_L12 x0 x1 x2 t) 0
theorem j_X0_normalizer (D : va_G) (dA : Nat → ClassId) (x0 : Nat) (x1 : Nat) (x2 : Nat) : J (PM D dA false) Y_X0_normalizer [(0, .ref x0), (1, .ref x1), (2, .ref x2)] [] 0 (f_X0_normalizer x0 x1 x2) (FRet injI) := by
  unfold f_X0_normalizer
  refine J_aload_n dX0_normalizer_0 rfl 0 rfl ?_
  refine J_aload_n dX0_normalizer_1 rfl 1 rfl ?_
  refine J_getI dX0_normalizer_2 fl_X0_196 rfl (fun v1 => ?_)
  refine J_bipush (v := 25) dX0_normalizer_5 (by decide) ?_
  refine J_callVV (c := 0) (as := [.int v1, .int 25]) dX0_normalizer_7 (by decide) rfl (Nat.le_of_ble_eq_true rfl) (cw_X0_clearRows _ (by decide)) q1170 q1172 qs26 q1173 np_X0_clearRows (i_X0_clearRows x0 v1 25) jad_id rfl ?_
  refine J_iconst (v := 0) dX0_normalizer_10 (by decide) ?_
  refine J_istore_n (env' := [(3, .int 0), (0, .ref x0), (1, .ref x1), (2, .ref x2)]) dX0_normalizer_11 rfl (by decide) rfl ?_
  refine J_loop (he := fun (t : Int32) => [(0, .ref x0), (1, .ref x1), (2, .ref x2), (3, .int t)]) [1, 2, 3, 0] rfl (fun t => ?_)
  exact j_X0_normalizer_L12 D dA x0 x1 x2 t
theorem i_X0_normalizer (x0 : Nat) (x1 : Nat) (x2 : Nat) : Impl (ws_ yX0_normalizer cX0_normalizer 6 (some .int)) yX0_normalizer 4 false 0 0 [.ref x0, .ref x1, .ref x2] (f_X0_normalizer x0 x1 x2) injI := impl_of (plainFor_of_name (by decide)) (Nat.le_of_ble_eq_true rfl) (fun D dA => j_X0_normalizer D dA x0 x1 x2)
theorem cw_X0_normalizer (Y : JY) (h : 5 ≤ Y.2.2.2.1) : JCw Y (ws_ yX0_normalizer cX0_normalizer 6 (some .int)) yX0_normalizer cX0_normalizer 6 (some .int) 4 := ⟨h, by decide, lw_meth q1244, q187, by decide, by decide⟩
theorem np_X0_normalizer : JNp yX0_normalizer.desc 2 := by decide +kernel
-- BracketRoom.isSolvable(LBracketRoom$World;LBracketRoom$Span;)Z
abbrev Y_X0_isSolvable : JY := (cX0_isSolvable, yX0_isSolvable.cls, 3, 7, yX0_isSolvable.name, (some .boolean), [])
noncomputable def f_X0_isSolvable (x0 : Nat) (x1 : Nat) (x2 : Nat) : JM Mem Int32 :=
  jb (jcall 0 x0 (f_X0_series x0 x1 x2 5 1)) fun v1 =>
  if v1 = 0 then
    jp 1
  else
    jp 0
theorem j_X0_isSolvable (D : va_G) (dA : Nat → ClassId) (x0 : Nat) (x1 : Nat) (x2 : Nat) : J (PM D dA false) Y_X0_isSolvable [(0, .ref x0), (1, .ref x1), (2, .ref x2)] [] 0 (f_X0_isSolvable x0 x1 x2) (FRet injI) := by
  unfold f_X0_isSolvable
  refine J_aload_n dX0_isSolvable_0 rfl 0 rfl ?_
  refine J_aload_n dX0_isSolvable_1 rfl 1 rfl ?_
  refine J_aload_n dX0_isSolvable_2 rfl 2 rfl ?_
  refine J_iconst (v := 5) dX0_isSolvable_3 (by decide) ?_
  refine J_iconst (v := 1) dX0_isSolvable_4 (by decide) ?_
  refine J_callVI (c := 0) (as := [.ref x1, .ref x2, .int 5, .int 1]) dX0_isSolvable_5 (by decide) rfl (Nat.le_of_ble_eq_true rfl) (cw_X0_series _ (by decide)) q1146 q1148 qs23 q1149 np_X0_series (i_X0_series x0 x1 x2 5 1) jad_id rfl (fun v1 => ?_)
  refine J_if_ne (tgt := 15) dX0_isSolvable_8 rfl ?_ ?_
  · refine J_iconst (v := 0) dX0_isSolvable_15 (by decide) ?_
    exact J_zreturn0 dX0_isSolvable_16 rfl
  refine J_iconst (v := 1) dX0_isSolvable_11 (by decide) ?_
  refine J_goto (tgt := 16) dX0_isSolvable_12 rfl ?_
  exact J_zreturn1 dX0_isSolvable_16 rfl
theorem i_X0_isSolvable (x0 : Nat) (x1 : Nat) (x2 : Nat) : Impl (ws_ yX0_isSolvable cX0_isSolvable 3 (some .boolean)) yX0_isSolvable 7 false 0 0 [.ref x0, .ref x1, .ref x2] (f_X0_isSolvable x0 x1 x2) injI := impl_of (plainFor_of_name (by decide)) (Nat.le_of_ble_eq_true rfl) (fun D dA => j_X0_isSolvable D dA x0 x1 x2)
theorem cw_X0_isSolvable (Y : JY) (h : 8 ≤ Y.2.2.2.1) : JCw Y (ws_ yX0_isSolvable cX0_isSolvable 3 (some .boolean)) yX0_isSolvable cX0_isSolvable 3 (some .boolean) 7 := ⟨h, by decide, lw_meth q1249, q187, by decide, by decide⟩
theorem np_X0_isSolvable : JNp yX0_isSolvable.desc 2 := by decide +kernel
-- BracketRoom.isKind(LBracketRoom$World;LBracketRoom$Span;I)Z
abbrev Y_X0_isKind : JY := (cX0_isKind, yX0_isKind.cls, 4, 8, yX0_isKind.name, (some .boolean), [])
noncomputable def f_X0_isKind (x0 : Nat) (x1 : Nat) (x2 : Nat) (x3 : Int32) : JM Mem Int32 :=
  jsw x3 0 [
    jb (jcall 0 x0 (f_X0_isPart x0 x1 x2)) fun v1 =>
    jrz v1,
    jb (jcall 0 x0 (f_X0_isIdeal x0 x1 x2)) fun v2 =>
    jrz v2,
    jb (jcall 0 x0 (f_X0_isAbelian x0 x1 x2)) fun v3 =>
    jrz v3,
    jb (jcall 0 x0 (f_X0_isPart x0 x1 x2)) fun v4 =>
    if v4 = 0 then
      jp 0
    else
    jb (jcall 0 x0 (f_X0_isNilpotent x0 x1 x2)) fun v5 =>
    if v5 = 0 then
      jp 0
    else
    jb (jcall 0 x0 (f_X0_normalizer x0 x1 x2)) fun v6 =>
    jb (jgetI 4 2 x2) fun v7 =>
    if v6 = v7 then
      jp 1
    else
      jp 0,
    jb (jcall 0 x0 (f_X0_isIdeal x0 x1 x2)) fun v8 =>
    if v8 = 0 then
      jp 0
    else
    jb (jcall 0 x0 (f_X0_isSolvable x0 x1 x2)) fun v9 =>
    if v9 = 0 then
      jp 0
    else
      jp 1,
    jb (jcall 0 x0 (f_X0_isIdeal x0 x1 x2)) fun v10 =>
    if v10 = 0 then
      jp 0
    else
    jb (jcall 0 x0 (f_X0_isNilpotent x0 x1 x2)) fun v11 =>
    if v11 = 0 then
      jp 0
    else
      jp 1] (
    jp 1)
set_option maxHeartbeats 8000000 in
theorem j_X0_isKind (D : va_G) (dA : Nat → ClassId) (x0 : Nat) (x1 : Nat) (x2 : Nat) (x3 : Int32) : J (PM D dA false) Y_X0_isKind [(0, .ref x0), (1, .ref x1), (2, .ref x2), (3, .int x3)] [] 0 (f_X0_isKind x0 x1 x2 x3) (FRet injI) := by
  unfold f_X0_isKind
  refine J_iload_n dX0_isKind_0 rfl 3 rfl ?_
  refine J_tswA [40, 47, 54, 61, 98, 122] dX0_isKind_1 (tgt := 146) rfl rfl rfl rfl ?_ ⟨?_, ?_, ?_, ?_, ?_, ?_, trivial⟩
  · refine J_iconst (v := 1) dX0_isKind_146 (by decide) ?_
    exact J_zreturn1 dX0_isKind_147 rfl
  · refine J_aload_n dX0_isKind_40 rfl 0 rfl ?_
    refine J_aload_n dX0_isKind_41 rfl 1 rfl ?_
    refine J_aload_n dX0_isKind_42 rfl 2 rfl ?_
    refine J_callVI (c := 0) (as := [.ref x1, .ref x2]) dX0_isKind_43 (by decide) rfl (Nat.le_of_ble_eq_true rfl) (cw_X0_isPart _ (by decide)) q1221 q1223 qs32 q1224 np_X0_isPart (i_X0_isPart x0 x1 x2) jad_id rfl (fun v1 => ?_)
    exact J_zreturn dX0_isKind_46 rfl
  · refine J_aload_n dX0_isKind_47 rfl 0 rfl ?_
    refine J_aload_n dX0_isKind_48 rfl 1 rfl ?_
    refine J_aload_n dX0_isKind_49 rfl 2 rfl ?_
    refine J_callVI (c := 0) (as := [.ref x1, .ref x2]) dX0_isKind_50 (by decide) rfl (Nat.le_of_ble_eq_true rfl) (cw_X0_isIdeal _ (by decide)) q1229 q1231 qs33 q1232 np_X0_isIdeal (i_X0_isIdeal x0 x1 x2) jad_id rfl (fun v2 => ?_)
    exact J_zreturn dX0_isKind_53 rfl
  · refine J_aload_n dX0_isKind_54 rfl 0 rfl ?_
    refine J_aload_n dX0_isKind_55 rfl 1 rfl ?_
    refine J_aload_n dX0_isKind_56 rfl 2 rfl ?_
    refine J_callVI (c := 0) (as := [.ref x1, .ref x2]) dX0_isKind_57 (by decide) rfl (Nat.le_of_ble_eq_true rfl) (cw_X0_isAbelian _ (by decide)) q1233 q1235 qs34 q1236 np_X0_isAbelian (i_X0_isAbelian x0 x1 x2) jad_id rfl (fun v3 => ?_)
    exact J_zreturn dX0_isKind_60 rfl
  · refine J_aload_n dX0_isKind_61 rfl 0 rfl ?_
    refine J_aload_n dX0_isKind_62 rfl 1 rfl ?_
    refine J_aload_n dX0_isKind_63 rfl 2 rfl ?_
    refine J_callVI (c := 0) (as := [.ref x1, .ref x2]) dX0_isKind_64 (by decide) rfl (Nat.le_of_ble_eq_true rfl) (cw_X0_isPart _ (by decide)) q1221 q1223 qs32 q1224 np_X0_isPart (i_X0_isPart x0 x1 x2) jad_id rfl (fun v4 => ?_)
    refine J_if_eq (tgt := 96) dX0_isKind_67 rfl ?_ ?_
    · refine J_iconst (v := 0) dX0_isKind_96 (by decide) ?_
      exact J_zreturn0 dX0_isKind_97 rfl
    refine J_aload_n dX0_isKind_70 rfl 0 rfl ?_
    refine J_aload_n dX0_isKind_71 rfl 1 rfl ?_
    refine J_aload_n dX0_isKind_72 rfl 2 rfl ?_
    refine J_callVI (c := 0) (as := [.ref x1, .ref x2]) dX0_isKind_73 (by decide) rfl (Nat.le_of_ble_eq_true rfl) (cw_X0_isNilpotent _ (by decide)) q1237 q1239 qs35 q1240 np_X0_isNilpotent (i_X0_isNilpotent x0 x1 x2) jad_id rfl (fun v5 => ?_)
    refine J_if_eq (tgt := 96) dX0_isKind_76 rfl ?_ ?_
    · refine J_iconst (v := 0) dX0_isKind_96 (by decide) ?_
      exact J_zreturn0 dX0_isKind_97 rfl
    refine J_aload_n dX0_isKind_79 rfl 0 rfl ?_
    refine J_aload_n dX0_isKind_80 rfl 1 rfl ?_
    refine J_aload_n dX0_isKind_81 rfl 2 rfl ?_
    refine J_callVI (c := 0) (as := [.ref x1, .ref x2]) dX0_isKind_82 (by decide) rfl (Nat.le_of_ble_eq_true rfl) (cw_X0_normalizer _ (by decide)) q1241 q1243 qs36 q1244 np_X0_normalizer (i_X0_normalizer x0 x1 x2) jad_id rfl (fun v6 => ?_)
    refine J_aload_n dX0_isKind_85 rfl 2 rfl ?_
    refine J_getI dX0_isKind_86 fl_X0_302 rfl (fun v7 => ?_)
    refine J_icmp_ne (tgt := 96) dX0_isKind_89 rfl ?_ ?_
    · refine J_iconst (v := 0) dX0_isKind_96 (by decide) ?_
      exact J_zreturn0 dX0_isKind_97 rfl
    refine J_iconst (v := 1) dX0_isKind_92 (by decide) ?_
    refine J_goto (tgt := 97) dX0_isKind_93 rfl ?_
    exact J_zreturn1 dX0_isKind_97 rfl
  · refine J_aload_n dX0_isKind_98 rfl 0 rfl ?_
    refine J_aload_n dX0_isKind_99 rfl 1 rfl ?_
    refine J_aload_n dX0_isKind_100 rfl 2 rfl ?_
    refine J_callVI (c := 0) (as := [.ref x1, .ref x2]) dX0_isKind_101 (by decide) rfl (Nat.le_of_ble_eq_true rfl) (cw_X0_isIdeal _ (by decide)) q1229 q1231 qs33 q1232 np_X0_isIdeal (i_X0_isIdeal x0 x1 x2) jad_id rfl (fun v8 => ?_)
    refine J_if_eq (tgt := 120) dX0_isKind_104 rfl ?_ ?_
    · refine J_iconst (v := 0) dX0_isKind_120 (by decide) ?_
      exact J_zreturn0 dX0_isKind_121 rfl
    refine J_aload_n dX0_isKind_107 rfl 0 rfl ?_
    refine J_aload_n dX0_isKind_108 rfl 1 rfl ?_
    refine J_aload_n dX0_isKind_109 rfl 2 rfl ?_
    refine J_callVI (c := 0) (as := [.ref x1, .ref x2]) dX0_isKind_110 (by decide) rfl (Nat.le_of_ble_eq_true rfl) (cw_X0_isSolvable _ (by decide)) q1246 q1248 qs37 q1249 np_X0_isSolvable (i_X0_isSolvable x0 x1 x2) jad_id rfl (fun v9 => ?_)
    refine J_if_eq (tgt := 120) dX0_isKind_113 rfl ?_ ?_
    · refine J_iconst (v := 0) dX0_isKind_120 (by decide) ?_
      exact J_zreturn0 dX0_isKind_121 rfl
    refine J_iconst (v := 1) dX0_isKind_116 (by decide) ?_
    refine J_goto (tgt := 121) dX0_isKind_117 rfl ?_
    exact J_zreturn1 dX0_isKind_121 rfl
  · refine J_aload_n dX0_isKind_122 rfl 0 rfl ?_
    refine J_aload_n dX0_isKind_123 rfl 1 rfl ?_
    refine J_aload_n dX0_isKind_124 rfl 2 rfl ?_
    refine J_callVI (c := 0) (as := [.ref x1, .ref x2]) dX0_isKind_125 (by decide) rfl (Nat.le_of_ble_eq_true rfl) (cw_X0_isIdeal _ (by decide)) q1229 q1231 qs33 q1232 np_X0_isIdeal (i_X0_isIdeal x0 x1 x2) jad_id rfl (fun v10 => ?_)
    refine J_if_eq (tgt := 144) dX0_isKind_128 rfl ?_ ?_
    · refine J_iconst (v := 0) dX0_isKind_144 (by decide) ?_
      exact J_zreturn0 dX0_isKind_145 rfl
    refine J_aload_n dX0_isKind_131 rfl 0 rfl ?_
    refine J_aload_n dX0_isKind_132 rfl 1 rfl ?_
    refine J_aload_n dX0_isKind_133 rfl 2 rfl ?_
    refine J_callVI (c := 0) (as := [.ref x1, .ref x2]) dX0_isKind_134 (by decide) rfl (Nat.le_of_ble_eq_true rfl) (cw_X0_isNilpotent _ (by decide)) q1237 q1239 qs35 q1240 np_X0_isNilpotent (i_X0_isNilpotent x0 x1 x2) jad_id rfl (fun v11 => ?_)
    refine J_if_eq (tgt := 144) dX0_isKind_137 rfl ?_ ?_
    · refine J_iconst (v := 0) dX0_isKind_144 (by decide) ?_
      exact J_zreturn0 dX0_isKind_145 rfl
    refine J_iconst (v := 1) dX0_isKind_140 (by decide) ?_
    refine J_goto (tgt := 145) dX0_isKind_141 rfl ?_
    exact J_zreturn1 dX0_isKind_145 rfl
theorem i_X0_isKind (x0 : Nat) (x1 : Nat) (x2 : Nat) (x3 : Int32) : Impl (ws_ yX0_isKind cX0_isKind 4 (some .boolean)) yX0_isKind 8 false 0 0 [.ref x0, .ref x1, .ref x2, .int x3] (f_X0_isKind x0 x1 x2 x3) injI := impl_of (plainFor_of_name (by decide)) (Nat.le_of_ble_eq_true rfl) (fun D dA => j_X0_isKind D dA x0 x1 x2 x3)
theorem cw_X0_isKind (Y : JY) (h : 9 ≤ Y.2.2.2.1) : JCw Y (ws_ yX0_isKind cX0_isKind 4 (some .boolean)) yX0_isKind cX0_isKind 4 (some .boolean) 8 := ⟨h, by decide, lw_meth q1220, q187, by decide, by decide⟩
theorem np_X0_isKind : JNp yX0_isKind.desc 3 := by decide +kernel
-- BracketRoom.countBy(LBracketRoom$World;II)I
abbrev Y_X0_countBy : JY := (cX0_countBy, yX0_countBy.cls, 10, 9, yX0_countBy.name, (some .int), [])
noncomputable def X0_countBy_b304 (x0 : Nat) (x1 : Nat) (x3 : Int32) (x4 : Int32) (x5 : Int32) (x7 : Int32) (s0 : Int32) (s1 : Int32) : JM Mem (Int32 ⊕ (Int32 × Int32)) :=
  jlet (s0 + s1) fun y7 =>
  jcont (y7, x7 + 1)
theorem j_X0_countBy_b304 (D : va_G) (dA : Nat → ClassId) (x0 : Nat) (x1 : Nat) (x3 : Int32) (x4 : Int32) (x5 : Int32) (x7 : Int32) (s0 : Int32) (s1 : Int32) : J (PM D dA false) Y_X0_countBy [(0, .ref x0), (1, .ref x1), (3, .int x3), (4, .int x4), (5, .int x5), (7, .int x7)] [.int s1, .int s0] 304 (X0_countBy_b304 x0 x1 x3 x4 x5 x7 s0 s1) (FLoop (FRet injI) 218 (fun (t : Int32 × Int32) => [(0, .ref x0), (1, .ref x1), (3, .int x3), (4, .int x4), (5, .int x5), (6, .int t.1), (7, .int t.2)])) := by
  unfold X0_countBy_b304
  refine J_iadd dX0_countBy_304 ?_
  refine J_letI (fun y7 => ?_)
  refine J_istore (env' := [(6, .int y7), (0, .ref x0), (1, .ref x1), (3, .int x3), (4, .int x4), (5, .int x5), (7, .int x7)]) dX0_countBy_305 (by decide) rfl ?_
  refine J_iinc (v := x7 + 1) (env' := [(7, .int (x7 + 1)), (6, .int y7), (0, .ref x0), (1, .ref x1), (3, .int x3), (4, .int x4), (5, .int x5)]) dX0_countBy_307 6 rfl rfl (by decide) rfl ?_
  refine J_goto (tgt := 218) dX0_countBy_310 rfl ?_
  exact J_cont [2, 3, 4, 5, 6, 1, 0] rfl
noncomputable def X0_countBy_b284 (x0 : Nat) (x1 : Nat) (x3 : Int32) (x4 : Int32) (x5 : Int32) (x6 : Int32) (x7 : Int32) : JM Mem (Int32 ⊕ (Int32 × Int32)) :=
  jb (jgetA 0 24 x0) fun v5 =>
  jb (jcall 0 x0 (f_X0_isKind x0 x1 v5 x3)) fun v6 =>
  if v6 = 0 then
    X0_countBy_b304 x0 x1 x3 x4 x5 x7 x6 0
  else
    X0_countBy_b304 x0 x1 x3 x4 x5 x7 x6 1
theorem j_X0_countBy_b284 (D : va_G) (dA : Nat → ClassId) (x0 : Nat) (x1 : Nat) (x3 : Int32) (x4 : Int32) (x5 : Int32) (x6 : Int32) (x7 : Int32) : J (PM D dA false) Y_X0_countBy [(0, .ref x0), (1, .ref x1), (3, .int x3), (4, .int x4), (5, .int x5), (6, .int x6), (7, .int x7)] [] 284 (X0_countBy_b284 x0 x1 x3 x4 x5 x6 x7) (FLoop (FRet injI) 218 (fun (t : Int32 × Int32) => [(0, .ref x0), (1, .ref x1), (3, .int x3), (4, .int x4), (5, .int x5), (6, .int t.1), (7, .int t.2)])) := by
  unfold X0_countBy_b284
  refine J_iload dX0_countBy_284 5 rfl ?_
  refine J_aload_n dX0_countBy_286 rfl 0 rfl ?_
  refine J_aload_n dX0_countBy_287 rfl 1 rfl ?_
  refine J_aload_n dX0_countBy_288 rfl 0 rfl ?_
  refine J_getA dX0_countBy_289 fl_X0_96 rfl (fun v5 => ?_)
  refine J_iload_n dX0_countBy_292 rfl 2 rfl ?_
  refine J_callVI (c := 0) (as := [.ref x1, .ref v5, .int x3]) dX0_countBy_293 (by decide) rfl (Nat.le_of_ble_eq_true rfl) (cw_X0_isKind _ (by decide)) q1217 q1219 qs31 q1220 np_X0_isKind (i_X0_isKind x0 x1 v5 x3) jad_id rfl (fun v6 => ?_)
  refine J_if_eq (tgt := 303) dX0_countBy_296 rfl ?_ ?_
  · refine J_iconst (v := 0) dX0_countBy_303 (by decide) ?_
    refine J_sub [0, 1, 2, 3, 4, 6] rfl ?_
    exact j_X0_countBy_b304 D dA x0 x1 x3 x4 x5 x7 x6 0
  refine J_iconst (v := 1) dX0_countBy_299 (by decide) ?_
  refine J_goto (tgt := 304) dX0_countBy_300 rfl ?_
  refine J_sub [0, 1, 2, 3, 4, 6] rfl ?_
  exact j_X0_countBy_b304 D dA x0 x1 x3 x4 x5 x7 x6 1
noncomputable def X0_countBy_L232 (x0 : Nat) (x1 : Nat) (x3 : Int32) (x4 : Int32) (x5 : Int32) (x6 : Int32) (x7 : Int32) (x8 : Int32) (x9 : Int32) : JM Mem ((Int32 ⊕ (Int32 × Int32)) ⊕ (Int32 × Int32)) :=
  if x4 ≤ x9 then
    jinl (X0_countBy_b284 x0 x1 x3 x4 x5 x6 x7)
  else
  jb (jgetA 0 24 x0) fun v8 =>
  jb (jgetA 4 0 v8) fun v9 =>
  jb (jgetA 0 25 x0) fun v10 =>
  jb (jald mI 0 v10 x9) fun v11 =>
  jb (jaldA 5 v9 v11) fun v12 =>
  jb (jgetA 0 26 x0) fun v13 =>
  jb (jald mI 0 v13 x9) fun v14 =>
  jb (jgetI 3 1 x1) fun v15 =>
  jb (jrem x8 v15) fun v16 =>
  jb (jast_i v12 v14 v16) fun _ =>
  jb (jgetI 3 1 x1) fun v17 =>
  jb (jdiv x8 v17) fun v18 =>
  jcont (v18, x9 + 1)
theorem j_X0_countBy_L232 (D : va_G) (dA : Nat → ClassId) (x0 : Nat) (x1 : Nat) (x3 : Int32) (x4 : Int32) (x5 : Int32) (x6 : Int32) (x7 : Int32) (x8 : Int32) (x9 : Int32) : J (PM D dA false) Y_X0_countBy [(0, .ref x0), (1, .ref x1), (3, .int x3), (4, .int x4), (5, .int x5), (6, .int x6), (7, .int x7), (8, .int x8), (9, .int x9)] [] 232 (X0_countBy_L232 x0 x1 x3 x4 x5 x6 x7 x8 x9) (FLoop (FLoop (FRet injI) 218 (fun (t : Int32 × Int32) => [(0, .ref x0), (1, .ref x1), (3, .int x3), (4, .int x4), (5, .int x5), (6, .int t.1), (7, .int t.2)])) 232 (fun (t : Int32 × Int32) => [(0, .ref x0), (1, .ref x1), (3, .int x3), (4, .int x4), (5, .int x5), (6, .int x6), (7, .int x7), (8, .int t.1), (9, .int t.2)])) := by
  unfold X0_countBy_L232
  refine J_iload dX0_countBy_232 8 rfl ?_
  refine J_iload dX0_countBy_234 3 rfl ?_
  refine J_icmp_ge (tgt := 284) dX0_countBy_236 rfl ?_ ?_
  · refine J_inl ?_
    refine J_sub [0, 1, 2, 3, 4, 5, 6] rfl ?_
    exact j_X0_countBy_b284 D dA x0 x1 x3 x4 x5 x6 x7
  refine J_aload_n dX0_countBy_239 rfl 0 rfl ?_
  refine J_getA dX0_countBy_240 fl_X0_96 rfl (fun v8 => ?_)
  refine J_getA dX0_countBy_243 fl_X0_305 rfl (fun v9 => ?_)
  refine J_aload_n dX0_countBy_246 rfl 0 rfl ?_
  refine J_getA dX0_countBy_247 fl_X0_99 rfl (fun v10 => ?_)
  refine J_iload dX0_countBy_250 8 rfl ?_
  refine J_iald dX0_countBy_252 (fun v11 => ?_)
  refine J_aald dX0_countBy_253 rfl (by decide) (fun v12 => ?_)
  refine J_aload_n dX0_countBy_254 rfl 0 rfl ?_
  refine J_getA dX0_countBy_255 fl_X0_102 rfl (fun v13 => ?_)
  refine J_iload dX0_countBy_258 8 rfl ?_
  refine J_iald dX0_countBy_260 (fun v14 => ?_)
  refine J_iload dX0_countBy_261 7 rfl ?_
  refine J_aload_n dX0_countBy_263 rfl 1 rfl ?_
  refine J_getI dX0_countBy_264 fl_X0_253 rfl (fun v15 => ?_)
  refine J_irem dX0_countBy_267 (fun v16 => ?_)
  refine J_iast dX0_countBy_268 ?_
  refine J_iload dX0_countBy_269 7 rfl ?_
  refine J_aload_n dX0_countBy_271 rfl 1 rfl ?_
  refine J_getI dX0_countBy_272 fl_X0_253 rfl (fun v17 => ?_)
  refine J_idiv dX0_countBy_275 (fun v18 => ?_)
  refine J_istore (env' := [(8, .int v18), (0, .ref x0), (1, .ref x1), (3, .int x3), (4, .int x4), (5, .int x5), (6, .int x6), (7, .int x7), (9, .int x9)]) dX0_countBy_276 (by decide) rfl ?_
  refine J_iinc (v := x9 + 1) (env' := [(9, .int (x9 + 1)), (8, .int v18), (0, .ref x0), (1, .ref x1), (3, .int x3), (4, .int x4), (5, .int x5), (6, .int x6), (7, .int x7)]) dX0_countBy_278 8 rfl rfl (by decide) rfl ?_
  refine J_goto (tgt := 232) dX0_countBy_281 rfl ?_
  exact J_cont [2, 3, 4, 5, 6, 7, 8, 1, 0] rfl
noncomputable def X0_countBy_L218 (x0 : Nat) (x1 : Nat) (x3 : Int32) (x4 : Int32) (x5 : Int32) (x6 : Int32) (x7 : Int32) : JM Mem (Int32 ⊕ (Int32 × Int32)) :=
  if x5 ≤ x7 then
    jinl (jp x6)
  else
    jloop (fun (t : Int32 × Int32) => X0_countBy_L232 x0 x1 x3 x4 x5 x6 x7 t.1 t.2) (x7, 0)
theorem j_X0_countBy_L218 (D : va_G) (dA : Nat → ClassId) (x0 : Nat) (x1 : Nat) (x3 : Int32) (x4 : Int32) (x5 : Int32) (x6 : Int32) (x7 : Int32) : J (PM D dA false) Y_X0_countBy [(0, .ref x0), (1, .ref x1), (3, .int x3), (4, .int x4), (5, .int x5), (6, .int x6), (7, .int x7)] [] 218 (X0_countBy_L218 x0 x1 x3 x4 x5 x6 x7) (FLoop (FRet injI) 218 (fun (t : Int32 × Int32) => [(0, .ref x0), (1, .ref x1), (3, .int x3), (4, .int x4), (5, .int x5), (6, .int t.1), (7, .int t.2)])) := by
  unfold X0_countBy_L218
  refine J_iload dX0_countBy_218 6 rfl ?_
  refine J_iload dX0_countBy_220 4 rfl ?_
  refine J_icmp_ge (tgt := 313) dX0_countBy_222 rfl ?_ ?_
  · refine J_inl ?_
    refine J_iload dX0_countBy_313 5 rfl ?_
    exact J_ireturn dX0_countBy_315 rfl
  refine J_iload dX0_countBy_225 6 rfl ?_
  refine J_istore (env' := [(8, .int x7), (0, .ref x0), (1, .ref x1), (3, .int x3), (4, .int x4), (5, .int x5), (6, .int x6), (7, .int x7)]) dX0_countBy_227 (by decide) rfl ?_
  refine J_iconst (v := 0) dX0_countBy_229 (by decide) ?_
  refine J_istore (env' := [(9, .int 0), (8, .int x7), (0, .ref x0), (1, .ref x1), (3, .int x3), (4, .int x4), (5, .int x5), (6, .int x6), (7, .int x7)]) dX0_countBy_230 (by decide) rfl ?_
  refine J_loop (he := fun (t : Int32 × Int32) => [(0, .ref x0), (1, .ref x1), (3, .int x3), (4, .int x4), (5, .int x5), (6, .int x6), (7, .int x7), (8, .int t.1), (9, .int t.2)]) [2, 3, 4, 5, 6, 7, 8, 1, 0] rfl (fun t => ?_)
  exact j_X0_countBy_L232 D dA x0 x1 x3 x4 x5 x6 x7 t.1 t.2
noncomputable def X0_countBy_b212 (x0 : Nat) (x1 : Nat) (x3 : Int32) (x4 : Int32) (x5 : Int32) : JM Mem Int32 :=
  jloop (fun (t : Int32 × Int32) => X0_countBy_L218 x0 x1 x3 x4 x5 t.1 t.2) (0, 0)
theorem j_X0_countBy_b212 (D : va_G) (dA : Nat → ClassId) (x0 : Nat) (x1 : Nat) (x3 : Int32) (x4 : Int32) (x5 : Int32) : J (PM D dA false) Y_X0_countBy [(0, .ref x0), (1, .ref x1), (3, .int x3), (4, .int x4), (5, .int x5)] [] 212 (X0_countBy_b212 x0 x1 x3 x4 x5) (FRet injI) := by
  unfold X0_countBy_b212
  refine J_iconst (v := 0) dX0_countBy_212 (by decide) ?_
  refine J_istore (env' := [(6, .int 0), (0, .ref x0), (1, .ref x1), (3, .int x3), (4, .int x4), (5, .int x5)]) dX0_countBy_213 (by decide) rfl ?_
  refine J_iconst (v := 0) dX0_countBy_215 (by decide) ?_
  refine J_istore (env' := [(7, .int 0), (6, .int 0), (0, .ref x0), (1, .ref x1), (3, .int x3), (4, .int x4), (5, .int x5)]) dX0_countBy_216 (by decide) rfl ?_
  refine J_loop (he := fun (t : Int32 × Int32) => [(0, .ref x0), (1, .ref x1), (3, .int x3), (4, .int x4), (5, .int x5), (6, .int t.1), (7, .int t.2)]) [2, 3, 4, 5, 6, 1, 0] rfl (fun t => ?_)
  exact j_X0_countBy_L218 D dA x0 x1 x3 x4 x5 t.1 t.2
noncomputable def X0_countBy_b206 (x0 : Nat) (x1 : Nat) (x2 : Int32) (x3 : Int32) (x4 : Int32) (x5 : Int32) (x6 : Int32) : JM Mem (Int32 ⊕ (Int32 × Int32 × Int32)) :=
  jcont (x4, x5, x6 + 1)
theorem j_X0_countBy_b206 (D : va_G) (dA : Nat → ClassId) (x0 : Nat) (x1 : Nat) (x2 : Int32) (x3 : Int32) (x4 : Int32) (x5 : Int32) (x6 : Int32) : J (PM D dA false) Y_X0_countBy [(0, .ref x0), (1, .ref x1), (2, .int x2), (3, .int x3), (4, .int x4), (5, .int x5), (6, .int x6)] [] 206 (X0_countBy_b206 x0 x1 x2 x3 x4 x5 x6) (FLoop (FRet injI) 122 (fun (t : Int32 × Int32 × Int32) => [(0, .ref x0), (1, .ref x1), (2, .int x2), (3, .int x3), (4, .int t.1), (5, .int t.2.1), (6, .int t.2.2)])) := by
  unfold X0_countBy_b206
  refine J_iinc (v := x6 + 1) (env' := [(6, .int (x6 + 1)), (0, .ref x0), (1, .ref x1), (2, .int x2), (3, .int x3), (4, .int x4), (5, .int x5)]) dX0_countBy_206 6 rfl rfl (by decide) rfl ?_
  refine J_goto (tgt := 122) dX0_countBy_209 rfl ?_
  exact J_cont [1, 2, 3, 4, 5, 6, 0] rfl
noncomputable def X0_countBy_b200 (x0 : Nat) (x1 : Nat) (x2 : Int32) (x3 : Int32) (x4 : Int32) (x5 : Int32) (x6 : Int32) (x7 : Int32) : JM Mem ((Int32 ⊕ (Int32 × Int32 × Int32)) ⊕ (Int32 × Int32 × Int32)) :=
  jcont (x4, x5, x7 + 1)
theorem j_X0_countBy_b200 (D : va_G) (dA : Nat → ClassId) (x0 : Nat) (x1 : Nat) (x2 : Int32) (x3 : Int32) (x4 : Int32) (x5 : Int32) (x6 : Int32) (x7 : Int32) : J (PM D dA false) Y_X0_countBy [(0, .ref x0), (1, .ref x1), (2, .int x2), (3, .int x3), (4, .int x4), (5, .int x5), (6, .int x6), (7, .int x7)] [] 200 (X0_countBy_b200 x0 x1 x2 x3 x4 x5 x6 x7) (FLoop (FLoop (FRet injI) 122 (fun (t : Int32 × Int32 × Int32) => [(0, .ref x0), (1, .ref x1), (2, .int x2), (3, .int x3), (4, .int t.1), (5, .int t.2.1), (6, .int t.2.2)])) 148 (fun (t : Int32 × Int32 × Int32) => [(0, .ref x0), (1, .ref x1), (2, .int x2), (3, .int x3), (4, .int t.1), (5, .int t.2.1), (6, .int x6), (7, .int t.2.2)])) := by
  unfold X0_countBy_b200
  refine J_iinc (v := x7 + 1) (env' := [(7, .int (x7 + 1)), (0, .ref x0), (1, .ref x1), (2, .int x2), (3, .int x3), (4, .int x4), (5, .int x5), (6, .int x6)]) dX0_countBy_200 7 rfl rfl (by decide) rfl ?_
  refine J_goto (tgt := 148) dX0_countBy_203 rfl ?_
  exact J_cont [1, 2, 3, 4, 5, 6, 7, 0] rfl
noncomputable def X0_countBy_L148 (x0 : Nat) (x1 : Nat) (x2 : Int32) (x3 : Int32) (x6 : Int32) (x4 : Int32) (x5 : Int32) (x7 : Int32) : JM Mem ((Int32 ⊕ (Int32 × Int32 × Int32)) ⊕ (Int32 × Int32 × Int32)) :=
  jb (jgetI 3 2 x1) fun v23 =>
  if v23 ≤ x7 then
    jinl (X0_countBy_b206 x0 x1 x2 x3 x4 x5 x6)
  else
  if (x2 >>> (x7 &&& 31)) &&& 1 = 1 then
    X0_countBy_b200 x0 x1 x2 x3 x4 x5 x6 x7
  else
  jb (jgetA 0 25 x0) fun v24 =>
  jb (jast_i v24 x4 x6) fun _ =>
  jb (jgetA 0 26 x0) fun v25 =>
  jb (jast_i v25 x4 x7) fun _ =>
  jb (jgetI 3 1 x1) fun v26 =>
  jlet (x5 * v26) fun y27 =>
  X0_countBy_b200 x0 x1 x2 x3 (x4 + 1) y27 x6 x7
theorem j_X0_countBy_L148 (D : va_G) (dA : Nat → ClassId) (x0 : Nat) (x1 : Nat) (x2 : Int32) (x3 : Int32) (x6 : Int32) (x4 : Int32) (x5 : Int32) (x7 : Int32) : J (PM D dA false) Y_X0_countBy [(0, .ref x0), (1, .ref x1), (2, .int x2), (3, .int x3), (4, .int x4), (5, .int x5), (6, .int x6), (7, .int x7)] [] 148 (X0_countBy_L148 x0 x1 x2 x3 x6 x4 x5 x7) (FLoop (FLoop (FRet injI) 122 (fun (t : Int32 × Int32 × Int32) => [(0, .ref x0), (1, .ref x1), (2, .int x2), (3, .int x3), (4, .int t.1), (5, .int t.2.1), (6, .int t.2.2)])) 148 (fun (t : Int32 × Int32 × Int32) => [(0, .ref x0), (1, .ref x1), (2, .int x2), (3, .int x3), (4, .int t.1), (5, .int t.2.1), (6, .int x6), (7, .int t.2.2)])) := by
  unfold X0_countBy_L148
  refine J_iload dX0_countBy_148 7 rfl ?_
  refine J_aload_n dX0_countBy_150 rfl 1 rfl ?_
  refine J_getI dX0_countBy_151 fl_X0_196 rfl (fun v23 => ?_)
  refine J_icmp_ge (tgt := 206) dX0_countBy_154 rfl ?_ ?_
  · refine J_inl ?_
    refine J_sub [0, 1, 2, 3, 4, 5, 6] rfl ?_
    exact j_X0_countBy_b206 D dA x0 x1 x2 x3 x4 x5 x6
  refine J_iload_n dX0_countBy_157 rfl 2 rfl ?_
  refine J_iload dX0_countBy_158 7 rfl ?_
  refine J_ishr dX0_countBy_160 ?_
  refine J_iconst (v := 1) dX0_countBy_161 (by decide) ?_
  refine J_iand dX0_countBy_162 ?_
  refine J_iconst (v := 1) dX0_countBy_163 (by decide) ?_
  refine J_icmp_ne (tgt := 170) dX0_countBy_164 rfl ?_ ?_
  · refine J_aload_n dX0_countBy_170 rfl 0 rfl ?_
    refine J_getA dX0_countBy_171 fl_X0_99 rfl (fun v24 => ?_)
    refine J_iload dX0_countBy_174 4 rfl ?_
    refine J_iload dX0_countBy_176 6 rfl ?_
    refine J_iast dX0_countBy_178 ?_
    refine J_aload_n dX0_countBy_179 rfl 0 rfl ?_
    refine J_getA dX0_countBy_180 fl_X0_102 rfl (fun v25 => ?_)
    refine J_iload dX0_countBy_183 4 rfl ?_
    refine J_iload dX0_countBy_185 7 rfl ?_
    refine J_iast dX0_countBy_187 ?_
    refine J_iinc (v := x4 + 1) (env' := [(4, .int (x4 + 1)), (0, .ref x0), (1, .ref x1), (2, .int x2), (3, .int x3), (5, .int x5), (6, .int x6), (7, .int x7)]) dX0_countBy_188 4 rfl rfl (by decide) rfl ?_
    refine J_iload dX0_countBy_191 5 rfl ?_
    refine J_aload_n dX0_countBy_193 rfl 2 rfl ?_
    refine J_getI dX0_countBy_194 fl_X0_253 rfl (fun v26 => ?_)
    refine J_imul dX0_countBy_197 ?_
    refine J_letI (fun y27 => ?_)
    refine J_istore (env' := [(5, .int y27), (4, .int (x4 + 1)), (0, .ref x0), (1, .ref x1), (2, .int x2), (3, .int x3), (6, .int x6), (7, .int x7)]) dX0_countBy_198 (by decide) rfl ?_
    refine J_sub [2, 3, 4, 5, 1, 0, 6, 7] rfl ?_
    exact j_X0_countBy_b200 D dA x0 x1 x2 x3 (x4 + 1) y27 x6 x7
  refine J_goto (tgt := 200) dX0_countBy_167 rfl ?_
  refine J_sub [0, 1, 2, 3, 4, 5, 6, 7] rfl ?_
  exact j_X0_countBy_b200 D dA x0 x1 x2 x3 x4 x5 x6 x7
noncomputable def X0_countBy_L122 (x0 : Nat) (x1 : Nat) (x2 : Int32) (x3 : Int32) (x4 : Int32) (x5 : Int32) (x6 : Int32) : JM Mem (Int32 ⊕ (Int32 × Int32 × Int32)) :=
  jb (jgetA 0 24 x0) fun v3 =>
  jb (jgetI 4 2 v3) fun v4 =>
  if v4 ≤ x6 then
    jinl (X0_countBy_b212 x0 x1 x3 x4 x5)
  else
  jb (jgetA 0 24 x0) fun v19 =>
  jb (jgetA 4 1 v19) fun v20 =>
  jb (jald mI 0 v20 x6) fun v21 =>
  jlet (v21 + 1) fun y22 =>
  jloop (fun (t : Int32 × Int32 × Int32) => X0_countBy_L148 x0 x1 x2 x3 x6 t.1 t.2.1 t.2.2) (x4, x5, y22)
theorem j_X0_countBy_L122 (D : va_G) (dA : Nat → ClassId) (x0 : Nat) (x1 : Nat) (x2 : Int32) (x3 : Int32) (x4 : Int32) (x5 : Int32) (x6 : Int32) : J (PM D dA false) Y_X0_countBy [(0, .ref x0), (1, .ref x1), (2, .int x2), (3, .int x3), (4, .int x4), (5, .int x5), (6, .int x6)] [] 122 (X0_countBy_L122 x0 x1 x2 x3 x4 x5 x6) (FLoop (FRet injI) 122 (fun (t : Int32 × Int32 × Int32) => [(0, .ref x0), (1, .ref x1), (2, .int x2), (3, .int x3), (4, .int t.1), (5, .int t.2.1), (6, .int t.2.2)])) := by
  unfold X0_countBy_L122
  refine J_iload dX0_countBy_122 6 rfl ?_
  refine J_aload_n dX0_countBy_124 rfl 0 rfl ?_
  refine J_getA dX0_countBy_125 fl_X0_96 rfl (fun v3 => ?_)
  refine J_getI dX0_countBy_128 fl_X0_302 rfl (fun v4 => ?_)
  refine J_icmp_ge (tgt := 212) dX0_countBy_131 rfl ?_ ?_
  · refine J_inl ?_
    refine J_sub [0, 1, 3, 4, 5] rfl ?_
    exact j_X0_countBy_b212 D dA x0 x1 x3 x4 x5
  refine J_aload_n dX0_countBy_134 rfl 0 rfl ?_
  refine J_getA dX0_countBy_135 fl_X0_96 rfl (fun v19 => ?_)
  refine J_getA dX0_countBy_138 fl_X0_403 rfl (fun v20 => ?_)
  refine J_iload dX0_countBy_141 6 rfl ?_
  refine J_iald dX0_countBy_143 (fun v21 => ?_)
  refine J_iconst (v := 1) dX0_countBy_144 (by decide) ?_
  refine J_iadd dX0_countBy_145 ?_
  refine J_letI (fun y22 => ?_)
  refine J_istore (env' := [(7, .int y22), (0, .ref x0), (1, .ref x1), (2, .int x2), (3, .int x3), (4, .int x4), (5, .int x5), (6, .int x6)]) dX0_countBy_146 (by decide) rfl ?_
  refine J_loop (he := fun (t : Int32 × Int32 × Int32) => [(0, .ref x0), (1, .ref x1), (2, .int x2), (3, .int x3), (4, .int t.1), (5, .int t.2.1), (6, .int x6), (7, .int t.2.2)]) [1, 2, 3, 4, 5, 6, 7, 0] rfl (fun t => ?_)
  exact j_X0_countBy_L148 D dA x0 x1 x2 x3 x6 t.1 t.2.1 t.2.2
noncomputable def X0_countBy_b113 (x0 : Nat) (x1 : Nat) (x2 : Int32) (x3 : Int32) : JM Mem Int32 :=
  jloop (fun (t : Int32 × Int32 × Int32) => X0_countBy_L122 x0 x1 x2 x3 t.1 t.2.1 t.2.2) (0, 1, 0)
theorem j_X0_countBy_b113 (D : va_G) (dA : Nat → ClassId) (x0 : Nat) (x1 : Nat) (x2 : Int32) (x3 : Int32) : J (PM D dA false) Y_X0_countBy [(0, .ref x0), (1, .ref x1), (2, .int x2), (3, .int x3)] [] 113 (X0_countBy_b113 x0 x1 x2 x3) (FRet injI) := by
  unfold X0_countBy_b113
  refine J_iconst (v := 0) dX0_countBy_113 (by decide) ?_
  refine J_istore (env' := [(4, .int 0), (0, .ref x0), (1, .ref x1), (2, .int x2), (3, .int x3)]) dX0_countBy_114 (by decide) rfl ?_
  refine J_iconst (v := 1) dX0_countBy_116 (by decide) ?_
  refine J_istore (env' := [(5, .int 1), (4, .int 0), (0, .ref x0), (1, .ref x1), (2, .int x2), (3, .int x3)]) dX0_countBy_117 (by decide) rfl ?_
  refine J_iconst (v := 0) dX0_countBy_119 (by decide) ?_
  refine J_istore (env' := [(6, .int 0), (5, .int 1), (4, .int 0), (0, .ref x0), (1, .ref x1), (2, .int x2), (3, .int x3)]) dX0_countBy_120 (by decide) rfl ?_
  refine J_loop (he := fun (t : Int32 × Int32 × Int32) => [(0, .ref x0), (1, .ref x1), (2, .int x2), (3, .int x3), (4, .int t.1), (5, .int t.2.1), (6, .int t.2.2)]) [3, 4, 5, 6, 2, 1, 0] rfl (fun t => ?_)
  exact j_X0_countBy_L122 D dA x0 x1 x2 x3 t.1 t.2.1 t.2.2
noncomputable def X0_countBy_b107 (x0 : Nat) (x1 : Nat) (x2 : Int32) (x3 : Int32) (x4 : Int32) : JM Mem (Int32 ⊕ (Int32)) :=
  jcont (x4 + 1)
theorem j_X0_countBy_b107 (D : va_G) (dA : Nat → ClassId) (x0 : Nat) (x1 : Nat) (x2 : Int32) (x3 : Int32) (x4 : Int32) : J (PM D dA false) Y_X0_countBy [(0, .ref x0), (1, .ref x1), (2, .int x2), (3, .int x3), (4, .int x4)] [] 107 (X0_countBy_b107 x0 x1 x2 x3 x4) (FLoop (FRet injI) 11 (fun (t : Int32) => [(0, .ref x0), (1, .ref x1), (2, .int x2), (3, .int x3), (4, .int t)])) := by
  unfold X0_countBy_b107
  refine J_iinc (v := x4 + 1) (env' := [(4, .int (x4 + 1)), (0, .ref x0), (1, .ref x1), (2, .int x2), (3, .int x3)]) dX0_countBy_107 4 rfl rfl (by decide) rfl ?_
  refine J_goto (tgt := 11) dX0_countBy_110 rfl ?_
  exact J_cont [1, 2, 3, 4, 0] rfl
noncomputable def X0_countBy_b77 (x0 : Nat) (x1 : Nat) (x2 : Int32) (x3 : Int32) (x4 : Int32) : JM Mem (Int32 ⊕ (Int32)) :=
  jb (jgetA 0 24 x0) fun v28 =>
  jb (jgetA 4 1 v28) fun v29 =>
  jb (jgetA 0 24 x0) fun v30 =>
  jb (jgetI 4 2 v30) fun v31 =>
  jb (jast_i v29 v31 x4) fun _ =>
  jb (jgetA 0 24 x0) fun v32 =>
  jb (jgetI 4 2 v32) fun v33 =>
  jb (jputI 4 2 v32 (v33 + 1)) fun _ =>
  X0_countBy_b107 x0 x1 x2 x3 x4
theorem j_X0_countBy_b77 (D : va_G) (dA : Nat → ClassId) (x0 : Nat) (x1 : Nat) (x2 : Int32) (x3 : Int32) (x4 : Int32) : J (PM D dA false) Y_X0_countBy [(0, .ref x0), (1, .ref x1), (2, .int x2), (3, .int x3), (4, .int x4)] [] 77 (X0_countBy_b77 x0 x1 x2 x3 x4) (FLoop (FRet injI) 11 (fun (t : Int32) => [(0, .ref x0), (1, .ref x1), (2, .int x2), (3, .int x3), (4, .int t)])) := by
  unfold X0_countBy_b77
  refine J_aload_n dX0_countBy_77 rfl 0 rfl ?_
  refine J_getA dX0_countBy_78 fl_X0_96 rfl (fun v28 => ?_)
  refine J_getA dX0_countBy_81 fl_X0_403 rfl (fun v29 => ?_)
  refine J_aload_n dX0_countBy_84 rfl 0 rfl ?_
  refine J_getA dX0_countBy_85 fl_X0_96 rfl (fun v30 => ?_)
  refine J_getI dX0_countBy_88 fl_X0_302 rfl (fun v31 => ?_)
  refine J_iload dX0_countBy_91 4 rfl ?_
  refine J_iast dX0_countBy_93 ?_
  refine J_aload_n dX0_countBy_94 rfl 0 rfl ?_
  refine J_getA dX0_countBy_95 fl_X0_96 rfl (fun v32 => ?_)
  refine J_dup dX0_countBy_98 rfl ?_
  refine J_getI dX0_countBy_99 fl_X0_302 rfl (fun v33 => ?_)
  refine J_iconst (v := 1) dX0_countBy_102 (by decide) ?_
  refine J_iadd dX0_countBy_103 ?_
  refine J_putI dX0_countBy_104 ⟨fl_X0_302, Or.inl rfl⟩ rfl ?_
  refine J_sub [0, 1, 2, 3, 4] rfl ?_
  exact j_X0_countBy_b107 D dA x0 x1 x2 x3 x4
noncomputable def X0_countBy_b70 (x0 : Nat) (x1 : Nat) (x2 : Int32) (x3 : Int32) (x4 : Int32) (x5 : Int32) (s0 : Nat) (s1 : Int32) (s2 : Int32) : JM Mem ((Int32 ⊕ (Int32)) ⊕ (Int32)) :=
  jb (jast_i s0 s1 s2) fun _ =>
  jcont (x5 + 1)
theorem j_X0_countBy_b70 (D : va_G) (dA : Nat → ClassId) (x0 : Nat) (x1 : Nat) (x2 : Int32) (x3 : Int32) (x4 : Int32) (x5 : Int32) (s0 : Nat) (s1 : Int32) (s2 : Int32) : J (PM D dA false) Y_X0_countBy [(0, .ref x0), (1, .ref x1), (2, .int x2), (3, .int x3), (4, .int x4), (5, .int x5)] [.int s2, .int s1, .ref s0] 70 (X0_countBy_b70 x0 x1 x2 x3 x4 x5 s0 s1 s2) (FLoop (FLoop (FRet injI) 11 (fun (t : Int32) => [(0, .ref x0), (1, .ref x1), (2, .int x2), (3, .int x3), (4, .int t)])) 35 (fun (t : Int32) => [(0, .ref x0), (1, .ref x1), (2, .int x2), (3, .int x3), (4, .int x4), (5, .int t)])) := by
  unfold X0_countBy_b70
  refine J_iast dX0_countBy_70 ?_
  refine J_iinc (v := x5 + 1) (env' := [(5, .int (x5 + 1)), (0, .ref x0), (1, .ref x1), (2, .int x2), (3, .int x3), (4, .int x4)]) dX0_countBy_71 5 rfl rfl (by decide) rfl ?_
  refine J_goto (tgt := 35) dX0_countBy_74 rfl ?_
  exact J_cont [1, 2, 3, 4, 5, 0] rfl
noncomputable def X0_countBy_L35 (x0 : Nat) (x1 : Nat) (x2 : Int32) (x3 : Int32) (x4 : Int32) (x5 : Int32) : JM Mem ((Int32 ⊕ (Int32)) ⊕ (Int32)) :=
  if 5 ≤ x5 then
    jinl (X0_countBy_b77 x0 x1 x2 x3 x4)
  else
  jb (jgetA 0 24 x0) fun v34 =>
  jb (jgetA 4 0 v34) fun v35 =>
  jb (jgetA 0 24 x0) fun v36 =>
  jb (jgetI 4 2 v36) fun v37 =>
  jb (jaldA 5 v35 v37) fun v38 =>
  if x5 = x4 then
    X0_countBy_b70 x0 x1 x2 x3 x4 x5 v38 x5 1
  else
    X0_countBy_b70 x0 x1 x2 x3 x4 x5 v38 x5 0
theorem j_X0_countBy_L35 (D : va_G) (dA : Nat → ClassId) (x0 : Nat) (x1 : Nat) (x2 : Int32) (x3 : Int32) (x4 : Int32) (x5 : Int32) : J (PM D dA false) Y_X0_countBy [(0, .ref x0), (1, .ref x1), (2, .int x2), (3, .int x3), (4, .int x4), (5, .int x5)] [] 35 (X0_countBy_L35 x0 x1 x2 x3 x4 x5) (FLoop (FLoop (FRet injI) 11 (fun (t : Int32) => [(0, .ref x0), (1, .ref x1), (2, .int x2), (3, .int x3), (4, .int t)])) 35 (fun (t : Int32) => [(0, .ref x0), (1, .ref x1), (2, .int x2), (3, .int x3), (4, .int x4), (5, .int t)])) := by
  unfold X0_countBy_L35
  refine J_iload dX0_countBy_35 5 rfl ?_
  refine J_iconst (v := 5) dX0_countBy_37 (by decide) ?_
  refine J_icmp_ge (tgt := 77) dX0_countBy_38 rfl ?_ ?_
  · refine J_inl ?_
    refine J_sub [0, 1, 2, 3, 4] rfl ?_
    exact j_X0_countBy_b77 D dA x0 x1 x2 x3 x4
  refine J_aload_n dX0_countBy_41 rfl 0 rfl ?_
  refine J_getA dX0_countBy_42 fl_X0_96 rfl (fun v34 => ?_)
  refine J_getA dX0_countBy_45 fl_X0_305 rfl (fun v35 => ?_)
  refine J_aload_n dX0_countBy_48 rfl 0 rfl ?_
  refine J_getA dX0_countBy_49 fl_X0_96 rfl (fun v36 => ?_)
  refine J_getI dX0_countBy_52 fl_X0_302 rfl (fun v37 => ?_)
  refine J_aald dX0_countBy_55 rfl (by decide) (fun v38 => ?_)
  refine J_iload dX0_countBy_56 5 rfl ?_
  refine J_iload dX0_countBy_58 5 rfl ?_
  refine J_iload dX0_countBy_60 4 rfl ?_
  refine J_icmp_ne (tgt := 69) dX0_countBy_62 rfl ?_ ?_
  · refine J_iconst (v := 0) dX0_countBy_69 (by decide) ?_
    refine J_sub [0, 1, 2, 3, 4, 5] rfl ?_
    exact j_X0_countBy_b70 D dA x0 x1 x2 x3 x4 x5 v38 x5 0
  refine J_iconst (v := 1) dX0_countBy_65 (by decide) ?_
  refine J_goto (tgt := 70) dX0_countBy_66 rfl ?_
  refine J_sub [0, 1, 2, 3, 4, 5] rfl ?_
  exact j_X0_countBy_b70 D dA x0 x1 x2 x3 x4 x5 v38 x5 1
noncomputable def X0_countBy_L11 (x0 : Nat) (x1 : Nat) (x2 : Int32) (x3 : Int32) (x4 : Int32) : JM Mem (Int32 ⊕ (Int32)) :=
  jb (jgetI 3 2 x1) fun v2 =>
  if v2 ≤ x4 then
    jinl (X0_countBy_b113 x0 x1 x2 x3)
  else
  if (x2 >>> (x4 &&& 31)) &&& 1 = 0 then
    X0_countBy_b107 x0 x1 x2 x3 x4
  else
    jloop (fun (t : Int32) => X0_countBy_L35 x0 x1 x2 x3 x4 t) 0
theorem j_X0_countBy_L11 (D : va_G) (dA : Nat → ClassId) (x0 : Nat) (x1 : Nat) (x2 : Int32) (x3 : Int32) (x4 : Int32) : J (PM D dA false) Y_X0_countBy [(0, .ref x0), (1, .ref x1), (2, .int x2), (3, .int x3), (4, .int x4)] [] 11 (X0_countBy_L11 x0 x1 x2 x3 x4) (FLoop (FRet injI) 11 (fun (t : Int32) => [(0, .ref x0), (1, .ref x1), (2, .int x2), (3, .int x3), (4, .int t)])) := by
  unfold X0_countBy_L11
  refine J_iload dX0_countBy_11 4 rfl ?_
  refine J_aload_n dX0_countBy_13 rfl 1 rfl ?_
  refine J_getI dX0_countBy_14 fl_X0_196 rfl (fun v2 => ?_)
  refine J_icmp_ge (tgt := 113) dX0_countBy_17 rfl ?_ ?_
  · refine J_inl ?_
    refine J_sub [0, 1, 2, 3] rfl ?_
    exact j_X0_countBy_b113 D dA x0 x1 x2 x3
  refine J_iload_n dX0_countBy_20 rfl 2 rfl ?_
  refine J_iload dX0_countBy_21 4 rfl ?_
  refine J_ishr dX0_countBy_23 ?_
  refine J_iconst (v := 1) dX0_countBy_24 (by decide) ?_
  refine J_iand dX0_countBy_25 ?_
  refine J_if_ne (tgt := 32) dX0_countBy_26 rfl ?_ ?_
  · refine J_iconst (v := 0) dX0_countBy_32 (by decide) ?_
    refine J_istore (env' := [(5, .int 0), (0, .ref x0), (1, .ref x1), (2, .int x2), (3, .int x3), (4, .int x4)]) dX0_countBy_33 (by decide) rfl ?_
    refine J_loop (he := fun (t : Int32) => [(0, .ref x0), (1, .ref x1), (2, .int x2), (3, .int x3), (4, .int x4), (5, .int t)]) [1, 2, 3, 4, 5, 0] rfl (fun t => ?_)
    exact j_X0_countBy_L35 D dA x0 x1 x2 x3 x4 t
  refine J_goto (tgt := 107) dX0_countBy_29 rfl ?_
  refine J_sub [0, 1, 2, 3, 4] rfl ?_
  exact j_X0_countBy_b107 D dA x0 x1 x2 x3 x4
noncomputable def f_X0_countBy (x0 : Nat) (x1 : Nat) (x2 : Int32) (x3 : Int32) : JM Mem Int32 :=
  jb (jgetA 0 24 x0) fun v1 =>
  jb (jputI 4 2 v1 0) fun _ =>
  jloop (fun (t : Int32) => X0_countBy_L11 x0 x1 x2 x3 t) 0
theorem j_X0_countBy (D : va_G) (dA : Nat → ClassId) (x0 : Nat) (x1 : Nat) (x2 : Int32) (x3 : Int32) : J (PM D dA false) Y_X0_countBy [(0, .ref x0), (1, .ref x1), (2, .int x2), (3, .int x3)] [] 0 (f_X0_countBy x0 x1 x2 x3) (FRet injI) := by
  unfold f_X0_countBy
  refine J_aload_n dX0_countBy_0 rfl 0 rfl ?_
  refine J_getA dX0_countBy_1 fl_X0_96 rfl (fun v1 => ?_)
  refine J_iconst (v := 0) dX0_countBy_4 (by decide) ?_
  refine J_putI dX0_countBy_5 ⟨fl_X0_302, Or.inl rfl⟩ rfl ?_
  refine J_iconst (v := 0) dX0_countBy_8 (by decide) ?_
  refine J_istore (env' := [(4, .int 0), (0, .ref x0), (1, .ref x1), (2, .int x2), (3, .int x3)]) dX0_countBy_9 (by decide) rfl ?_
  refine J_loop (he := fun (t : Int32) => [(0, .ref x0), (1, .ref x1), (2, .int x2), (3, .int x3), (4, .int t)]) [1, 2, 3, 4, 0] rfl (fun t => ?_)
  exact j_X0_countBy_L11 D dA x0 x1 x2 x3 t
theorem i_X0_countBy (x0 : Nat) (x1 : Nat) (x2 : Int32) (x3 : Int32) : Impl (ws_ yX0_countBy cX0_countBy 10 (some .int)) yX0_countBy 9 false 0 0 [.ref x0, .ref x1, .int x2, .int x3] (f_X0_countBy x0 x1 x2 x3) injI := impl_of (plainFor_of_name (by decide)) (Nat.le_of_ble_eq_true rfl) (fun D dA => j_X0_countBy D dA x0 x1 x2 x3)
theorem cw_X0_countBy (Y : JY) (h : 10 ≤ Y.2.2.2.1) : JCw Y (ws_ yX0_countBy cX0_countBy 10 (some .int)) yX0_countBy cX0_countBy 10 (some .int) 9 := ⟨h, by decide, lw_meth q1216, q187, by decide, by decide⟩
theorem np_X0_countBy : JNp yX0_countBy.desc 3 := by decide +kernel
-- BracketRoom.count(LBracketRoom$World;II)I
abbrev Y_X0_count : JY := (cX0_count, yX0_count.cls, 6, 10, yX0_count.name, (some .int), [])
noncomputable def X0_count_b39 (x0 : Nat) (x1 : Nat) (x2 : Int32) (x3 : Int32) (x4 : Int32) (x5 : Int32) : JM Mem (Int32 ⊕ (Int32 × Int32)) :=
  jcont (x4, x5 + 1)
theorem j_X0_count_b39 (D : va_G) (dA : Nat → ClassId) (x0 : Nat) (x1 : Nat) (x2 : Int32) (x3 : Int32) (x4 : Int32) (x5 : Int32) : J (PM D dA false) Y_X0_count [(0, .ref x0), (1, .ref x1), (2, .int x2), (3, .int x3), (4, .int x4), (5, .int x5)] [] 39 (X0_count_b39 x0 x1 x2 x3 x4 x5) (FLoop (FRet injI) 6 (fun (t : Int32 × Int32) => [(0, .ref x0), (1, .ref x1), (2, .int x2), (3, .int x3), (4, .int t.1), (5, .int t.2)])) := by
  unfold X0_count_b39
  refine J_iinc (v := x5 + 1) (env' := [(5, .int (x5 + 1)), (0, .ref x0), (1, .ref x1), (2, .int x2), (3, .int x3), (4, .int x4)]) dX0_count_39 5 rfl rfl (by decide) rfl ?_
  refine J_goto (tgt := 6) dX0_count_42 rfl ?_
  exact J_cont [1, 2, 3, 4, 5, 0] rfl
noncomputable def X0_count_L6 (x0 : Nat) (x1 : Nat) (x2 : Int32) (x3 : Int32) (x4 : Int32) (x5 : Int32) : JM Mem (Int32 ⊕ (Int32 × Int32)) :=
  jb (jgetI 3 2 x1) fun v1 =>
  if (1 : Int32) <<< (v1 &&& 31) ≤ x5 then
    jinl (jp x4)
  else
  jb ((f_J12_bitCount x5)) fun v2 =>
  if v2 = x2 then
    jb (jcall 0 x0 (f_X0_countBy x0 x1 x5 x3)) fun v3 =>
    jlet (x4 + v3) fun y4 =>
    X0_count_b39 x0 x1 x2 x3 y4 x5
  else
    X0_count_b39 x0 x1 x2 x3 x4 x5
theorem j_X0_count_L6 (D : va_G) (dA : Nat → ClassId) (x0 : Nat) (x1 : Nat) (x2 : Int32) (x3 : Int32) (x4 : Int32) (x5 : Int32) : J (PM D dA false) Y_X0_count [(0, .ref x0), (1, .ref x1), (2, .int x2), (3, .int x3), (4, .int x4), (5, .int x5)] [] 6 (X0_count_L6 x0 x1 x2 x3 x4 x5) (FLoop (FRet injI) 6 (fun (t : Int32 × Int32) => [(0, .ref x0), (1, .ref x1), (2, .int x2), (3, .int x3), (4, .int t.1), (5, .int t.2)])) := by
  unfold X0_count_L6
  refine J_iload dX0_count_6 5 rfl ?_
  refine J_iconst (v := 1) dX0_count_8 (by decide) ?_
  refine J_aload_n dX0_count_9 rfl 1 rfl ?_
  refine J_getI dX0_count_10 fl_X0_196 rfl (fun v1 => ?_)
  refine J_ishl dX0_count_13 ?_
  refine J_icmp_ge (tgt := 45) dX0_count_14 rfl ?_ ?_
  · refine J_inl ?_
    refine J_iload dX0_count_45 4 rfl ?_
    exact J_ireturn dX0_count_47 rfl
  refine J_iload dX0_count_17 5 rfl ?_
  refine J_callSI (host := "") (as := [.int x5]) dX0_count_19 rfl (Nat.le_of_ble_eq_true rfl) (cw_J12_bitCount _ (by decide)) q1207 q1208 q1209 np_J12_bitCount (i_J12_bitCount x5) jad_id rfl (fun v2 => ?_)
  refine J_iload_n dX0_count_22 rfl 2 rfl ?_
  refine J_icmp_ne (tgt := 39) dX0_count_23 rfl ?_ ?_
  · refine J_sub [0, 1, 2, 3, 4, 5] rfl ?_
    exact j_X0_count_b39 D dA x0 x1 x2 x3 x4 x5
  refine J_iload dX0_count_26 4 rfl ?_
  refine J_aload_n dX0_count_28 rfl 0 rfl ?_
  refine J_aload_n dX0_count_29 rfl 1 rfl ?_
  refine J_iload dX0_count_30 5 rfl ?_
  refine J_iload_n dX0_count_32 rfl 3 rfl ?_
  refine J_callVI (c := 0) (as := [.ref x1, .int x5, .int x3]) dX0_count_33 (by decide) rfl (Nat.le_of_ble_eq_true rfl) (cw_X0_countBy _ (by decide)) q1213 q1215 qs30 q1216 np_X0_countBy (i_X0_countBy x0 x1 x5 x3) jad_id rfl (fun v3 => ?_)
  refine J_iadd dX0_count_36 ?_
  refine J_letI (fun y4 => ?_)
  refine J_istore (env' := [(4, .int y4), (0, .ref x0), (1, .ref x1), (2, .int x2), (3, .int x3), (5, .int x5)]) dX0_count_37 (by decide) rfl ?_
  refine J_sub [1, 2, 3, 4, 0, 5] rfl ?_
  exact j_X0_count_b39 D dA x0 x1 x2 x3 y4 x5
noncomputable def f_X0_count (x0 : Nat) (x1 : Nat) (x2 : Int32) (x3 : Int32) : JM Mem Int32 :=
  jloop (fun (t : Int32 × Int32) => X0_count_L6 x0 x1 x2 x3 t.1 t.2) (0, 0)
theorem j_X0_count (D : va_G) (dA : Nat → ClassId) (x0 : Nat) (x1 : Nat) (x2 : Int32) (x3 : Int32) : J (PM D dA false) Y_X0_count [(0, .ref x0), (1, .ref x1), (2, .int x2), (3, .int x3)] [] 0 (f_X0_count x0 x1 x2 x3) (FRet injI) := by
  unfold f_X0_count
  refine J_iconst (v := 0) dX0_count_0 (by decide) ?_
  refine J_istore (env' := [(4, .int 0), (0, .ref x0), (1, .ref x1), (2, .int x2), (3, .int x3)]) dX0_count_1 (by decide) rfl ?_
  refine J_iconst (v := 0) dX0_count_3 (by decide) ?_
  refine J_istore (env' := [(5, .int 0), (4, .int 0), (0, .ref x0), (1, .ref x1), (2, .int x2), (3, .int x3)]) dX0_count_4 (by decide) rfl ?_
  refine J_loop (he := fun (t : Int32 × Int32) => [(0, .ref x0), (1, .ref x1), (2, .int x2), (3, .int x3), (4, .int t.1), (5, .int t.2)]) [2, 3, 4, 5, 1, 0] rfl (fun t => ?_)
  exact j_X0_count_L6 D dA x0 x1 x2 x3 t.1 t.2
theorem i_X0_count (x0 : Nat) (x1 : Nat) (x2 : Int32) (x3 : Int32) : Impl (ws_ yX0_count cX0_count 6 (some .int)) yX0_count 10 false 0 0 [.ref x0, .ref x1, .int x2, .int x3] (f_X0_count x0 x1 x2 x3) injI := impl_of (plainFor_of_name (by decide)) (Nat.le_of_ble_eq_true rfl) (fun D dA => j_X0_count D dA x0 x1 x2 x3)
theorem cw_X0_count (Y : JY) (h : 11 ≤ Y.2.2.2.1) : JCw Y (ws_ yX0_count cX0_count 6 (some .int)) yX0_count cX0_count 6 (some .int) 10 := ⟨h, by decide, lw_meth q1206, q187, by decide, by decide⟩
theorem np_X0_count : JNp yX0_count.desc 3 := by decide +kernel
-- BracketRoom.isSimple(LBracketRoom$World;)Z
abbrev Y_X0_isSimple : JY := (cX0_isSimple, yX0_isSimple.cls, 3, 11, yX0_isSimple.name, (some .boolean), [])
noncomputable def X0_isSimple_L13 (x0 : Nat) (x1 : Nat) (x2 : Int32) : JM Mem (Int32 ⊕ (Int32)) :=
  jb (jgetI 3 2 x1) fun v2 =>
  if v2 ≤ x2 then
    jinl (jp 1)
  else
  jb (jcall 0 x0 (f_X0_count x0 x1 x2 1)) fun v3 =>
  if v3 ≤ 0 then
    jcont (x2 + 1)
  else
    jinl (jp 0)
theorem j_X0_isSimple_L13 (D : va_G) (dA : Nat → ClassId) (x0 : Nat) (x1 : Nat) (x2 : Int32) : J (PM D dA false) Y_X0_isSimple [(0, .ref x0), (1, .ref x1), (2, .int x2)] [] 13 (X0_isSimple_L13 x0 x1 x2) (FLoop (FRet injI) 13 (fun (t : Int32) => [(0, .ref x0), (1, .ref x1), (2, .int t)])) := by
  unfold X0_isSimple_L13
  refine J_iload_n dX0_isSimple_13 rfl 2 rfl ?_
  refine J_aload_n dX0_isSimple_14 rfl 1 rfl ?_
  refine J_getI dX0_isSimple_15 fl_X0_196 rfl (fun v2 => ?_)
  refine J_icmp_ge (tgt := 39) dX0_isSimple_18 rfl ?_ ?_
  · refine J_inl ?_
    refine J_iconst (v := 1) dX0_isSimple_39 (by decide) ?_
    exact J_zreturn1 dX0_isSimple_40 rfl
  refine J_aload_n dX0_isSimple_21 rfl 0 rfl ?_
  refine J_aload_n dX0_isSimple_22 rfl 1 rfl ?_
  refine J_iload_n dX0_isSimple_23 rfl 2 rfl ?_
  refine J_iconst (v := 1) dX0_isSimple_24 (by decide) ?_
  refine J_callVI (c := 0) (as := [.ref x1, .int x2, .int 1]) dX0_isSimple_25 (by decide) rfl (Nat.le_of_ble_eq_true rfl) (cw_X0_count _ (by decide)) q1203 q1205 qs29 q1206 np_X0_count (i_X0_count x0 x1 x2 1) jad_id rfl (fun v3 => ?_)
  refine J_if_le (tgt := 33) dX0_isSimple_28 rfl ?_ ?_
  · refine J_iinc (v := x2 + 1) (env' := [(2, .int (x2 + 1)), (0, .ref x0), (1, .ref x1)]) dX0_isSimple_33 2 rfl rfl (by decide) rfl ?_
    refine J_goto (tgt := 13) dX0_isSimple_36 rfl ?_
    exact J_cont [1, 2, 0] rfl
  refine J_inl ?_
  refine J_iconst (v := 0) dX0_isSimple_31 (by decide) ?_
  exact J_zreturn0 dX0_isSimple_32 rfl
noncomputable def f_X0_isSimple (x0 : Nat) (x1 : Nat) : JM Mem Int32 :=
  jb (jcall 0 x0 (f_X0_derivedOf x0 x1 1)) fun v1 =>
  if v1 = 0 then
    jp 0
  else
    jloop (fun (t : Int32) => X0_isSimple_L13 x0 x1 t) 1
theorem j_X0_isSimple (D : va_G) (dA : Nat → ClassId) (x0 : Nat) (x1 : Nat) : J (PM D dA false) Y_X0_isSimple [(0, .ref x0), (1, .ref x1)] [] 0 (f_X0_isSimple x0 x1) (FRet injI) := by
  unfold f_X0_isSimple
  refine J_aload_n dX0_isSimple_0 rfl 0 rfl ?_
  refine J_aload_n dX0_isSimple_1 rfl 1 rfl ?_
  refine J_iconst (v := 1) dX0_isSimple_2 (by decide) ?_
  refine J_callVI (c := 0) (as := [.ref x1, .int 1]) dX0_isSimple_3 (by decide) rfl (Nat.le_of_ble_eq_true rfl) (cw_X0_derivedOf _ (by decide)) q1142 q1144 qs22 q1145 np_X0_derivedOf (i_X0_derivedOf x0 x1 1) jad_id rfl (fun v1 => ?_)
  refine J_if_ne (tgt := 11) dX0_isSimple_6 rfl ?_ ?_
  · refine J_iconst (v := 1) dX0_isSimple_11 (by decide) ?_
    refine J_istore_n (env' := [(2, .int 1), (0, .ref x0), (1, .ref x1)]) dX0_isSimple_12 rfl (by decide) rfl ?_
    refine J_loop (he := fun (t : Int32) => [(0, .ref x0), (1, .ref x1), (2, .int t)]) [1, 2, 0] rfl (fun t => ?_)
    exact j_X0_isSimple_L13 D dA x0 x1 t
  refine J_iconst (v := 0) dX0_isSimple_9 (by decide) ?_
  exact J_zreturn0 dX0_isSimple_10 rfl
theorem i_X0_isSimple (x0 : Nat) (x1 : Nat) : Impl (ws_ yX0_isSimple cX0_isSimple 3 (some .boolean)) yX0_isSimple 11 false 0 0 [.ref x0, .ref x1] (f_X0_isSimple x0 x1) injI := impl_of (plainFor_of_name (by decide)) (Nat.le_of_ble_eq_true rfl) (fun D dA => j_X0_isSimple D dA x0 x1)
theorem cw_X0_isSimple (Y : JY) (h : 12 ≤ Y.2.2.2.1) : JCw Y (ws_ yX0_isSimple cX0_isSimple 3 (some .boolean)) yX0_isSimple cX0_isSimple 3 (some .boolean) 11 := ⟨h, by decide, lw_meth q1202, q187, by decide, by decide⟩
theorem np_X0_isSimple : JNp yX0_isSimple.desc 1 := by decide +kernel
-- BracketRoom.isUnimodular(LBracketRoom$World;)Z
abbrev Y_X0_isUnimodular : JY := (cX0_isUnimodular, yX0_isUnimodular.cls, 5, 3, yX0_isUnimodular.name, (some .boolean), [])
noncomputable def X0_isUnimodular_b45 (x1 : Nat) (x2 : Int32) (x3 : Int32) : JM Mem (Int32 ⊕ (Int32)) :=
  jb (jcall 3 x1 (f_X4_by x1 x3)) fun v3 =>
  if v3 = 0 then
    jcont (x2 + 1)
  else
    jinl (jp 0)
theorem j_X0_isUnimodular_b45 (D : va_G) (dA : Nat → ClassId) (x1 : Nat) (x2 : Int32) (x3 : Int32) : J (PM D dA false) Y_X0_isUnimodular [(1, .ref x1), (2, .int x2), (3, .int x3)] [] 45 (X0_isUnimodular_b45 x1 x2 x3) (FLoop (FRet injI) 2 (fun (t : Int32) => [(1, .ref x1), (2, .int t)])) := by
  unfold X0_isUnimodular_b45
  refine J_aload_n dX0_isUnimodular_45 rfl 0 rfl ?_
  refine J_iload_n dX0_isUnimodular_46 rfl 2 rfl ?_
  refine J_callVI (c := 3) (as := [.int x3]) dX0_isUnimodular_47 (by decide) rfl (Nat.le_of_ble_eq_true rfl) (cw_X4_by _ (by decide)) q1067 q929 q930 q931 np_X4_by (i_X4_by x1 x3) jad_id rfl (fun v3 => ?_)
  refine J_if_eq (tgt := 55) dX0_isUnimodular_50 rfl ?_ ?_
  · refine J_iinc (v := x2 + 1) (env' := [(2, .int (x2 + 1)), (1, .ref x1), (3, .int x3)]) dX0_isUnimodular_55 1 rfl rfl (by decide) rfl ?_
    refine J_goto (tgt := 2) dX0_isUnimodular_58 rfl ?_
    exact J_cont [1, 0] rfl
  refine J_inl ?_
  refine J_iconst (v := 0) dX0_isUnimodular_53 (by decide) ?_
  exact J_zreturn0 dX0_isUnimodular_54 rfl
noncomputable def X0_isUnimodular_L15 (x1 : Nat) (x2 : Int32) (x3 : Int32) (x4 : Int32) : JM Mem ((Int32 ⊕ (Int32)) ⊕ (Int32 × Int32)) :=
  jb (jgetI 3 2 x1) fun v2 =>
  if v2 ≤ x4 then
    jinl (X0_isUnimodular_b45 x1 x2 x3)
  else
  jb (jgetA 3 0 x1) fun v4 =>
  jb (jaldA 6 v4 x2) fun v5 =>
  jb (jaldA 5 v5 x4) fun v6 =>
  jb (jald mI 0 v6 x4) fun v7 =>
  jlet (x3 + v7) fun y8 =>
  jcont (y8, x4 + 1)
theorem j_X0_isUnimodular_L15 (D : va_G) (dA : Nat → ClassId) (x1 : Nat) (x2 : Int32) (x3 : Int32) (x4 : Int32) : J (PM D dA false) Y_X0_isUnimodular [(1, .ref x1), (2, .int x2), (3, .int x3), (4, .int x4)] [] 15 (X0_isUnimodular_L15 x1 x2 x3 x4) (FLoop (FLoop (FRet injI) 2 (fun (t : Int32) => [(1, .ref x1), (2, .int t)])) 15 (fun (t : Int32 × Int32) => [(1, .ref x1), (2, .int x2), (3, .int t.1), (4, .int t.2)])) := by
  unfold X0_isUnimodular_L15
  refine J_iload dX0_isUnimodular_15 3 rfl ?_
  refine J_aload_n dX0_isUnimodular_17 rfl 0 rfl ?_
  refine J_getI dX0_isUnimodular_18 fl_X0_196 rfl (fun v2 => ?_)
  refine J_icmp_ge (tgt := 45) dX0_isUnimodular_21 rfl ?_ ?_
  · refine J_inl ?_
    refine J_sub [0, 1, 2] rfl ?_
    exact j_X0_isUnimodular_b45 D dA x1 x2 x3
  refine J_iload_n dX0_isUnimodular_24 rfl 2 rfl ?_
  refine J_aload_n dX0_isUnimodular_25 rfl 0 rfl ?_
  refine J_getA dX0_isUnimodular_26 fl_X0_256 rfl (fun v4 => ?_)
  refine J_iload_n dX0_isUnimodular_29 rfl 1 rfl ?_
  refine J_aald dX0_isUnimodular_30 rfl (by decide) (fun v5 => ?_)
  refine J_iload dX0_isUnimodular_31 3 rfl ?_
  refine J_aald dX0_isUnimodular_33 rfl (by decide) (fun v6 => ?_)
  refine J_iload dX0_isUnimodular_34 3 rfl ?_
  refine J_iald dX0_isUnimodular_36 (fun v7 => ?_)
  refine J_iadd dX0_isUnimodular_37 ?_
  refine J_letI (fun y8 => ?_)
  refine J_istore_n (env' := [(3, .int y8), (1, .ref x1), (2, .int x2), (4, .int x4)]) dX0_isUnimodular_38 rfl (by decide) rfl ?_
  refine J_iinc (v := x4 + 1) (env' := [(4, .int (x4 + 1)), (3, .int y8), (1, .ref x1), (2, .int x2)]) dX0_isUnimodular_39 3 rfl rfl (by decide) rfl ?_
  refine J_goto (tgt := 15) dX0_isUnimodular_42 rfl ?_
  exact J_cont [2, 3, 1, 0] rfl
noncomputable def X0_isUnimodular_L2 (x1 : Nat) (x2 : Int32) : JM Mem (Int32 ⊕ (Int32)) :=
  jb (jgetI 3 2 x1) fun v1 =>
  if v1 ≤ x2 then
    jinl (jp 1)
  else
    jloop (fun (t : Int32 × Int32) => X0_isUnimodular_L15 x1 x2 t.1 t.2) (0, 0)
theorem j_X0_isUnimodular_L2 (D : va_G) (dA : Nat → ClassId) (x1 : Nat) (x2 : Int32) : J (PM D dA false) Y_X0_isUnimodular [(1, .ref x1), (2, .int x2)] [] 2 (X0_isUnimodular_L2 x1 x2) (FLoop (FRet injI) 2 (fun (t : Int32) => [(1, .ref x1), (2, .int t)])) := by
  unfold X0_isUnimodular_L2
  refine J_iload_n dX0_isUnimodular_2 rfl 1 rfl ?_
  refine J_aload_n dX0_isUnimodular_3 rfl 0 rfl ?_
  refine J_getI dX0_isUnimodular_4 fl_X0_196 rfl (fun v1 => ?_)
  refine J_icmp_ge (tgt := 61) dX0_isUnimodular_7 rfl ?_ ?_
  · refine J_inl ?_
    refine J_iconst (v := 1) dX0_isUnimodular_61 (by decide) ?_
    exact J_zreturn1 dX0_isUnimodular_62 rfl
  refine J_iconst (v := 0) dX0_isUnimodular_10 (by decide) ?_
  refine J_istore_n (env' := [(3, .int 0), (1, .ref x1), (2, .int x2)]) dX0_isUnimodular_11 rfl (by decide) rfl ?_
  refine J_iconst (v := 0) dX0_isUnimodular_12 (by decide) ?_
  refine J_istore (env' := [(4, .int 0), (3, .int 0), (1, .ref x1), (2, .int x2)]) dX0_isUnimodular_13 (by decide) rfl ?_
  refine J_loop (he := fun (t : Int32 × Int32) => [(1, .ref x1), (2, .int x2), (3, .int t.1), (4, .int t.2)]) [2, 3, 1, 0] rfl (fun t => ?_)
  exact j_X0_isUnimodular_L15 D dA x1 x2 t.1 t.2
noncomputable def f_X0_isUnimodular (x0 : Nat) (x1 : Nat) : JM Mem Int32 :=
  jloop (fun (t : Int32) => X0_isUnimodular_L2 x1 t) 0
theorem j_X0_isUnimodular (D : va_G) (dA : Nat → ClassId) (x0 : Nat) (x1 : Nat) : J (PM D dA false) Y_X0_isUnimodular [(0, .ref x0), (1, .ref x1)] [] 0 (f_X0_isUnimodular x0 x1) (FRet injI) := by
  unfold f_X0_isUnimodular
  refine J_iconst (v := 0) dX0_isUnimodular_0 (by decide) ?_
  refine J_istore_n (env' := [(2, .int 0), (0, .ref x0), (1, .ref x1)]) dX0_isUnimodular_1 rfl (by decide) rfl ?_
  refine J_loop (he := fun (t : Int32) => [(1, .ref x1), (2, .int t)]) [2, 0] rfl (fun t => ?_)
  exact j_X0_isUnimodular_L2 D dA x1 t
theorem i_X0_isUnimodular (x0 : Nat) (x1 : Nat) : Impl (ws_ yX0_isUnimodular cX0_isUnimodular 5 (some .boolean)) yX0_isUnimodular 3 false 0 0 [.ref x0, .ref x1] (f_X0_isUnimodular x0 x1) injI := impl_of (plainFor_of_name (by decide)) (Nat.le_of_ble_eq_true rfl) (fun D dA => j_X0_isUnimodular D dA x0 x1)
theorem cw_X0_isUnimodular (Y : JY) (h : 4 ≤ Y.2.2.2.1) : JCw Y (ws_ yX0_isUnimodular cX0_isUnimodular 5 (some .boolean)) yX0_isUnimodular cX0_isUnimodular 5 (some .boolean) 3 := ⟨h, by decide, lw_meth q1253, q187, by decide, by decide⟩
theorem np_X0_isUnimodular : JNp yX0_isUnimodular.desc 1 := by decide +kernel
-- BracketRoom.is(I)I
abbrev Y_X0_is : JY := (cX0_is, yX0_is.cls, 3, 12, yX0_is.name, (some .int), [])
noncomputable def X0_is_b171 (s0 : Nat) (s1 : Int32) : JM Mem Int32 :=
  jb (jcall 0 s0 (f_X0_gives s0 s1)) fun v4 =>
  jp v4
theorem j_X0_is_b171 (D : va_G) (dA : Nat → ClassId) (s0 : Nat) (s1 : Int32) : J (PM D dA false) Y_X0_is [] [.int s1, .ref s0] 171 (X0_is_b171 s0 s1) (FRet injI) := by
  unfold X0_is_b171
  refine J_callVI (c := 0) (as := [.int s1]) dX0_is_171 (by decide) rfl (Nat.le_of_ble_eq_true rfl) (cw_X0_gives _ (by decide)) q944 q946 qs9 q947 np_X0_gives (i_X0_gives s0 s1) jad_id rfl (fun v4 => ?_)
  exact J_ireturn dX0_is_174 rfl
noncomputable def X0_is_b161 (x0 : Nat) (x2 : Int32) : JM Mem Int32 :=
  if x2 = 0 then
    X0_is_b171 x0 0
  else
    X0_is_b171 x0 1
theorem j_X0_is_b161 (D : va_G) (dA : Nat → ClassId) (x0 : Nat) (x2 : Int32) : J (PM D dA false) Y_X0_is [(0, .ref x0), (2, .int x2)] [] 161 (X0_is_b161 x0 x2) (FRet injI) := by
  unfold X0_is_b161
  refine J_aload_n dX0_is_161 rfl 0 rfl ?_
  refine J_iload_n dX0_is_162 rfl 1 rfl ?_
  refine J_if_eq (tgt := 170) dX0_is_163 rfl ?_ ?_
  · refine J_iconst (v := 0) dX0_is_170 (by decide) ?_
    refine J_sub [] rfl ?_
    exact j_X0_is_b171 D dA x0 0
  refine J_iconst (v := 1) dX0_is_166 (by decide) ?_
  refine J_goto (tgt := 171) dX0_is_167 rfl ?_
  refine J_sub [] rfl ?_
  exact j_X0_is_b171 D dA x0 1
noncomputable def X0_is_b57 (x0 : Nat) (s0 : Int32) : JM Mem Int32 :=
  X0_is_b161 x0 s0
theorem j_X0_is_b57 (D : va_G) (dA : Nat → ClassId) (x0 : Nat) (s0 : Int32) : J (PM D dA false) Y_X0_is [(0, .ref x0)] [.int s0] 57 (X0_is_b57 x0 s0) (FRet injI) := by
  unfold X0_is_b57
  refine J_istore_n (env' := [(2, .int s0), (0, .ref x0)]) dX0_is_57 rfl (by decide) rfl ?_
  refine J_goto (tgt := 161) dX0_is_58 rfl ?_
  refine J_sub [1, 0] rfl ?_
  exact j_X0_is_b161 D dA x0 s0
noncomputable def X0_is_b78 (x0 : Nat) (s0 : Int32) : JM Mem Int32 :=
  X0_is_b161 x0 s0
theorem j_X0_is_b78 (D : va_G) (dA : Nat → ClassId) (x0 : Nat) (s0 : Int32) : J (PM D dA false) Y_X0_is [(0, .ref x0)] [.int s0] 78 (X0_is_b78 x0 s0) (FRet injI) := by
  unfold X0_is_b78
  refine J_istore_n (env' := [(2, .int s0), (0, .ref x0)]) dX0_is_78 rfl (by decide) rfl ?_
  refine J_goto (tgt := 161) dX0_is_79 rfl ?_
  refine J_sub [1, 0] rfl ?_
  exact j_X0_is_b161 D dA x0 s0
noncomputable def X0_is_b99 (x0 : Nat) (s0 : Int32) : JM Mem Int32 :=
  X0_is_b161 x0 s0
theorem j_X0_is_b99 (D : va_G) (dA : Nat → ClassId) (x0 : Nat) (s0 : Int32) : J (PM D dA false) Y_X0_is [(0, .ref x0)] [.int s0] 99 (X0_is_b99 x0 s0) (FRet injI) := by
  unfold X0_is_b99
  refine J_istore_n (env' := [(2, .int s0), (0, .ref x0)]) dX0_is_99 rfl (by decide) rfl ?_
  refine J_goto (tgt := 161) dX0_is_100 rfl ?_
  refine J_sub [1, 0] rfl ?_
  exact j_X0_is_b161 D dA x0 s0
noncomputable def X0_is_b127 (x0 : Nat) (s0 : Int32) : JM Mem Int32 :=
  X0_is_b161 x0 s0
theorem j_X0_is_b127 (D : va_G) (dA : Nat → ClassId) (x0 : Nat) (s0 : Int32) : J (PM D dA false) Y_X0_is [(0, .ref x0)] [.int s0] 127 (X0_is_b127 x0 s0) (FRet injI) := by
  unfold X0_is_b127
  refine J_istore_n (env' := [(2, .int s0), (0, .ref x0)]) dX0_is_127 rfl (by decide) rfl ?_
  refine J_goto (tgt := 161) dX0_is_128 rfl ?_
  refine J_sub [1, 0] rfl ?_
  exact j_X0_is_b161 D dA x0 s0
noncomputable def f_X0_is (x0 : Nat) (x1 : Int32) : JM Mem Int32 :=
  jsw x1 0 [
    jb (jgetA 0 2 x0) fun v2 =>
    jb (jcall 0 x0 (f_X0_derivedOf x0 v2 1)) fun v3 =>
    if v3 = 0 then
      X0_is_b57 x0 1
    else
      X0_is_b57 x0 0,
    jb (jgetA 0 2 x0) fun v5 =>
    jb (jcall 0 x0 (f_X0_lowerOf x0 v5 5)) fun v6 =>
    if v6 = 0 then
      X0_is_b78 x0 1
    else
      X0_is_b78 x0 0,
    jb (jgetA 0 2 x0) fun v7 =>
    jb (jcall 0 x0 (f_X0_derivedOf x0 v7 5)) fun v8 =>
    if v8 = 0 then
      X0_is_b99 x0 1
    else
      X0_is_b99 x0 0,
    jb (jgetA 0 2 x0) fun v9 =>
    jb (jcall 0 x0 (f_X0_derivedOf x0 v9 1)) fun v10 =>
    jb (jgetA 0 2 x0) fun v11 =>
    jb (jgetI 3 2 v11) fun v12 =>
    if v10 = v12 then
      X0_is_b127 x0 1
    else
      X0_is_b127 x0 0,
    jb (jgetA 0 2 x0) fun v13 =>
    jb (jcall 0 x0 (f_X0_isSimple x0 v13)) fun v14 =>
    X0_is_b161 x0 v14,
    jb (jgetA 0 2 x0) fun v15 =>
    jb (jcall 0 x0 (f_X0_isUnimodular x0 v15)) fun v16 =>
    X0_is_b161 x0 v16] (
    jb (jcall 0 x0 (f_X0_none x0 5)) fun v1 =>
    jp v1)
set_option maxHeartbeats 8000000 in
theorem j_X0_is (D : va_G) (dA : Nat → ClassId) (x0 : Nat) (x1 : Int32) : J (PM D dA false) Y_X0_is [(0, .ref x0), (1, .int x1)] [] 0 (f_X0_is x0 x1) (FRet injI) := by
  unfold f_X0_is
  refine J_iload_n dX0_is_0 rfl 1 rfl ?_
  refine J_tswA [40, 61, 82, 103, 131, 143] dX0_is_1 (tgt := 155) rfl rfl rfl rfl ?_ ⟨?_, ?_, ?_, ?_, ?_, ?_, trivial⟩
  · refine J_aload_n dX0_is_155 rfl 0 rfl ?_
    refine J_iconst (v := 5) dX0_is_156 (by decide) ?_
    refine J_callVI (c := 0) (as := [.int 5]) dX0_is_157 (by decide) rfl (Nat.le_of_ble_eq_true rfl) (cw_X0_none _ (by decide)) q729 q731 qs3 q732 np_X0_none (i_X0_none x0 5) jad_id rfl (fun v1 => ?_)
    exact J_ireturn dX0_is_160 rfl
  · refine J_aload_n dX0_is_40 rfl 0 rfl ?_
    refine J_aload_n dX0_is_41 rfl 0 rfl ?_
    refine J_getA dX0_is_42 fl_X0_30 rfl (fun v2 => ?_)
    refine J_iconst (v := 1) dX0_is_45 (by decide) ?_
    refine J_callVI (c := 0) (as := [.ref v2, .int 1]) dX0_is_46 (by decide) rfl (Nat.le_of_ble_eq_true rfl) (cw_X0_derivedOf _ (by decide)) q1142 q1144 qs22 q1145 np_X0_derivedOf (i_X0_derivedOf x0 v2 1) jad_id rfl (fun v3 => ?_)
    refine J_if_ne (tgt := 56) dX0_is_49 rfl ?_ ?_
    · refine J_iconst (v := 0) dX0_is_56 (by decide) ?_
      refine J_sub [0] rfl ?_
      exact j_X0_is_b57 D dA x0 0
    refine J_iconst (v := 1) dX0_is_52 (by decide) ?_
    refine J_goto (tgt := 57) dX0_is_53 rfl ?_
    refine J_sub [0] rfl ?_
    exact j_X0_is_b57 D dA x0 1
  · refine J_aload_n dX0_is_61 rfl 0 rfl ?_
    refine J_aload_n dX0_is_62 rfl 0 rfl ?_
    refine J_getA dX0_is_63 fl_X0_30 rfl (fun v5 => ?_)
    refine J_iconst (v := 5) dX0_is_66 (by decide) ?_
    refine J_callVI (c := 0) (as := [.ref v5, .int 5]) dX0_is_67 (by decide) rfl (Nat.le_of_ble_eq_true rfl) (cw_X0_lowerOf _ (by decide)) q1158 q1160 qs24 q1161 np_X0_lowerOf (i_X0_lowerOf x0 v5 5) jad_id rfl (fun v6 => ?_)
    refine J_if_ne (tgt := 77) dX0_is_70 rfl ?_ ?_
    · refine J_iconst (v := 0) dX0_is_77 (by decide) ?_
      refine J_sub [0] rfl ?_
      exact j_X0_is_b78 D dA x0 0
    refine J_iconst (v := 1) dX0_is_73 (by decide) ?_
    refine J_goto (tgt := 78) dX0_is_74 rfl ?_
    refine J_sub [0] rfl ?_
    exact j_X0_is_b78 D dA x0 1
  · refine J_aload_n dX0_is_82 rfl 0 rfl ?_
    refine J_aload_n dX0_is_83 rfl 0 rfl ?_
    refine J_getA dX0_is_84 fl_X0_30 rfl (fun v7 => ?_)
    refine J_iconst (v := 5) dX0_is_87 (by decide) ?_
    refine J_callVI (c := 0) (as := [.ref v7, .int 5]) dX0_is_88 (by decide) rfl (Nat.le_of_ble_eq_true rfl) (cw_X0_derivedOf _ (by decide)) q1142 q1144 qs22 q1145 np_X0_derivedOf (i_X0_derivedOf x0 v7 5) jad_id rfl (fun v8 => ?_)
    refine J_if_ne (tgt := 98) dX0_is_91 rfl ?_ ?_
    · refine J_iconst (v := 0) dX0_is_98 (by decide) ?_
      refine J_sub [0] rfl ?_
      exact j_X0_is_b99 D dA x0 0
    refine J_iconst (v := 1) dX0_is_94 (by decide) ?_
    refine J_goto (tgt := 99) dX0_is_95 rfl ?_
    refine J_sub [0] rfl ?_
    exact j_X0_is_b99 D dA x0 1
  · refine J_aload_n dX0_is_103 rfl 0 rfl ?_
    refine J_aload_n dX0_is_104 rfl 0 rfl ?_
    refine J_getA dX0_is_105 fl_X0_30 rfl (fun v9 => ?_)
    refine J_iconst (v := 1) dX0_is_108 (by decide) ?_
    refine J_callVI (c := 0) (as := [.ref v9, .int 1]) dX0_is_109 (by decide) rfl (Nat.le_of_ble_eq_true rfl) (cw_X0_derivedOf _ (by decide)) q1142 q1144 qs22 q1145 np_X0_derivedOf (i_X0_derivedOf x0 v9 1) jad_id rfl (fun v10 => ?_)
    refine J_aload_n dX0_is_112 rfl 0 rfl ?_
    refine J_getA dX0_is_113 fl_X0_30 rfl (fun v11 => ?_)
    refine J_getI dX0_is_116 fl_X0_196 rfl (fun v12 => ?_)
    refine J_icmp_ne (tgt := 126) dX0_is_119 rfl ?_ ?_
    · refine J_iconst (v := 0) dX0_is_126 (by decide) ?_
      refine J_sub [0] rfl ?_
      exact j_X0_is_b127 D dA x0 0
    refine J_iconst (v := 1) dX0_is_122 (by decide) ?_
    refine J_goto (tgt := 127) dX0_is_123 rfl ?_
    refine J_sub [0] rfl ?_
    exact j_X0_is_b127 D dA x0 1
  · refine J_aload_n dX0_is_131 rfl 0 rfl ?_
    refine J_aload_n dX0_is_132 rfl 0 rfl ?_
    refine J_getA dX0_is_133 fl_X0_30 rfl (fun v13 => ?_)
    refine J_callVI (c := 0) (as := [.ref v13]) dX0_is_136 (by decide) rfl (Nat.le_of_ble_eq_true rfl) (cw_X0_isSimple _ (by decide)) q1199 q1201 qs28 q1202 np_X0_isSimple (i_X0_isSimple x0 v13) jad_id rfl (fun v14 => ?_)
    refine J_istore_n (env' := [(2, .int v14), (0, .ref x0), (1, .int x1)]) dX0_is_139 rfl (by decide) rfl ?_
    refine J_goto (tgt := 161) dX0_is_140 rfl ?_
    refine J_sub [1, 0] rfl ?_
    exact j_X0_is_b161 D dA x0 v14
  · refine J_aload_n dX0_is_143 rfl 0 rfl ?_
    refine J_aload_n dX0_is_144 rfl 0 rfl ?_
    refine J_getA dX0_is_145 fl_X0_30 rfl (fun v15 => ?_)
    refine J_callVI (c := 0) (as := [.ref v15]) dX0_is_148 (by decide) rfl (Nat.le_of_ble_eq_true rfl) (cw_X0_isUnimodular _ (by decide)) q1250 q1252 qs38 q1253 np_X0_isUnimodular (i_X0_isUnimodular x0 v15) jad_id rfl (fun v16 => ?_)
    refine J_istore_n (env' := [(2, .int v16), (0, .ref x0), (1, .int x1)]) dX0_is_151 rfl (by decide) rfl ?_
    refine J_goto (tgt := 161) dX0_is_152 rfl ?_
    refine J_sub [1, 0] rfl ?_
    exact j_X0_is_b161 D dA x0 v16
theorem i_X0_is (x0 : Nat) (x1 : Int32) : Impl (ws_ yX0_is cX0_is 3 (some .int)) yX0_is 12 false 0 0 [.ref x0, .int x1] (f_X0_is x0 x1) injI := impl_of (plainFor_of_name (by decide)) (Nat.le_of_ble_eq_true rfl) (fun D dA => j_X0_is D dA x0 x1)
theorem cw_X0_is (Y : JY) (h : 13 ≤ Y.2.2.2.1) : JCw Y (ws_ yX0_is cX0_is 3 (some .int)) yX0_is cX0_is 3 (some .int) 12 := ⟨h, by decide, lw_meth q1198, q187, by decide, by decide⟩
theorem np_X0_is : JNp yX0_is.desc 1 := by decide +kernel
-- BracketRoom.radical(I)I
abbrev Y_X0_radical : JY := (cX0_radical, yX0_radical.cls, 3, 11, yX0_radical.name, (some .int), [])
noncomputable def X0_radical_b9 (x0 : Nat) : JM Mem Int32 :=
  jb (jcall 0 x0 (f_X0_none x0 5)) fun v1 =>
  jp v1
theorem j_X0_radical_b9 (D : va_G) (dA : Nat → ClassId) (x0 : Nat) : J (PM D dA false) Y_X0_radical [(0, .ref x0)] [] 9 (X0_radical_b9 x0) (FRet injI) := by
  unfold X0_radical_b9
  refine J_aload_n dX0_radical_9 rfl 0 rfl ?_
  refine J_iconst (v := 5) dX0_radical_10 (by decide) ?_
  refine J_callVI (c := 0) (as := [.int 5]) dX0_radical_11 (by decide) rfl (Nat.le_of_ble_eq_true rfl) (cw_X0_none _ (by decide)) q729 q731 qs3 q732 np_X0_none (i_X0_none x0 5) jad_id rfl (fun v1 => ?_)
  exact J_ireturn dX0_radical_14 rfl
noncomputable def X0_radical_b50 (x0 : Nat) (x2 : Int32) : JM Mem Int32 :=
  jb (jcall 0 x0 (f_X0_gives x0 x2)) fun v6 =>
  jp v6
theorem j_X0_radical_b50 (D : va_G) (dA : Nat → ClassId) (x0 : Nat) (x2 : Int32) : J (PM D dA false) Y_X0_radical [(0, .ref x0), (2, .int x2)] [] 50 (X0_radical_b50 x0 x2) (FRet injI) := by
  unfold X0_radical_b50
  refine J_aload_n dX0_radical_50 rfl 0 rfl ?_
  refine J_iload_n dX0_radical_51 rfl 1 rfl ?_
  refine J_callVI (c := 0) (as := [.int x2]) dX0_radical_52 (by decide) rfl (Nat.le_of_ble_eq_true rfl) (cw_X0_gives _ (by decide)) q944 q946 qs9 q947 np_X0_gives (i_X0_gives x0 x2) jad_id rfl (fun v6 => ?_)
  exact J_ireturn dX0_radical_55 rfl
noncomputable def X0_radical_b38 (x0 : Nat) (x1 : Int32) (x2 : Int32) (s0 : Nat) (s1 : Nat) (s2 : Int32) (s3 : Int32) : JM Mem (Int32 ⊕ (Int32)) :=
  jb (jcall 0 s0 (f_X0_count s0 s1 s2 s3)) fun v5 =>
  if v5 = 0 then
    jcont (x2 + (-1))
  else
    jinl (X0_radical_b50 x0 x2)
theorem j_X0_radical_b38 (D : va_G) (dA : Nat → ClassId) (x0 : Nat) (x1 : Int32) (x2 : Int32) (s0 : Nat) (s1 : Nat) (s2 : Int32) (s3 : Int32) : J (PM D dA false) Y_X0_radical [(0, .ref x0), (1, .int x1), (2, .int x2)] [.int s3, .int s2, .ref s1, .ref s0] 38 (X0_radical_b38 x0 x1 x2 s0 s1 s2 s3) (FLoop (FRet injI) 23 (fun (t : Int32) => [(0, .ref x0), (1, .int x1), (2, .int t)])) := by
  unfold X0_radical_b38
  refine J_callVI (c := 0) (as := [.ref s1, .int s2, .int s3]) dX0_radical_38 (by decide) rfl (Nat.le_of_ble_eq_true rfl) (cw_X0_count _ (by decide)) q1203 q1205 qs29 q1206 np_X0_count (i_X0_count s0 s1 s2 s3) jad_id rfl (fun v5 => ?_)
  refine J_if_ne (tgt := 50) dX0_radical_41 rfl ?_ ?_
  · refine J_inl ?_
    refine J_sub [0, 2] rfl ?_
    exact j_X0_radical_b50 D dA x0 x2
  refine J_iinc (v := x2 + (-1)) (env' := [(2, .int (x2 + (-1))), (0, .ref x0), (1, .int x1)]) dX0_radical_44 2 rfl rfl (by decide) rfl ?_
  refine J_goto (tgt := 23) dX0_radical_47 rfl ?_
  exact J_cont [1, 2, 0] rfl
noncomputable def X0_radical_L23 (x0 : Nat) (x1 : Int32) (x2 : Int32) : JM Mem (Int32 ⊕ (Int32)) :=
  jb (jgetA 0 2 x0) fun v4 =>
  if x1 = 0 then
    X0_radical_b38 x0 x1 x2 x0 v4 x2 4
  else
    X0_radical_b38 x0 x1 x2 x0 v4 x2 5
theorem j_X0_radical_L23 (D : va_G) (dA : Nat → ClassId) (x0 : Nat) (x1 : Int32) (x2 : Int32) : J (PM D dA false) Y_X0_radical [(0, .ref x0), (1, .int x1), (2, .int x2)] [] 23 (X0_radical_L23 x0 x1 x2) (FLoop (FRet injI) 23 (fun (t : Int32) => [(0, .ref x0), (1, .int x1), (2, .int t)])) := by
  unfold X0_radical_L23
  refine J_aload_n dX0_radical_23 rfl 0 rfl ?_
  refine J_aload_n dX0_radical_24 rfl 0 rfl ?_
  refine J_getA dX0_radical_25 fl_X0_30 rfl (fun v4 => ?_)
  refine J_iload_n dX0_radical_28 rfl 2 rfl ?_
  refine J_iload_n dX0_radical_29 rfl 1 rfl ?_
  refine J_if_ne (tgt := 37) dX0_radical_30 rfl ?_ ?_
  · refine J_iconst (v := 5) dX0_radical_37 (by decide) ?_
    refine J_sub [0, 1, 2] rfl ?_
    exact j_X0_radical_b38 D dA x0 x1 x2 x0 v4 x2 5
  refine J_iconst (v := 4) dX0_radical_33 (by decide) ?_
  refine J_goto (tgt := 38) dX0_radical_34 rfl ?_
  refine J_sub [0, 1, 2] rfl ?_
  exact j_X0_radical_b38 D dA x0 x1 x2 x0 v4 x2 4
noncomputable def f_X0_radical (x0 : Nat) (x1 : Int32) : JM Mem Int32 :=
  if x1 < 0 then
    X0_radical_b9 x0
  else
  if x1 ≤ 1 then
    jb (jgetA 0 2 x0) fun v2 =>
    jb (jgetI 3 2 v2) fun v3 =>
    jloop (fun (t : Int32) => X0_radical_L23 x0 x1 t) v3
  else
    X0_radical_b9 x0
theorem j_X0_radical (D : va_G) (dA : Nat → ClassId) (x0 : Nat) (x1 : Int32) : J (PM D dA false) Y_X0_radical [(0, .ref x0), (1, .int x1)] [] 0 (f_X0_radical x0 x1) (FRet injI) := by
  unfold f_X0_radical
  refine J_iload_n dX0_radical_0 rfl 1 rfl ?_
  refine J_if_lt (tgt := 9) dX0_radical_1 rfl ?_ ?_
  · refine J_sub [0] rfl ?_
    exact j_X0_radical_b9 D dA x0
  refine J_iload_n dX0_radical_4 rfl 1 rfl ?_
  refine J_iconst (v := 1) dX0_radical_5 (by decide) ?_
  refine J_icmp_le (tgt := 15) dX0_radical_6 rfl ?_ ?_
  · refine J_aload_n dX0_radical_15 rfl 0 rfl ?_
    refine J_getA dX0_radical_16 fl_X0_30 rfl (fun v2 => ?_)
    refine J_getI dX0_radical_19 fl_X0_196 rfl (fun v3 => ?_)
    refine J_istore_n (env' := [(2, .int v3), (0, .ref x0), (1, .int x1)]) dX0_radical_22 rfl (by decide) rfl ?_
    refine J_loop (he := fun (t : Int32) => [(0, .ref x0), (1, .int x1), (2, .int t)]) [1, 2, 0] rfl (fun t => ?_)
    exact j_X0_radical_L23 D dA x0 x1 t
  refine J_sub [0] rfl ?_
  exact j_X0_radical_b9 D dA x0
theorem i_X0_radical (x0 : Nat) (x1 : Int32) : Impl (ws_ yX0_radical cX0_radical 3 (some .int)) yX0_radical 11 false 0 0 [.ref x0, .int x1] (f_X0_radical x0 x1) injI := impl_of (plainFor_of_name (by decide)) (Nat.le_of_ble_eq_true rfl) (fun D dA => j_X0_radical D dA x0 x1)
theorem cw_X0_radical (Y : JY) (h : 12 ≤ Y.2.2.2.1) : JCw Y (ws_ yX0_radical cX0_radical 3 (some .int)) yX0_radical cX0_radical 3 (some .int) 11 := ⟨h, by decide, lw_meth q1257, q187, by decide, by decide⟩
theorem np_X0_radical : JNp yX0_radical.desc 1 := by decide +kernel
-- BracketRoom.parts(II)I
abbrev Y_X0_parts : JY := (cX0_parts, yX0_parts.cls, 3, 11, yX0_parts.name, (some .int), [])
noncomputable def X0_parts_b43 (x0 : Nat) : JM Mem Int32 :=
  jb (jcall 0 x0 (f_X0_none x0 5)) fun v4 =>
  jp v4
theorem j_X0_parts_b43 (D : va_G) (dA : Nat → ClassId) (x0 : Nat) : J (PM D dA false) Y_X0_parts [(0, .ref x0)] [] 43 (X0_parts_b43 x0) (FRet injI) := by
  unfold X0_parts_b43
  refine J_aload_n dX0_parts_43 rfl 0 rfl ?_
  refine J_iconst (v := 5) dX0_parts_44 (by decide) ?_
  refine J_callVI (c := 0) (as := [.int 5]) dX0_parts_45 (by decide) rfl (Nat.le_of_ble_eq_true rfl) (cw_X0_none _ (by decide)) q729 q731 qs3 q732 np_X0_none (i_X0_none x0 5) jad_id rfl (fun v4 => ?_)
  exact J_ireturn dX0_parts_48 rfl
noncomputable def f_X0_parts (x0 : Nat) (x1 : Int32) (x2 : Int32) : JM Mem Int32 :=
  jb (jgetA 0 2 x0) fun v1 =>
  jb (jgetI 3 2 v1) fun v2 =>
  jb ((f_X0_isFrom ((x1 : Int32).toInt64) 0 ((v2 : Int32).toInt64))) fun v3 =>
  if v3 = 0 then
    X0_parts_b43 x0
  else
  if x2 < 0 then
    X0_parts_b43 x0
  else
  if 3 < x2 then
    X0_parts_b43 x0
  else
  jb (jgetA 0 2 x0) fun v5 =>
  jb (jcall 0 x0 (f_X0_count x0 v5 x1 x2)) fun v6 =>
  jb (jcall 0 x0 (f_X0_gives x0 v6)) fun v7 =>
  jp v7
theorem j_X0_parts (D : va_G) (dA : Nat → ClassId) (x0 : Nat) (x1 : Int32) (x2 : Int32) : J (PM D dA false) Y_X0_parts [(0, .ref x0), (1, .int x1), (2, .int x2)] [] 0 (f_X0_parts x0 x1 x2) (FRet injI) := by
  unfold f_X0_parts
  refine J_iload_n dX0_parts_0 rfl 1 rfl ?_
  refine J_i2l dX0_parts_1 ?_
  refine J_lconst (v := 0) dX0_parts_2 (by decide) ?_
  refine J_aload_n dX0_parts_3 rfl 0 rfl ?_
  refine J_getA dX0_parts_4 fl_X0_30 rfl (fun v1 => ?_)
  refine J_getI dX0_parts_7 fl_X0_196 rfl (fun v2 => ?_)
  refine J_i2l dX0_parts_10 ?_
  refine J_callSI (host := "") (as := [.long ((x1 : Int32).toInt64), .long 0, .long ((v2 : Int32).toInt64)]) dX0_parts_11 rfl (Nat.le_of_ble_eq_true rfl) (cw_X0_isFrom _ (by decide)) q1096 q1097 q1098 np_X0_isFrom (i_X0_isFrom ((x1 : Int32).toInt64) 0 ((v2 : Int32).toInt64)) jad_id rfl (fun v3 => ?_)
  refine J_if_eq (tgt := 43) dX0_parts_14 rfl ?_ ?_
  · refine J_sub [0] rfl ?_
    exact j_X0_parts_b43 D dA x0
  refine J_iload_n dX0_parts_17 rfl 2 rfl ?_
  refine J_if_lt (tgt := 43) dX0_parts_18 rfl ?_ ?_
  · refine J_sub [0] rfl ?_
    exact j_X0_parts_b43 D dA x0
  refine J_iload_n dX0_parts_21 rfl 2 rfl ?_
  refine J_iconst (v := 3) dX0_parts_22 (by decide) ?_
  refine J_icmp_gt (tgt := 43) dX0_parts_23 rfl ?_ ?_
  · refine J_sub [0] rfl ?_
    exact j_X0_parts_b43 D dA x0
  refine J_aload_n dX0_parts_26 rfl 0 rfl ?_
  refine J_aload_n dX0_parts_27 rfl 0 rfl ?_
  refine J_aload_n dX0_parts_28 rfl 0 rfl ?_
  refine J_getA dX0_parts_29 fl_X0_30 rfl (fun v5 => ?_)
  refine J_iload_n dX0_parts_32 rfl 1 rfl ?_
  refine J_iload_n dX0_parts_33 rfl 2 rfl ?_
  refine J_callVI (c := 0) (as := [.ref v5, .int x1, .int x2]) dX0_parts_34 (by decide) rfl (Nat.le_of_ble_eq_true rfl) (cw_X0_count _ (by decide)) q1203 q1205 qs29 q1206 np_X0_count (i_X0_count x0 v5 x1 x2) jad_id rfl (fun v6 => ?_)
  refine J_callVI (c := 0) (as := [.int v6]) dX0_parts_37 (by decide) rfl (Nat.le_of_ble_eq_true rfl) (cw_X0_gives _ (by decide)) q944 q946 qs9 q947 np_X0_gives (i_X0_gives x0 v6) jad_id rfl (fun v7 => ?_)
  refine J_goto (tgt := 48) dX0_parts_40 rfl ?_
  exact J_ireturn dX0_parts_48 rfl
theorem i_X0_parts (x0 : Nat) (x1 : Int32) (x2 : Int32) : Impl (ws_ yX0_parts cX0_parts 3 (some .int)) yX0_parts 11 false 0 0 [.ref x0, .int x1, .int x2] (f_X0_parts x0 x1 x2) injI := impl_of (plainFor_of_name (by decide)) (Nat.le_of_ble_eq_true rfl) (fun D dA => j_X0_parts D dA x0 x1 x2)
theorem cw_X0_parts (Y : JY) (h : 12 ≤ Y.2.2.2.1) : JCw Y (ws_ yX0_parts cX0_parts 3 (some .int)) yX0_parts cX0_parts 3 (some .int) 11 := ⟨h, by decide, lw_meth q1261, q187, by decide, by decide⟩
theorem np_X0_parts : JNp yX0_parts.desc 2 := by decide +kernel
-- BracketRoom.tell(JJ)Z
abbrev Y_X0_tell : JY := (cX0_tell, yX0_tell.cls, 11, 2, yX0_tell.name, (some .boolean), [])
noncomputable def X0_tell_b31 (x0 : Nat) (x1 : Int64) (x3 : Int64) (x5 : Int64) : JM Mem Int32 :=
  jb (jldiv x1 x5) fun v1 =>
  jb (jputL 0 11 x0 v1) fun _ =>
  jb (jldiv x3 x5) fun v2 =>
  jb (jputL 0 12 x0 v2) fun _ =>
  jb (jcall 0 x0 (f_X0_is0 x0 0)) fun v3 =>
  jrz v3
theorem j_X0_tell_b31 (D : va_G) (dA : Nat → ClassId) (x0 : Nat) (x1 : Int64) (x3 : Int64) (x5 : Int64) : J (PM D dA false) Y_X0_tell [(0, .ref x0), (1, .long x1), (3, .long x3), (5, .long x5)] [] 31 (X0_tell_b31 x0 x1 x3 x5) (FRet injI) := by
  unfold X0_tell_b31
  refine J_aload_n dX0_tell_31 rfl 0 rfl ?_
  refine J_lload_n dX0_tell_32 rfl 1 rfl ?_
  refine J_lload dX0_tell_33 3 rfl ?_
  refine J_ldiv dX0_tell_35 (fun v1 => ?_)
  refine J_putL dX0_tell_36 ⟨fl_X0_147, Or.inl rfl⟩ rfl ?_
  refine J_aload_n dX0_tell_39 rfl 0 rfl ?_
  refine J_lload_n dX0_tell_40 rfl 2 rfl ?_
  refine J_lload dX0_tell_41 3 rfl ?_
  refine J_ldiv dX0_tell_43 (fun v2 => ?_)
  refine J_putL dX0_tell_44 ⟨fl_X0_52, Or.inl rfl⟩ rfl ?_
  refine J_aload_n dX0_tell_47 rfl 0 rfl ?_
  refine J_iconst (v := 0) dX0_tell_48 (by decide) ?_
  refine J_callVI (c := 0) (as := [.int 0]) dX0_tell_49 (by decide) rfl (Nat.le_of_ble_eq_true rfl) (cw_X0_is0 _ (by decide)) q659 q661 qs2 q662 np_X0_is0 (i_X0_is0 x0 0) jad_id rfl (fun v3 => ?_)
  exact J_zreturn dX0_tell_52 rfl
noncomputable def X0_tell_L6 (x0 : Nat) (x1 : Int64) (x3 : Int64) (x5 : Int64) (x7 : Int64) : JM Mem (Int32 ⊕ (Int64 × Int64)) :=
  if x7 = (0 : Int64) then
    jinl (X0_tell_b31 x0 x1 x3 x5)
  else
  jb (jlrem x5 x7) fun v4 =>
  jcont (x7, v4)
theorem j_X0_tell_L6 (D : va_G) (dA : Nat → ClassId) (x0 : Nat) (x1 : Int64) (x3 : Int64) (x5 : Int64) (x7 : Int64) : J (PM D dA false) Y_X0_tell [(0, .ref x0), (1, .long x1), (3, .long x3), (5, .long x5), (7, .long x7)] [] 6 (X0_tell_L6 x0 x1 x3 x5 x7) (FLoop (FRet injI) 6 (fun (t : Int64 × Int64) => [(0, .ref x0), (1, .long x1), (3, .long x3), (5, .long t.1), (7, .long t.2)])) := by
  unfold X0_tell_L6
  refine J_lload dX0_tell_6 4 rfl ?_
  refine J_lconst (v := 0) dX0_tell_8 (by decide) ?_
  refine J_lcmp_eq (tgt := 31) dX0_tell_9 dX0_tell_10 rfl ?_ ?_
  · refine J_inl ?_
    refine J_sub [0, 1, 2, 3] rfl ?_
    exact j_X0_tell_b31 D dA x0 x1 x3 x5
  refine J_lload dX0_tell_13 3 rfl ?_
  refine J_lload dX0_tell_15 4 rfl ?_
  refine J_lrem dX0_tell_17 (fun v4 => ?_)
  refine J_lstore (env' := [(9, .long v4), (0, .ref x0), (1, .long x1), (3, .long x3), (5, .long x5), (7, .long x7)]) dX0_tell_18 (by decide) rfl ?_
  refine J_lload dX0_tell_20 5 rfl ?_
  refine J_lstore (env' := [(5, .long x7), (9, .long v4), (0, .ref x0), (1, .long x1), (3, .long x3), (7, .long x7)]) dX0_tell_22 (by decide) rfl ?_
  refine J_lload dX0_tell_24 1 rfl ?_
  refine J_lstore (env' := [(7, .long v4), (5, .long x7), (9, .long v4), (0, .ref x0), (1, .long x1), (3, .long x3)]) dX0_tell_26 (by decide) rfl ?_
  refine J_goto (tgt := 6) dX0_tell_28 rfl ?_
  exact J_cont [3, 4, 5, 1, 0] rfl
noncomputable def f_X0_tell (x0 : Nat) (x1 : Int64) (x3 : Int64) : JM Mem Int32 :=
  jloop (fun (t : Int64 × Int64) => X0_tell_L6 x0 x1 x3 t.1 t.2) (x1, x3)
theorem j_X0_tell (D : va_G) (dA : Nat → ClassId) (x0 : Nat) (x1 : Int64) (x3 : Int64) : J (PM D dA false) Y_X0_tell [(0, .ref x0), (1, .long x1), (3, .long x3)] [] 0 (f_X0_tell x0 x1 x3) (FRet injI) := by
  unfold f_X0_tell
  refine J_lload_n dX0_tell_0 rfl 1 rfl ?_
  refine J_lstore (env' := [(5, .long x1), (0, .ref x0), (1, .long x1), (3, .long x3)]) dX0_tell_1 (by decide) rfl ?_
  refine J_lload_n dX0_tell_3 rfl 3 rfl ?_
  refine J_lstore (env' := [(7, .long x3), (5, .long x1), (0, .ref x0), (1, .long x1), (3, .long x3)]) dX0_tell_4 (by decide) rfl ?_
  refine J_loop (he := fun (t : Int64 × Int64) => [(0, .ref x0), (1, .long x1), (3, .long x3), (5, .long t.1), (7, .long t.2)]) [2, 3, 4, 1, 0] rfl (fun t => ?_)
  exact j_X0_tell_L6 D dA x0 x1 x3 t.1 t.2
theorem i_X0_tell (x0 : Nat) (x1 : Int64) (x3 : Int64) : Impl (ws_ yX0_tell cX0_tell 11 (some .boolean)) yX0_tell 2 false 0 0 [.ref x0, .long x1, .long x3] (f_X0_tell x0 x1 x3) injI := impl_of (plainFor_of_name (by decide)) (Nat.le_of_ble_eq_true rfl) (fun D dA => j_X0_tell D dA x0 x1 x3)
theorem cw_X0_tell (Y : JY) (h : 3 ≤ Y.2.2.2.1) : JCw Y (ws_ yX0_tell cX0_tell 11 (some .boolean)) yX0_tell cX0_tell 11 (some .boolean) 2 := ⟨h, by decide, lw_meth q1269, q187, by decide, by decide⟩
theorem np_X0_tell : JNp yX0_tell.desc 2 := by decide +kernel
-- BracketRoom.share()Z
abbrev Y_X0_share : JY := (cX0_share, yX0_share.cls, 4, 11, yX0_share.name, (some .boolean), [])
noncomputable def X0_share_b50 (x0 : Nat) (x1 : Int32) (x2 : Int32) : JM Mem Int32 :=
  jb (jcall 0 x0 (f_X0_tell x0 ((x1 : Int32).toInt64) ((x2 : Int32).toInt64))) fun v3 =>
  jrz v3
theorem j_X0_share_b50 (D : va_G) (dA : Nat → ClassId) (x0 : Nat) (x1 : Int32) (x2 : Int32) : J (PM D dA false) Y_X0_share [(0, .ref x0), (1, .int x1), (2, .int x2)] [] 50 (X0_share_b50 x0 x1 x2) (FRet injI) := by
  unfold X0_share_b50
  refine J_aload_n dX0_share_50 rfl 0 rfl ?_
  refine J_iload_n dX0_share_51 rfl 1 rfl ?_
  refine J_i2l dX0_share_52 ?_
  refine J_iload_n dX0_share_53 rfl 2 rfl ?_
  refine J_i2l dX0_share_54 ?_
  refine J_callVI (c := 0) (as := [.long ((x1 : Int32).toInt64), .long ((x2 : Int32).toInt64)]) dX0_share_55 (by decide) rfl (Nat.le_of_ble_eq_true rfl) (cw_X0_tell _ (by decide)) q1266 q1268 qs39 q1269 np_X0_tell (i_X0_tell x0 ((x1 : Int32).toInt64) ((x2 : Int32).toInt64)) jad_id rfl (fun v3 => ?_)
  exact J_zreturn dX0_share_58 rfl
noncomputable def X0_share_L6 (x0 : Nat) (x1 : Int32) (x2 : Int32) (x3 : Int32) : JM Mem (Int32 ⊕ (Int32 × Int32 × Int32)) :=
  jb (jgetA 0 2 x0) fun v1 =>
  jb (jgetI 3 2 v1) fun v2 =>
  if v2 < x3 then
    jinl (X0_share_b50 x0 x1 x2)
  else
  jb (jgetA 0 2 x0) fun v4 =>
  jb (jcall 0 x0 (f_X0_count x0 v4 x3 0)) fun v5 =>
  jlet (x1 + v5) fun y6 =>
  jb (jgetA 0 2 x0) fun v7 =>
  jb (jcall 0 x0 (f_X0_count x0 v7 x3 6)) fun v8 =>
  jlet (x2 + v8) fun y9 =>
  jcont (y6, y9, x3 + 1)
theorem j_X0_share_L6 (D : va_G) (dA : Nat → ClassId) (x0 : Nat) (x1 : Int32) (x2 : Int32) (x3 : Int32) : J (PM D dA false) Y_X0_share [(0, .ref x0), (1, .int x1), (2, .int x2), (3, .int x3)] [] 6 (X0_share_L6 x0 x1 x2 x3) (FLoop (FRet injI) 6 (fun (t : Int32 × Int32 × Int32) => [(0, .ref x0), (1, .int t.1), (2, .int t.2.1), (3, .int t.2.2)])) := by
  unfold X0_share_L6
  refine J_iload_n dX0_share_6 rfl 3 rfl ?_
  refine J_aload_n dX0_share_7 rfl 0 rfl ?_
  refine J_getA dX0_share_8 fl_X0_30 rfl (fun v1 => ?_)
  refine J_getI dX0_share_11 fl_X0_196 rfl (fun v2 => ?_)
  refine J_icmp_gt (tgt := 50) dX0_share_14 rfl ?_ ?_
  · refine J_inl ?_
    refine J_sub [0, 1, 2] rfl ?_
    exact j_X0_share_b50 D dA x0 x1 x2
  refine J_iload_n dX0_share_17 rfl 1 rfl ?_
  refine J_aload_n dX0_share_18 rfl 0 rfl ?_
  refine J_aload_n dX0_share_19 rfl 0 rfl ?_
  refine J_getA dX0_share_20 fl_X0_30 rfl (fun v4 => ?_)
  refine J_iload_n dX0_share_23 rfl 3 rfl ?_
  refine J_iconst (v := 0) dX0_share_24 (by decide) ?_
  refine J_callVI (c := 0) (as := [.ref v4, .int x3, .int 0]) dX0_share_25 (by decide) rfl (Nat.le_of_ble_eq_true rfl) (cw_X0_count _ (by decide)) q1203 q1205 qs29 q1206 np_X0_count (i_X0_count x0 v4 x3 0) jad_id rfl (fun v5 => ?_)
  refine J_iadd dX0_share_28 ?_
  refine J_letI (fun y6 => ?_)
  refine J_istore_n (env' := [(1, .int y6), (0, .ref x0), (2, .int x2), (3, .int x3)]) dX0_share_29 rfl (by decide) rfl ?_
  refine J_iload_n dX0_share_30 rfl 2 rfl ?_
  refine J_aload_n dX0_share_31 rfl 1 rfl ?_
  refine J_aload_n dX0_share_32 rfl 1 rfl ?_
  refine J_getA dX0_share_33 fl_X0_30 rfl (fun v7 => ?_)
  refine J_iload_n dX0_share_36 rfl 3 rfl ?_
  refine J_bipush (v := 6) dX0_share_37 (by decide) ?_
  refine J_callVI (c := 0) (as := [.ref v7, .int x3, .int 6]) dX0_share_39 (by decide) rfl (Nat.le_of_ble_eq_true rfl) (cw_X0_count _ (by decide)) q1203 q1205 qs29 q1206 np_X0_count (i_X0_count x0 v7 x3 6) jad_id rfl (fun v8 => ?_)
  refine J_iadd dX0_share_42 ?_
  refine J_letI (fun y9 => ?_)
  refine J_istore_n (env' := [(2, .int y9), (1, .int y6), (0, .ref x0), (3, .int x3)]) dX0_share_43 rfl (by decide) rfl ?_
  refine J_iinc (v := x3 + 1) (env' := [(3, .int (x3 + 1)), (2, .int y9), (1, .int y6), (0, .ref x0)]) dX0_share_44 3 rfl rfl (by decide) rfl ?_
  refine J_goto (tgt := 6) dX0_share_47 rfl ?_
  exact J_cont [3, 2, 1, 0] rfl
noncomputable def f_X0_share (x0 : Nat) : JM Mem Int32 :=
  jloop (fun (t : Int32 × Int32 × Int32) => X0_share_L6 x0 t.1 t.2.1 t.2.2) (0, 0, 0)
theorem j_X0_share (D : va_G) (dA : Nat → ClassId) (x0 : Nat) : J (PM D dA false) Y_X0_share [(0, .ref x0)] [] 0 (f_X0_share x0) (FRet injI) := by
  unfold f_X0_share
  refine J_iconst (v := 0) dX0_share_0 (by decide) ?_
  refine J_istore_n (env' := [(1, .int 0), (0, .ref x0)]) dX0_share_1 rfl (by decide) rfl ?_
  refine J_iconst (v := 0) dX0_share_2 (by decide) ?_
  refine J_istore_n (env' := [(2, .int 0), (1, .int 0), (0, .ref x0)]) dX0_share_3 rfl (by decide) rfl ?_
  refine J_iconst (v := 0) dX0_share_4 (by decide) ?_
  refine J_istore_n (env' := [(3, .int 0), (2, .int 0), (1, .int 0), (0, .ref x0)]) dX0_share_5 rfl (by decide) rfl ?_
  refine J_loop (he := fun (t : Int32 × Int32 × Int32) => [(0, .ref x0), (1, .int t.1), (2, .int t.2.1), (3, .int t.2.2)]) [3, 2, 1, 0] rfl (fun t => ?_)
  exact j_X0_share_L6 D dA x0 t.1 t.2.1 t.2.2
theorem i_X0_share (x0 : Nat) : Impl (ws_ yX0_share cX0_share 4 (some .boolean)) yX0_share 11 false 0 0 [.ref x0] (f_X0_share x0) injI := impl_of (plainFor_of_name (by decide)) (Nat.le_of_ble_eq_true rfl) (fun D dA => j_X0_share D dA x0)
theorem cw_X0_share (Y : JY) (h : 12 ≤ Y.2.2.2.1) : JCw Y (ws_ yX0_share cX0_share 4 (some .boolean)) yX0_share cX0_share 4 (some .boolean) 11 := ⟨h, by decide, lw_meth q1265, q187, by decide, by decide⟩
theorem np_X0_share : JNp yX0_share.desc 0 := by decide +kernel
-- BracketRoom.derivationsOf(LBracketRoom$World;)I
abbrev Y_X0_derivationsOf : JY := (cX0_derivationsOf, yX0_derivationsOf.cls, 9, 4, yX0_derivationsOf.name, (some .int), [])
noncomputable def X0_derivationsOf_b236 (x0 : Nat) (x1 : Nat) (x2 : Int32) (x3 : Int32) : JM Mem Int32 :=
  jb (jgetA 0 23 x0) fun v3 =>
  jb (jcall 3 x1 (f_X4_rank x1 v3 x3 (x2 * x2))) fun v4 =>
  jp ((x2 * x2) - v4)
theorem j_X0_derivationsOf_b236 (D : va_G) (dA : Nat → ClassId) (x0 : Nat) (x1 : Nat) (x2 : Int32) (x3 : Int32) : J (PM D dA false) Y_X0_derivationsOf [(0, .ref x0), (1, .ref x1), (2, .int x2), (3, .int x3)] [] 236 (X0_derivationsOf_b236 x0 x1 x2 x3) (FRet injI) := by
  unfold X0_derivationsOf_b236
  refine J_iload_n dX0_derivationsOf_236 rfl 2 rfl ?_
  refine J_iload_n dX0_derivationsOf_237 rfl 2 rfl ?_
  refine J_imul dX0_derivationsOf_238 ?_
  refine J_aload_n dX0_derivationsOf_239 rfl 1 rfl ?_
  refine J_aload_n dX0_derivationsOf_240 rfl 0 rfl ?_
  refine J_getA dX0_derivationsOf_241 fl_X0_93 rfl (fun v3 => ?_)
  refine J_iload_n dX0_derivationsOf_244 rfl 3 rfl ?_
  refine J_iload_n dX0_derivationsOf_245 rfl 2 rfl ?_
  refine J_iload_n dX0_derivationsOf_246 rfl 2 rfl ?_
  refine J_imul dX0_derivationsOf_247 ?_
  refine J_callVI (c := 3) (as := [.ref v3, .int x3, .int (x2 * x2)]) dX0_derivationsOf_248 (by decide) rfl (Nat.le_of_ble_eq_true rfl) (cw_X4_rank _ (by decide)) q1174 q1175 q1176 q1177 np_X4_rank (i_X4_rank x1 v3 x3 (x2 * x2)) jad_id rfl (fun v4 => ?_)
  refine J_isub dX0_derivationsOf_251 ?_
  exact J_ireturn dX0_derivationsOf_252 rfl
noncomputable def X0_derivationsOf_b230 (x0 : Nat) (x1 : Nat) (x2 : Int32) (x3 : Int32) (x4 : Int32) (x5 : Int32) : JM Mem (Int32 ⊕ (Int32 × Int32)) :=
  jcont (x4, x5 + 1)
theorem j_X0_derivationsOf_b230 (D : va_G) (dA : Nat → ClassId) (x0 : Nat) (x1 : Nat) (x2 : Int32) (x3 : Int32) (x4 : Int32) (x5 : Int32) : J (PM D dA false) Y_X0_derivationsOf [(0, .ref x0), (1, .ref x1), (2, .int x2), (3, .int x3), (4, .int x4), (5, .int x5)] [] 230 (X0_derivationsOf_b230 x0 x1 x2 x3 x4 x5) (FLoop (FRet injI) 29 (fun (t : Int32 × Int32) => [(0, .ref x0), (1, .ref x1), (2, .int x2), (3, .int x3), (4, .int t.1), (5, .int t.2)])) := by
  unfold X0_derivationsOf_b230
  refine J_iinc (v := x5 + 1) (env' := [(5, .int (x5 + 1)), (0, .ref x0), (1, .ref x1), (2, .int x2), (3, .int x3), (4, .int x4)]) dX0_derivationsOf_230 5 rfl rfl (by decide) rfl ?_
  refine J_goto (tgt := 29) dX0_derivationsOf_233 rfl ?_
  exact J_cont [1, 2, 3, 4, 5, 0] rfl
noncomputable def X0_derivationsOf_b224 (x0 : Nat) (x1 : Nat) (x2 : Int32) (x3 : Int32) (x4 : Int32) (x5 : Int32) (x6 : Int32) : JM Mem ((Int32 ⊕ (Int32 × Int32)) ⊕ (Int32 × Int32)) :=
  jcont (x4, x6 + 1)
theorem j_X0_derivationsOf_b224 (D : va_G) (dA : Nat → ClassId) (x0 : Nat) (x1 : Nat) (x2 : Int32) (x3 : Int32) (x4 : Int32) (x5 : Int32) (x6 : Int32) : J (PM D dA false) Y_X0_derivationsOf [(0, .ref x0), (1, .ref x1), (2, .int x2), (3, .int x3), (4, .int x4), (5, .int x5), (6, .int x6)] [] 224 (X0_derivationsOf_b224 x0 x1 x2 x3 x4 x5 x6) (FLoop (FLoop (FRet injI) 29 (fun (t : Int32 × Int32) => [(0, .ref x0), (1, .ref x1), (2, .int x2), (3, .int x3), (4, .int t.1), (5, .int t.2)])) 41 (fun (t : Int32 × Int32) => [(0, .ref x0), (1, .ref x1), (2, .int x2), (3, .int x3), (4, .int t.1), (5, .int x5), (6, .int t.2)])) := by
  unfold X0_derivationsOf_b224
  refine J_iinc (v := x6 + 1) (env' := [(6, .int (x6 + 1)), (0, .ref x0), (1, .ref x1), (2, .int x2), (3, .int x3), (4, .int x4), (5, .int x5)]) dX0_derivationsOf_224 6 rfl rfl (by decide) rfl ?_
  refine J_goto (tgt := 41) dX0_derivationsOf_227 rfl ?_
  exact J_cont [1, 2, 3, 4, 5, 6, 0] rfl
noncomputable def X0_derivationsOf_b215 (x0 : Nat) (x1 : Nat) (x2 : Int32) (x3 : Int32) (x4 : Int32) (x5 : Int32) (x6 : Int32) (x7 : Int32) : JM Mem (((Int32 ⊕ (Int32 × Int32)) ⊕ (Int32 × Int32)) ⊕ (Int32 × Int32)) :=
  jcont (x4 + 1, x7 + 1)
theorem j_X0_derivationsOf_b215 (D : va_G) (dA : Nat → ClassId) (x0 : Nat) (x1 : Nat) (x2 : Int32) (x3 : Int32) (x4 : Int32) (x5 : Int32) (x6 : Int32) (x7 : Int32) : J (PM D dA false) Y_X0_derivationsOf [(0, .ref x0), (1, .ref x1), (2, .int x2), (3, .int x3), (4, .int x4), (5, .int x5), (6, .int x6), (7, .int x7)] [] 215 (X0_derivationsOf_b215 x0 x1 x2 x3 x4 x5 x6 x7) (FLoop (FLoop (FLoop (FRet injI) 29 (fun (t : Int32 × Int32) => [(0, .ref x0), (1, .ref x1), (2, .int x2), (3, .int x3), (4, .int t.1), (5, .int t.2)])) 41 (fun (t : Int32 × Int32) => [(0, .ref x0), (1, .ref x1), (2, .int x2), (3, .int x3), (4, .int t.1), (5, .int x5), (6, .int t.2)])) 50 (fun (t : Int32 × Int32) => [(0, .ref x0), (1, .ref x1), (2, .int x2), (3, .int x3), (4, .int t.1), (5, .int x5), (6, .int x6), (7, .int t.2)])) := by
  unfold X0_derivationsOf_b215
  refine J_iinc (v := x4 + 1) (env' := [(4, .int (x4 + 1)), (0, .ref x0), (1, .ref x1), (2, .int x2), (3, .int x3), (5, .int x5), (6, .int x6), (7, .int x7)]) dX0_derivationsOf_215 4 rfl rfl (by decide) rfl ?_
  refine J_iinc (v := x7 + 1) (env' := [(7, .int (x7 + 1)), (4, .int (x4 + 1)), (0, .ref x0), (1, .ref x1), (2, .int x2), (3, .int x3), (5, .int x5), (6, .int x6)]) dX0_derivationsOf_218 7 rfl rfl (by decide) rfl ?_
  refine J_goto (tgt := 50) dX0_derivationsOf_221 rfl ?_
  exact J_cont [2, 3, 4, 5, 1, 6, 7, 0] rfl
noncomputable def X0_derivationsOf_L59 (x0 : Nat) (x1 : Nat) (x2 : Int32) (x3 : Int32) (x4 : Int32) (x5 : Int32) (x6 : Int32) (x7 : Int32) (x8 : Int32) : JM Mem ((((Int32 ⊕ (Int32 × Int32)) ⊕ (Int32 × Int32)) ⊕ (Int32 × Int32)) ⊕ (Int32)) :=
  if x2 ≤ x8 then
    jinl (X0_derivationsOf_b215 x0 x1 x2 x3 x4 x5 x6 x7)
  else
  jb (jgetA 0 23 x0) fun v6 =>
  jb (jaldA 5 v6 x4) fun v7 =>
  jb (jgetA 0 23 x0) fun v8 =>
  jb (jaldA 5 v8 x4) fun v9 =>
  jb (jald mI 0 v9 ((x2 * x8) + x7)) fun v10 =>
  jb (jgetA 3 0 x1) fun v11 =>
  jb (jaldA 6 v11 x5) fun v12 =>
  jb (jaldA 5 v12 x6) fun v13 =>
  jb (jald mI 0 v13 x8) fun v14 =>
  jb (jcall 3 x1 (f_X4_by x1 (v10 + v14))) fun v15 =>
  jb (jast_i v7 ((x2 * x8) + x7) v15) fun _ =>
  jb (jgetA 0 23 x0) fun v16 =>
  jb (jaldA 5 v16 x4) fun v17 =>
  jb (jgetA 0 23 x0) fun v18 =>
  jb (jaldA 5 v18 x4) fun v19 =>
  jb (jald mI 0 v19 ((x2 * x5) + x8)) fun v20 =>
  jb (jgetA 3 0 x1) fun v21 =>
  jb (jaldA 6 v21 x8) fun v22 =>
  jb (jaldA 5 v22 x6) fun v23 =>
  jb (jald mI 0 v23 x7) fun v24 =>
  jb (jcall 3 x1 (f_X4_by x1 (v20 - v24))) fun v25 =>
  jb (jast_i v17 ((x2 * x5) + x8) v25) fun _ =>
  jb (jgetA 0 23 x0) fun v26 =>
  jb (jaldA 5 v26 x4) fun v27 =>
  jb (jgetA 0 23 x0) fun v28 =>
  jb (jaldA 5 v28 x4) fun v29 =>
  jb (jald mI 0 v29 ((x2 * x6) + x8)) fun v30 =>
  jb (jgetA 3 0 x1) fun v31 =>
  jb (jaldA 6 v31 x5) fun v32 =>
  jb (jaldA 5 v32 x8) fun v33 =>
  jb (jald mI 0 v33 x7) fun v34 =>
  jb (jcall 3 x1 (f_X4_by x1 (v30 - v34))) fun v35 =>
  jb (jast_i v27 ((x2 * x6) + x8) v35) fun _ =>
  jcont (x8 + 1)
theorem j_X0_derivationsOf_L59 (D : va_G) (dA : Nat → ClassId) (x0 : Nat) (x1 : Nat) (x2 : Int32) (x3 : Int32) (x4 : Int32) (x5 : Int32) (x6 : Int32) (x7 : Int32) (x8 : Int32) : J (PM D dA false) Y_X0_derivationsOf [(0, .ref x0), (1, .ref x1), (2, .int x2), (3, .int x3), (4, .int x4), (5, .int x5), (6, .int x6), (7, .int x7), (8, .int x8)] [] 59 (X0_derivationsOf_L59 x0 x1 x2 x3 x4 x5 x6 x7 x8) (FLoop (FLoop (FLoop (FLoop (FRet injI) 29 (fun (t : Int32 × Int32) => [(0, .ref x0), (1, .ref x1), (2, .int x2), (3, .int x3), (4, .int t.1), (5, .int t.2)])) 41 (fun (t : Int32 × Int32) => [(0, .ref x0), (1, .ref x1), (2, .int x2), (3, .int x3), (4, .int t.1), (5, .int x5), (6, .int t.2)])) 50 (fun (t : Int32 × Int32) => [(0, .ref x0), (1, .ref x1), (2, .int x2), (3, .int x3), (4, .int t.1), (5, .int x5), (6, .int x6), (7, .int t.2)])) 59 (fun (t : Int32) => [(0, .ref x0), (1, .ref x1), (2, .int x2), (3, .int x3), (4, .int x4), (5, .int x5), (6, .int x6), (7, .int x7), (8, .int t)])) := by
  unfold X0_derivationsOf_L59
  refine J_iload dX0_derivationsOf_59 8 rfl ?_
  refine J_iload_n dX0_derivationsOf_61 rfl 2 rfl ?_
  refine J_icmp_ge (tgt := 215) dX0_derivationsOf_62 rfl ?_ ?_
  · refine J_inl ?_
    refine J_sub [0, 1, 2, 3, 4, 5, 6, 7] rfl ?_
    exact j_X0_derivationsOf_b215 D dA x0 x1 x2 x3 x4 x5 x6 x7
  refine J_aload_n dX0_derivationsOf_65 rfl 0 rfl ?_
  refine J_getA dX0_derivationsOf_66 fl_X0_93 rfl (fun v6 => ?_)
  refine J_iload dX0_derivationsOf_69 4 rfl ?_
  refine J_aald dX0_derivationsOf_71 rfl (by decide) (fun v7 => ?_)
  refine J_iload_n dX0_derivationsOf_72 rfl 2 rfl ?_
  refine J_iload dX0_derivationsOf_73 8 rfl ?_
  refine J_imul dX0_derivationsOf_75 ?_
  refine J_iload dX0_derivationsOf_76 7 rfl ?_
  refine J_iadd dX0_derivationsOf_78 ?_
  refine J_aload_n dX0_derivationsOf_79 rfl 1 rfl ?_
  refine J_aload_n dX0_derivationsOf_80 rfl 0 rfl ?_
  refine J_getA dX0_derivationsOf_81 fl_X0_93 rfl (fun v8 => ?_)
  refine J_iload dX0_derivationsOf_84 4 rfl ?_
  refine J_aald dX0_derivationsOf_86 rfl (by decide) (fun v9 => ?_)
  refine J_iload_n dX0_derivationsOf_87 rfl 2 rfl ?_
  refine J_iload dX0_derivationsOf_88 8 rfl ?_
  refine J_imul dX0_derivationsOf_90 ?_
  refine J_iload dX0_derivationsOf_91 7 rfl ?_
  refine J_iadd dX0_derivationsOf_93 ?_
  refine J_iald dX0_derivationsOf_94 (fun v10 => ?_)
  refine J_aload_n dX0_derivationsOf_95 rfl 1 rfl ?_
  refine J_getA dX0_derivationsOf_96 fl_X0_256 rfl (fun v11 => ?_)
  refine J_iload dX0_derivationsOf_99 5 rfl ?_
  refine J_aald dX0_derivationsOf_101 rfl (by decide) (fun v12 => ?_)
  refine J_iload dX0_derivationsOf_102 6 rfl ?_
  refine J_aald dX0_derivationsOf_104 rfl (by decide) (fun v13 => ?_)
  refine J_iload dX0_derivationsOf_105 8 rfl ?_
  refine J_iald dX0_derivationsOf_107 (fun v14 => ?_)
  refine J_iadd dX0_derivationsOf_108 ?_
  refine J_callVI (c := 3) (as := [.int (v10 + v14)]) dX0_derivationsOf_109 (by decide) rfl (Nat.le_of_ble_eq_true rfl) (cw_X4_by _ (by decide)) q1067 q929 q930 q931 np_X4_by (i_X4_by x1 (v10 + v14)) jad_id rfl (fun v15 => ?_)
  refine J_iast dX0_derivationsOf_112 ?_
  refine J_aload_n dX0_derivationsOf_113 rfl 0 rfl ?_
  refine J_getA dX0_derivationsOf_114 fl_X0_93 rfl (fun v16 => ?_)
  refine J_iload dX0_derivationsOf_117 4 rfl ?_
  refine J_aald dX0_derivationsOf_119 rfl (by decide) (fun v17 => ?_)
  refine J_iload_n dX0_derivationsOf_120 rfl 2 rfl ?_
  refine J_iload dX0_derivationsOf_121 5 rfl ?_
  refine J_imul dX0_derivationsOf_123 ?_
  refine J_iload dX0_derivationsOf_124 8 rfl ?_
  refine J_iadd dX0_derivationsOf_126 ?_
  refine J_aload_n dX0_derivationsOf_127 rfl 1 rfl ?_
  refine J_aload_n dX0_derivationsOf_128 rfl 0 rfl ?_
  refine J_getA dX0_derivationsOf_129 fl_X0_93 rfl (fun v18 => ?_)
  refine J_iload dX0_derivationsOf_132 4 rfl ?_
  refine J_aald dX0_derivationsOf_134 rfl (by decide) (fun v19 => ?_)
  refine J_iload_n dX0_derivationsOf_135 rfl 2 rfl ?_
  refine J_iload dX0_derivationsOf_136 5 rfl ?_
  refine J_imul dX0_derivationsOf_138 ?_
  refine J_iload dX0_derivationsOf_139 8 rfl ?_
  refine J_iadd dX0_derivationsOf_141 ?_
  refine J_iald dX0_derivationsOf_142 (fun v20 => ?_)
  refine J_aload_n dX0_derivationsOf_143 rfl 1 rfl ?_
  refine J_getA dX0_derivationsOf_144 fl_X0_256 rfl (fun v21 => ?_)
  refine J_iload dX0_derivationsOf_147 8 rfl ?_
  refine J_aald dX0_derivationsOf_149 rfl (by decide) (fun v22 => ?_)
  refine J_iload dX0_derivationsOf_150 6 rfl ?_
  refine J_aald dX0_derivationsOf_152 rfl (by decide) (fun v23 => ?_)
  refine J_iload dX0_derivationsOf_153 7 rfl ?_
  refine J_iald dX0_derivationsOf_155 (fun v24 => ?_)
  refine J_isub dX0_derivationsOf_156 ?_
  refine J_callVI (c := 3) (as := [.int (v20 - v24)]) dX0_derivationsOf_157 (by decide) rfl (Nat.le_of_ble_eq_true rfl) (cw_X4_by _ (by decide)) q1067 q929 q930 q931 np_X4_by (i_X4_by x1 (v20 - v24)) jad_id rfl (fun v25 => ?_)
  refine J_iast dX0_derivationsOf_160 ?_
  refine J_aload_n dX0_derivationsOf_161 rfl 0 rfl ?_
  refine J_getA dX0_derivationsOf_162 fl_X0_93 rfl (fun v26 => ?_)
  refine J_iload dX0_derivationsOf_165 4 rfl ?_
  refine J_aald dX0_derivationsOf_167 rfl (by decide) (fun v27 => ?_)
  refine J_iload_n dX0_derivationsOf_168 rfl 2 rfl ?_
  refine J_iload dX0_derivationsOf_169 6 rfl ?_
  refine J_imul dX0_derivationsOf_171 ?_
  refine J_iload dX0_derivationsOf_172 8 rfl ?_
  refine J_iadd dX0_derivationsOf_174 ?_
  refine J_aload_n dX0_derivationsOf_175 rfl 1 rfl ?_
  refine J_aload_n dX0_derivationsOf_176 rfl 0 rfl ?_
  refine J_getA dX0_derivationsOf_177 fl_X0_93 rfl (fun v28 => ?_)
  refine J_iload dX0_derivationsOf_180 4 rfl ?_
  refine J_aald dX0_derivationsOf_182 rfl (by decide) (fun v29 => ?_)
  refine J_iload_n dX0_derivationsOf_183 rfl 2 rfl ?_
  refine J_iload dX0_derivationsOf_184 6 rfl ?_
  refine J_imul dX0_derivationsOf_186 ?_
  refine J_iload dX0_derivationsOf_187 8 rfl ?_
  refine J_iadd dX0_derivationsOf_189 ?_
  refine J_iald dX0_derivationsOf_190 (fun v30 => ?_)
  refine J_aload_n dX0_derivationsOf_191 rfl 1 rfl ?_
  refine J_getA dX0_derivationsOf_192 fl_X0_256 rfl (fun v31 => ?_)
  refine J_iload dX0_derivationsOf_195 5 rfl ?_
  refine J_aald dX0_derivationsOf_197 rfl (by decide) (fun v32 => ?_)
  refine J_iload dX0_derivationsOf_198 8 rfl ?_
  refine J_aald dX0_derivationsOf_200 rfl (by decide) (fun v33 => ?_)
  refine J_iload dX0_derivationsOf_201 7 rfl ?_
  refine J_iald dX0_derivationsOf_203 (fun v34 => ?_)
  refine J_isub dX0_derivationsOf_204 ?_
  refine J_callVI (c := 3) (as := [.int (v30 - v34)]) dX0_derivationsOf_205 (by decide) rfl (Nat.le_of_ble_eq_true rfl) (cw_X4_by _ (by decide)) q1067 q929 q930 q931 np_X4_by (i_X4_by x1 (v30 - v34)) jad_id rfl (fun v35 => ?_)
  refine J_iast dX0_derivationsOf_208 ?_
  refine J_iinc (v := x8 + 1) (env' := [(8, .int (x8 + 1)), (0, .ref x0), (1, .ref x1), (2, .int x2), (3, .int x3), (4, .int x4), (5, .int x5), (6, .int x6), (7, .int x7)]) dX0_derivationsOf_209 8 rfl rfl (by decide) rfl ?_
  refine J_goto (tgt := 59) dX0_derivationsOf_212 rfl ?_
  exact J_cont [1, 2, 3, 4, 5, 6, 7, 8, 0] rfl
noncomputable def X0_derivationsOf_L50 (x0 : Nat) (x1 : Nat) (x2 : Int32) (x3 : Int32) (x5 : Int32) (x6 : Int32) (x4 : Int32) (x7 : Int32) : JM Mem (((Int32 ⊕ (Int32 × Int32)) ⊕ (Int32 × Int32)) ⊕ (Int32 × Int32)) :=
  if x2 ≤ x7 then
    jinl (X0_derivationsOf_b224 x0 x1 x2 x3 x4 x5 x6)
  else
    jloop (fun (t : Int32) => X0_derivationsOf_L59 x0 x1 x2 x3 x4 x5 x6 x7 t) 0
theorem j_X0_derivationsOf_L50 (D : va_G) (dA : Nat → ClassId) (x0 : Nat) (x1 : Nat) (x2 : Int32) (x3 : Int32) (x5 : Int32) (x6 : Int32) (x4 : Int32) (x7 : Int32) : J (PM D dA false) Y_X0_derivationsOf [(0, .ref x0), (1, .ref x1), (2, .int x2), (3, .int x3), (4, .int x4), (5, .int x5), (6, .int x6), (7, .int x7)] [] 50 (X0_derivationsOf_L50 x0 x1 x2 x3 x5 x6 x4 x7) (FLoop (FLoop (FLoop (FRet injI) 29 (fun (t : Int32 × Int32) => [(0, .ref x0), (1, .ref x1), (2, .int x2), (3, .int x3), (4, .int t.1), (5, .int t.2)])) 41 (fun (t : Int32 × Int32) => [(0, .ref x0), (1, .ref x1), (2, .int x2), (3, .int x3), (4, .int t.1), (5, .int x5), (6, .int t.2)])) 50 (fun (t : Int32 × Int32) => [(0, .ref x0), (1, .ref x1), (2, .int x2), (3, .int x3), (4, .int t.1), (5, .int x5), (6, .int x6), (7, .int t.2)])) := by
  unfold X0_derivationsOf_L50
  refine J_iload dX0_derivationsOf_50 7 rfl ?_
  refine J_iload_n dX0_derivationsOf_52 rfl 2 rfl ?_
  refine J_icmp_ge (tgt := 224) dX0_derivationsOf_53 rfl ?_ ?_
  · refine J_inl ?_
    refine J_sub [0, 1, 2, 3, 4, 5, 6] rfl ?_
    exact j_X0_derivationsOf_b224 D dA x0 x1 x2 x3 x4 x5 x6
  refine J_iconst (v := 0) dX0_derivationsOf_56 (by decide) ?_
  refine J_istore (env' := [(8, .int 0), (0, .ref x0), (1, .ref x1), (2, .int x2), (3, .int x3), (4, .int x4), (5, .int x5), (6, .int x6), (7, .int x7)]) dX0_derivationsOf_57 (by decide) rfl ?_
  refine J_loop (he := fun (t : Int32) => [(0, .ref x0), (1, .ref x1), (2, .int x2), (3, .int x3), (4, .int x4), (5, .int x5), (6, .int x6), (7, .int x7), (8, .int t)]) [1, 2, 3, 4, 5, 6, 7, 8, 0] rfl (fun t => ?_)
  exact j_X0_derivationsOf_L59 D dA x0 x1 x2 x3 x4 x5 x6 x7 t
noncomputable def X0_derivationsOf_L41 (x0 : Nat) (x1 : Nat) (x2 : Int32) (x3 : Int32) (x5 : Int32) (x4 : Int32) (x6 : Int32) : JM Mem ((Int32 ⊕ (Int32 × Int32)) ⊕ (Int32 × Int32)) :=
  if x2 ≤ x6 then
    jinl (X0_derivationsOf_b230 x0 x1 x2 x3 x4 x5)
  else
    jloop (fun (t : Int32 × Int32) => X0_derivationsOf_L50 x0 x1 x2 x3 x5 x6 t.1 t.2) (x4, 0)
theorem j_X0_derivationsOf_L41 (D : va_G) (dA : Nat → ClassId) (x0 : Nat) (x1 : Nat) (x2 : Int32) (x3 : Int32) (x5 : Int32) (x4 : Int32) (x6 : Int32) : J (PM D dA false) Y_X0_derivationsOf [(0, .ref x0), (1, .ref x1), (2, .int x2), (3, .int x3), (4, .int x4), (5, .int x5), (6, .int x6)] [] 41 (X0_derivationsOf_L41 x0 x1 x2 x3 x5 x4 x6) (FLoop (FLoop (FRet injI) 29 (fun (t : Int32 × Int32) => [(0, .ref x0), (1, .ref x1), (2, .int x2), (3, .int x3), (4, .int t.1), (5, .int t.2)])) 41 (fun (t : Int32 × Int32) => [(0, .ref x0), (1, .ref x1), (2, .int x2), (3, .int x3), (4, .int t.1), (5, .int x5), (6, .int t.2)])) := by
  unfold X0_derivationsOf_L41
  refine J_iload dX0_derivationsOf_41 6 rfl ?_
  refine J_iload_n dX0_derivationsOf_43 rfl 2 rfl ?_
  refine J_icmp_ge (tgt := 230) dX0_derivationsOf_44 rfl ?_ ?_
  · refine J_inl ?_
    refine J_sub [0, 1, 2, 3, 4, 5] rfl ?_
    exact j_X0_derivationsOf_b230 D dA x0 x1 x2 x3 x4 x5
  refine J_iconst (v := 0) dX0_derivationsOf_47 (by decide) ?_
  refine J_istore (env' := [(7, .int 0), (0, .ref x0), (1, .ref x1), (2, .int x2), (3, .int x3), (4, .int x4), (5, .int x5), (6, .int x6)]) dX0_derivationsOf_48 (by decide) rfl ?_
  refine J_loop (he := fun (t : Int32 × Int32) => [(0, .ref x0), (1, .ref x1), (2, .int x2), (3, .int x3), (4, .int t.1), (5, .int x5), (6, .int x6), (7, .int t.2)]) [1, 2, 3, 4, 5, 6, 7, 0] rfl (fun t => ?_)
  exact j_X0_derivationsOf_L50 D dA x0 x1 x2 x3 x5 x6 t.1 t.2
noncomputable def X0_derivationsOf_L29 (x0 : Nat) (x1 : Nat) (x2 : Int32) (x3 : Int32) (x4 : Int32) (x5 : Int32) : JM Mem (Int32 ⊕ (Int32 × Int32)) :=
  if x2 ≤ x5 then
    jinl (X0_derivationsOf_b236 x0 x1 x2 x3)
  else
  jlet (x5 + 1) fun y5 =>
  jloop (fun (t : Int32 × Int32) => X0_derivationsOf_L41 x0 x1 x2 x3 x5 t.1 t.2) (x4, y5)
theorem j_X0_derivationsOf_L29 (D : va_G) (dA : Nat → ClassId) (x0 : Nat) (x1 : Nat) (x2 : Int32) (x3 : Int32) (x4 : Int32) (x5 : Int32) : J (PM D dA false) Y_X0_derivationsOf [(0, .ref x0), (1, .ref x1), (2, .int x2), (3, .int x3), (4, .int x4), (5, .int x5)] [] 29 (X0_derivationsOf_L29 x0 x1 x2 x3 x4 x5) (FLoop (FRet injI) 29 (fun (t : Int32 × Int32) => [(0, .ref x0), (1, .ref x1), (2, .int x2), (3, .int x3), (4, .int t.1), (5, .int t.2)])) := by
  unfold X0_derivationsOf_L29
  refine J_iload dX0_derivationsOf_29 5 rfl ?_
  refine J_iload_n dX0_derivationsOf_31 rfl 2 rfl ?_
  refine J_icmp_ge (tgt := 236) dX0_derivationsOf_32 rfl ?_ ?_
  · refine J_inl ?_
    refine J_sub [0, 1, 2, 3] rfl ?_
    exact j_X0_derivationsOf_b236 D dA x0 x1 x2 x3
  refine J_iload dX0_derivationsOf_35 5 rfl ?_
  refine J_iconst (v := 1) dX0_derivationsOf_37 (by decide) ?_
  refine J_iadd dX0_derivationsOf_38 ?_
  refine J_letI (fun y5 => ?_)
  refine J_istore (env' := [(6, .int y5), (0, .ref x0), (1, .ref x1), (2, .int x2), (3, .int x3), (4, .int x4), (5, .int x5)]) dX0_derivationsOf_39 (by decide) rfl ?_
  refine J_loop (he := fun (t : Int32 × Int32) => [(0, .ref x0), (1, .ref x1), (2, .int x2), (3, .int x3), (4, .int t.1), (5, .int x5), (6, .int t.2)]) [1, 2, 3, 4, 5, 6, 0] rfl (fun t => ?_)
  exact j_X0_derivationsOf_L41 D dA x0 x1 x2 x3 x5 t.1 t.2
noncomputable def f_X0_derivationsOf (x0 : Nat) (x1 : Nat) : JM Mem Int32 :=
  jb (jgetI 3 2 x1) fun v1 =>
  jb (jdiv ((v1 * v1) * (v1 - 1)) 2) fun v2 =>
  jb (jcall 0 x0 (f_X0_clearRows x0 v2 (v1 * v1))) fun _ =>
  jloop (fun (t : Int32 × Int32) => X0_derivationsOf_L29 x0 x1 v1 v2 t.1 t.2) (0, 0)
theorem j_X0_derivationsOf (D : va_G) (dA : Nat → ClassId) (x0 : Nat) (x1 : Nat) : J (PM D dA false) Y_X0_derivationsOf [(0, .ref x0), (1, .ref x1)] [] 0 (f_X0_derivationsOf x0 x1) (FRet injI) := by
  unfold f_X0_derivationsOf
  refine J_aload_n dX0_derivationsOf_0 rfl 1 rfl ?_
  refine J_getI dX0_derivationsOf_1 fl_X0_196 rfl (fun v1 => ?_)
  refine J_istore_n (env' := [(2, .int v1), (0, .ref x0), (1, .ref x1)]) dX0_derivationsOf_4 rfl (by decide) rfl ?_
  refine J_iload_n dX0_derivationsOf_5 rfl 0 rfl ?_
  refine J_iload_n dX0_derivationsOf_6 rfl 0 rfl ?_
  refine J_imul dX0_derivationsOf_7 ?_
  refine J_iload_n dX0_derivationsOf_8 rfl 0 rfl ?_
  refine J_iconst (v := 1) dX0_derivationsOf_9 (by decide) ?_
  refine J_isub dX0_derivationsOf_10 ?_
  refine J_imul dX0_derivationsOf_11 ?_
  refine J_iconst (v := 2) dX0_derivationsOf_12 (by decide) ?_
  refine J_idiv dX0_derivationsOf_13 (fun v2 => ?_)
  refine J_istore_n (env' := [(3, .int v2), (2, .int v1), (0, .ref x0), (1, .ref x1)]) dX0_derivationsOf_14 rfl (by decide) rfl ?_
  refine J_aload_n dX0_derivationsOf_15 rfl 2 rfl ?_
  refine J_iload_n dX0_derivationsOf_16 rfl 0 rfl ?_
  refine J_iload_n dX0_derivationsOf_17 rfl 1 rfl ?_
  refine J_iload_n dX0_derivationsOf_18 rfl 1 rfl ?_
  refine J_imul dX0_derivationsOf_19 ?_
  refine J_callVV (c := 0) (as := [.int v2, .int (v1 * v1)]) dX0_derivationsOf_20 (by decide) rfl (Nat.le_of_ble_eq_true rfl) (cw_X0_clearRows _ (by decide)) q1170 q1172 qs26 q1173 np_X0_clearRows (i_X0_clearRows x0 v2 (v1 * v1)) jad_id rfl ?_
  refine J_iconst (v := 0) dX0_derivationsOf_23 (by decide) ?_
  refine J_istore (env' := [(4, .int 0), (3, .int v2), (2, .int v1), (0, .ref x0), (1, .ref x1)]) dX0_derivationsOf_24 (by decide) rfl ?_
  refine J_iconst (v := 0) dX0_derivationsOf_26 (by decide) ?_
  refine J_istore (env' := [(5, .int 0), (4, .int 0), (3, .int v2), (2, .int v1), (0, .ref x0), (1, .ref x1)]) dX0_derivationsOf_27 (by decide) rfl ?_
  refine J_loop (he := fun (t : Int32 × Int32) => [(0, .ref x0), (1, .ref x1), (2, .int v1), (3, .int v2), (4, .int t.1), (5, .int t.2)]) [4, 5, 3, 2, 1, 0] rfl (fun t => ?_)
  exact j_X0_derivationsOf_L29 D dA x0 x1 v1 v2 t.1 t.2
theorem i_X0_derivationsOf (x0 : Nat) (x1 : Nat) : Impl (ws_ yX0_derivationsOf cX0_derivationsOf 9 (some .int)) yX0_derivationsOf 4 false 0 0 [.ref x0, .ref x1] (f_X0_derivationsOf x0 x1) injI := impl_of (plainFor_of_name (by decide)) (Nat.le_of_ble_eq_true rfl) (fun D dA => j_X0_derivationsOf D dA x0 x1)
theorem cw_X0_derivationsOf (Y : JY) (h : 5 ≤ Y.2.2.2.1) : JCw Y (ws_ yX0_derivationsOf cX0_derivationsOf 9 (some .int)) yX0_derivationsOf cX0_derivationsOf 9 (some .int) 4 := ⟨h, by decide, lw_meth q1277, q187, by decide, by decide⟩
theorem np_X0_derivationsOf : JNp yX0_derivationsOf.desc 1 := by decide +kernel
-- BracketRoom.derivations(I)I
abbrev Y_X0_derivations : JY := (cX0_derivations, yX0_derivations.cls, 3, 5, yX0_derivations.name, (some .int), [])
noncomputable def X0_derivations_b9 (x0 : Nat) : JM Mem Int32 :=
  jb (jcall 0 x0 (f_X0_none x0 5)) fun v1 =>
  jp v1
theorem j_X0_derivations_b9 (D : va_G) (dA : Nat → ClassId) (x0 : Nat) : J (PM D dA false) Y_X0_derivations [(0, .ref x0)] [] 9 (X0_derivations_b9 x0) (FRet injI) := by
  unfold X0_derivations_b9
  refine J_aload_n dX0_derivations_9 rfl 0 rfl ?_
  refine J_iconst (v := 5) dX0_derivations_10 (by decide) ?_
  refine J_callVI (c := 0) (as := [.int 5]) dX0_derivations_11 (by decide) rfl (Nat.le_of_ble_eq_true rfl) (cw_X0_none _ (by decide)) q729 q731 qs3 q732 np_X0_none (i_X0_none x0 5) jad_id rfl (fun v1 => ?_)
  exact J_ireturn dX0_derivations_14 rfl
noncomputable def X0_derivations_b61 (s0 : Nat) (s1 : Int32) : JM Mem Int32 :=
  jb (jcall 0 s0 (f_X0_gives s0 s1)) fun v9 =>
  jp v9
theorem j_X0_derivations_b61 (D : va_G) (dA : Nat → ClassId) (s0 : Nat) (s1 : Int32) : J (PM D dA false) Y_X0_derivations [] [.int s1, .ref s0] 61 (X0_derivations_b61 s0 s1) (FRet injI) := by
  unfold X0_derivations_b61
  refine J_callVI (c := 0) (as := [.int s1]) dX0_derivations_61 (by decide) rfl (Nat.le_of_ble_eq_true rfl) (cw_X0_gives _ (by decide)) q944 q946 qs9 q947 np_X0_gives (i_X0_gives s0 s1) jad_id rfl (fun v9 => ?_)
  exact J_ireturn dX0_derivations_64 rfl
noncomputable def X0_derivations_b60 (s0 : Nat) (s1 : Int32) (s2 : Int32) : JM Mem Int32 :=
  X0_derivations_b61 s0 (s1 - s2)
theorem j_X0_derivations_b60 (D : va_G) (dA : Nat → ClassId) (s0 : Nat) (s1 : Int32) (s2 : Int32) : J (PM D dA false) Y_X0_derivations [] [.int s2, .int s1, .ref s0] 60 (X0_derivations_b60 s0 s1 s2) (FRet injI) := by
  unfold X0_derivations_b60
  refine J_isub dX0_derivations_60 ?_
  refine J_sub [] rfl ?_
  exact j_X0_derivations_b61 D dA s0 (s1 - s2)
noncomputable def f_X0_derivations (x0 : Nat) (x1 : Int32) : JM Mem Int32 :=
  if x1 < 0 then
    X0_derivations_b9 x0
  else
  if x1 ≤ 2 then
    jb (jgetA 0 2 x0) fun v2 =>
    jb (jgetI 3 2 v2) fun v3 =>
    jb (jgetA 0 2 x0) fun v4 =>
    jb (jcall 0 x0 (f_X0_centreOf x0 v4)) fun v5 =>
    jlet (v3 - v5) fun y6 =>
    if x1 = 1 then
      X0_derivations_b61 x0 y6
    else
    jb (jgetA 0 2 x0) fun v7 =>
    jb (jcall 0 x0 (f_X0_derivationsOf x0 v7)) fun v8 =>
    if x1 = 2 then
      X0_derivations_b60 x0 v8 y6
    else
      X0_derivations_b60 x0 v8 0
  else
    X0_derivations_b9 x0
theorem j_X0_derivations (D : va_G) (dA : Nat → ClassId) (x0 : Nat) (x1 : Int32) : J (PM D dA false) Y_X0_derivations [(0, .ref x0), (1, .int x1)] [] 0 (f_X0_derivations x0 x1) (FRet injI) := by
  unfold f_X0_derivations
  refine J_iload_n dX0_derivations_0 rfl 1 rfl ?_
  refine J_if_lt (tgt := 9) dX0_derivations_1 rfl ?_ ?_
  · refine J_sub [0] rfl ?_
    exact j_X0_derivations_b9 D dA x0
  refine J_iload_n dX0_derivations_4 rfl 1 rfl ?_
  refine J_iconst (v := 2) dX0_derivations_5 (by decide) ?_
  refine J_icmp_le (tgt := 15) dX0_derivations_6 rfl ?_ ?_
  · refine J_aload_n dX0_derivations_15 rfl 0 rfl ?_
    refine J_getA dX0_derivations_16 fl_X0_30 rfl (fun v2 => ?_)
    refine J_getI dX0_derivations_19 fl_X0_196 rfl (fun v3 => ?_)
    refine J_aload_n dX0_derivations_22 rfl 0 rfl ?_
    refine J_aload_n dX0_derivations_23 rfl 0 rfl ?_
    refine J_getA dX0_derivations_24 fl_X0_30 rfl (fun v4 => ?_)
    refine J_callVI (c := 0) (as := [.ref v4]) dX0_derivations_27 (by decide) rfl (Nat.le_of_ble_eq_true rfl) (cw_X0_centreOf _ (by decide)) q1166 q1168 qs25 q1169 np_X0_centreOf (i_X0_centreOf x0 v4) jad_id rfl (fun v5 => ?_)
    refine J_isub dX0_derivations_30 ?_
    refine J_letI (fun y6 => ?_)
    refine J_istore_n (env' := [(2, .int y6), (0, .ref x0), (1, .int x1)]) dX0_derivations_31 rfl (by decide) rfl ?_
    refine J_aload_n dX0_derivations_32 rfl 1 rfl ?_
    refine J_iload_n dX0_derivations_33 rfl 2 rfl ?_
    refine J_iconst (v := 1) dX0_derivations_34 (by decide) ?_
    refine J_icmp_ne (tgt := 42) dX0_derivations_35 rfl ?_ ?_
    · refine J_aload_n dX0_derivations_42 rfl 1 rfl ?_
      refine J_aload_n dX0_derivations_43 rfl 1 rfl ?_
      refine J_getA dX0_derivations_44 fl_X0_30 rfl (fun v7 => ?_)
      refine J_callVI (c := 0) (as := [.ref v7]) dX0_derivations_47 (by decide) rfl (Nat.le_of_ble_eq_true rfl) (cw_X0_derivationsOf _ (by decide)) q1274 q1276 qs40 q1277 np_X0_derivationsOf (i_X0_derivationsOf x0 v7) jad_id rfl (fun v8 => ?_)
      refine J_iload_n dX0_derivations_50 rfl 2 rfl ?_
      refine J_iconst (v := 2) dX0_derivations_51 (by decide) ?_
      refine J_icmp_ne (tgt := 59) dX0_derivations_52 rfl ?_ ?_
      · refine J_iconst (v := 0) dX0_derivations_59 (by decide) ?_
        refine J_sub [] rfl ?_
        exact j_X0_derivations_b60 D dA x0 v8 0
      refine J_iload_n dX0_derivations_55 rfl 0 rfl ?_
      refine J_goto (tgt := 60) dX0_derivations_56 rfl ?_
      refine J_sub [] rfl ?_
      exact j_X0_derivations_b60 D dA x0 v8 y6
    refine J_iload_n dX0_derivations_38 rfl 0 rfl ?_
    refine J_goto (tgt := 61) dX0_derivations_39 rfl ?_
    refine J_sub [] rfl ?_
    exact j_X0_derivations_b61 D dA x0 y6
  refine J_sub [0] rfl ?_
  exact j_X0_derivations_b9 D dA x0
theorem i_X0_derivations (x0 : Nat) (x1 : Int32) : Impl (ws_ yX0_derivations cX0_derivations 3 (some .int)) yX0_derivations 5 false 0 0 [.ref x0, .int x1] (f_X0_derivations x0 x1) injI := impl_of (plainFor_of_name (by decide)) (Nat.le_of_ble_eq_true rfl) (fun D dA => j_X0_derivations D dA x0 x1)
theorem cw_X0_derivations (Y : JY) (h : 6 ≤ Y.2.2.2.1) : JCw Y (ws_ yX0_derivations cX0_derivations 3 (some .int)) yX0_derivations cX0_derivations 3 (some .int) 5 := ⟨h, by decide, lw_meth q1273, q187, by decide, by decide⟩
theorem np_X0_derivations : JNp yX0_derivations.desc 1 := by decide +kernel
-- BracketRoom.formOf(LBracketRoom$World;)I
abbrev Y_X0_formOf : JY := (cX0_formOf, yX0_formOf.cls, 8, 4, yX0_formOf.name, (some .int), [])
noncomputable def X0_formOf_b118 (x0 : Nat) (x1 : Nat) (x2 : Int32) : JM Mem Int32 :=
  jb (jgetA 0 23 x0) fun v2 =>
  jb (jcall 3 x1 (f_X4_rank x1 v2 x2 x2)) fun v3 =>
  jp v3
theorem j_X0_formOf_b118 (D : va_G) (dA : Nat → ClassId) (x0 : Nat) (x1 : Nat) (x2 : Int32) : J (PM D dA false) Y_X0_formOf [(0, .ref x0), (1, .ref x1), (2, .int x2)] [] 118 (X0_formOf_b118 x0 x1 x2) (FRet injI) := by
  unfold X0_formOf_b118
  refine J_aload_n dX0_formOf_118 rfl 1 rfl ?_
  refine J_aload_n dX0_formOf_119 rfl 0 rfl ?_
  refine J_getA dX0_formOf_120 fl_X0_93 rfl (fun v2 => ?_)
  refine J_iload_n dX0_formOf_123 rfl 2 rfl ?_
  refine J_iload_n dX0_formOf_124 rfl 2 rfl ?_
  refine J_callVI (c := 3) (as := [.ref v2, .int x2, .int x2]) dX0_formOf_125 (by decide) rfl (Nat.le_of_ble_eq_true rfl) (cw_X4_rank _ (by decide)) q1174 q1175 q1176 q1177 np_X4_rank (i_X4_rank x1 v2 x2 x2) jad_id rfl (fun v3 => ?_)
  exact J_ireturn dX0_formOf_128 rfl
noncomputable def X0_formOf_b112 (x0 : Nat) (x1 : Nat) (x2 : Int32) (x3 : Int32) : JM Mem (Int32 ⊕ (Int32)) :=
  jcont (x3 + 1)
theorem j_X0_formOf_b112 (D : va_G) (dA : Nat → ClassId) (x0 : Nat) (x1 : Nat) (x2 : Int32) (x3 : Int32) : J (PM D dA false) Y_X0_formOf [(0, .ref x0), (1, .ref x1), (2, .int x2), (3, .int x3)] [] 112 (X0_formOf_b112 x0 x1 x2 x3) (FLoop (FRet injI) 13 (fun (t : Int32) => [(0, .ref x0), (1, .ref x1), (2, .int x2), (3, .int t)])) := by
  unfold X0_formOf_b112
  refine J_iinc (v := x3 + 1) (env' := [(3, .int (x3 + 1)), (0, .ref x0), (1, .ref x1), (2, .int x2)]) dX0_formOf_112 3 rfl rfl (by decide) rfl ?_
  refine J_goto (tgt := 13) dX0_formOf_115 rfl ?_
  exact J_cont [1, 2, 3, 0] rfl
noncomputable def X0_formOf_b91 (x0 : Nat) (x1 : Nat) (x2 : Int32) (x3 : Int32) (x4 : Int32) (x5 : Int32) : JM Mem ((Int32 ⊕ (Int32)) ⊕ (Int32)) :=
  jb (jgetA 0 23 x0) fun v4 =>
  jb (jaldA 5 v4 x3) fun v5 =>
  jb (jcall 3 x1 (f_X4_by x1 x5)) fun v6 =>
  jb (jast_i v5 x4 v6) fun _ =>
  jcont (x4 + 1)
theorem j_X0_formOf_b91 (D : va_G) (dA : Nat → ClassId) (x0 : Nat) (x1 : Nat) (x2 : Int32) (x3 : Int32) (x4 : Int32) (x5 : Int32) : J (PM D dA false) Y_X0_formOf [(0, .ref x0), (1, .ref x1), (2, .int x2), (3, .int x3), (4, .int x4), (5, .int x5)] [] 91 (X0_formOf_b91 x0 x1 x2 x3 x4 x5) (FLoop (FLoop (FRet injI) 13 (fun (t : Int32) => [(0, .ref x0), (1, .ref x1), (2, .int x2), (3, .int t)])) 21 (fun (t : Int32) => [(0, .ref x0), (1, .ref x1), (2, .int x2), (3, .int x3), (4, .int t)])) := by
  unfold X0_formOf_b91
  refine J_aload_n dX0_formOf_91 rfl 0 rfl ?_
  refine J_getA dX0_formOf_92 fl_X0_93 rfl (fun v4 => ?_)
  refine J_iload_n dX0_formOf_95 rfl 3 rfl ?_
  refine J_aald dX0_formOf_96 rfl (by decide) (fun v5 => ?_)
  refine J_iload dX0_formOf_97 4 rfl ?_
  refine J_aload_n dX0_formOf_99 rfl 1 rfl ?_
  refine J_iload dX0_formOf_100 5 rfl ?_
  refine J_callVI (c := 3) (as := [.int x5]) dX0_formOf_102 (by decide) rfl (Nat.le_of_ble_eq_true rfl) (cw_X4_by _ (by decide)) q1067 q929 q930 q931 np_X4_by (i_X4_by x1 x5) jad_id rfl (fun v6 => ?_)
  refine J_iast dX0_formOf_105 ?_
  refine J_iinc (v := x4 + 1) (env' := [(4, .int (x4 + 1)), (0, .ref x0), (1, .ref x1), (2, .int x2), (3, .int x3), (5, .int x5)]) dX0_formOf_106 4 rfl rfl (by decide) rfl ?_
  refine J_goto (tgt := 21) dX0_formOf_109 rfl ?_
  exact J_cont [1, 2, 3, 4, 0] rfl
noncomputable def X0_formOf_b85 (x0 : Nat) (x1 : Nat) (x2 : Int32) (x3 : Int32) (x4 : Int32) (x5 : Int32) (x6 : Int32) : JM Mem (((Int32 ⊕ (Int32)) ⊕ (Int32)) ⊕ (Int32 × Int32)) :=
  jcont (x5, x6 + 1)
theorem j_X0_formOf_b85 (D : va_G) (dA : Nat → ClassId) (x0 : Nat) (x1 : Nat) (x2 : Int32) (x3 : Int32) (x4 : Int32) (x5 : Int32) (x6 : Int32) : J (PM D dA false) Y_X0_formOf [(0, .ref x0), (1, .ref x1), (2, .int x2), (3, .int x3), (4, .int x4), (5, .int x5), (6, .int x6)] [] 85 (X0_formOf_b85 x0 x1 x2 x3 x4 x5 x6) (FLoop (FLoop (FLoop (FRet injI) 13 (fun (t : Int32) => [(0, .ref x0), (1, .ref x1), (2, .int x2), (3, .int t)])) 21 (fun (t : Int32) => [(0, .ref x0), (1, .ref x1), (2, .int x2), (3, .int x3), (4, .int t)])) 33 (fun (t : Int32 × Int32) => [(0, .ref x0), (1, .ref x1), (2, .int x2), (3, .int x3), (4, .int x4), (5, .int t.1), (6, .int t.2)])) := by
  unfold X0_formOf_b85
  refine J_iinc (v := x6 + 1) (env' := [(6, .int (x6 + 1)), (0, .ref x0), (1, .ref x1), (2, .int x2), (3, .int x3), (4, .int x4), (5, .int x5)]) dX0_formOf_85 6 rfl rfl (by decide) rfl ?_
  refine J_goto (tgt := 33) dX0_formOf_88 rfl ?_
  exact J_cont [1, 2, 3, 4, 5, 6, 0] rfl
noncomputable def X0_formOf_L42 (x0 : Nat) (x1 : Nat) (x2 : Int32) (x3 : Int32) (x4 : Int32) (x6 : Int32) (x5 : Int32) (x7 : Int32) : JM Mem ((((Int32 ⊕ (Int32)) ⊕ (Int32)) ⊕ (Int32 × Int32)) ⊕ (Int32 × Int32)) :=
  if x2 ≤ x7 then
    jinl (X0_formOf_b85 x0 x1 x2 x3 x4 x5 x6)
  else
  jb (jgetA 3 0 x1) fun v7 =>
  jb (jaldA 6 v7 x3) fun v8 =>
  jb (jaldA 5 v8 x7) fun v9 =>
  jb (jald mI 0 v9 x6) fun v10 =>
  jb (jgetA 3 0 x1) fun v11 =>
  jb (jaldA 6 v11 x4) fun v12 =>
  jb (jaldA 5 v12 x6) fun v13 =>
  jb (jald mI 0 v13 x7) fun v14 =>
  jlet (x5 + (v10 * v14)) fun y15 =>
  jcont (y15, x7 + 1)
theorem j_X0_formOf_L42 (D : va_G) (dA : Nat → ClassId) (x0 : Nat) (x1 : Nat) (x2 : Int32) (x3 : Int32) (x4 : Int32) (x6 : Int32) (x5 : Int32) (x7 : Int32) : J (PM D dA false) Y_X0_formOf [(0, .ref x0), (1, .ref x1), (2, .int x2), (3, .int x3), (4, .int x4), (5, .int x5), (6, .int x6), (7, .int x7)] [] 42 (X0_formOf_L42 x0 x1 x2 x3 x4 x6 x5 x7) (FLoop (FLoop (FLoop (FLoop (FRet injI) 13 (fun (t : Int32) => [(0, .ref x0), (1, .ref x1), (2, .int x2), (3, .int t)])) 21 (fun (t : Int32) => [(0, .ref x0), (1, .ref x1), (2, .int x2), (3, .int x3), (4, .int t)])) 33 (fun (t : Int32 × Int32) => [(0, .ref x0), (1, .ref x1), (2, .int x2), (3, .int x3), (4, .int x4), (5, .int t.1), (6, .int t.2)])) 42 (fun (t : Int32 × Int32) => [(0, .ref x0), (1, .ref x1), (2, .int x2), (3, .int x3), (4, .int x4), (5, .int t.1), (6, .int x6), (7, .int t.2)])) := by
  unfold X0_formOf_L42
  refine J_iload dX0_formOf_42 7 rfl ?_
  refine J_iload_n dX0_formOf_44 rfl 2 rfl ?_
  refine J_icmp_ge (tgt := 85) dX0_formOf_45 rfl ?_ ?_
  · refine J_inl ?_
    refine J_sub [0, 1, 2, 3, 4, 5, 6] rfl ?_
    exact j_X0_formOf_b85 D dA x0 x1 x2 x3 x4 x5 x6
  refine J_iload dX0_formOf_48 5 rfl ?_
  refine J_aload_n dX0_formOf_50 rfl 1 rfl ?_
  refine J_getA dX0_formOf_51 fl_X0_256 rfl (fun v7 => ?_)
  refine J_iload_n dX0_formOf_54 rfl 3 rfl ?_
  refine J_aald dX0_formOf_55 rfl (by decide) (fun v8 => ?_)
  refine J_iload dX0_formOf_56 7 rfl ?_
  refine J_aald dX0_formOf_58 rfl (by decide) (fun v9 => ?_)
  refine J_iload dX0_formOf_59 6 rfl ?_
  refine J_iald dX0_formOf_61 (fun v10 => ?_)
  refine J_aload_n dX0_formOf_62 rfl 1 rfl ?_
  refine J_getA dX0_formOf_63 fl_X0_256 rfl (fun v11 => ?_)
  refine J_iload dX0_formOf_66 4 rfl ?_
  refine J_aald dX0_formOf_68 rfl (by decide) (fun v12 => ?_)
  refine J_iload dX0_formOf_69 6 rfl ?_
  refine J_aald dX0_formOf_71 rfl (by decide) (fun v13 => ?_)
  refine J_iload dX0_formOf_72 7 rfl ?_
  refine J_iald dX0_formOf_74 (fun v14 => ?_)
  refine J_imul dX0_formOf_75 ?_
  refine J_iadd dX0_formOf_76 ?_
  refine J_letI (fun y15 => ?_)
  refine J_istore (env' := [(5, .int y15), (0, .ref x0), (1, .ref x1), (2, .int x2), (3, .int x3), (4, .int x4), (6, .int x6), (7, .int x7)]) dX0_formOf_77 (by decide) rfl ?_
  refine J_iinc (v := x7 + 1) (env' := [(7, .int (x7 + 1)), (5, .int y15), (0, .ref x0), (1, .ref x1), (2, .int x2), (3, .int x3), (4, .int x4), (6, .int x6)]) dX0_formOf_79 7 rfl rfl (by decide) rfl ?_
  refine J_goto (tgt := 42) dX0_formOf_82 rfl ?_
  exact J_cont [2, 3, 4, 5, 6, 1, 7, 0] rfl
noncomputable def X0_formOf_L33 (x0 : Nat) (x1 : Nat) (x2 : Int32) (x3 : Int32) (x4 : Int32) (x5 : Int32) (x6 : Int32) : JM Mem (((Int32 ⊕ (Int32)) ⊕ (Int32)) ⊕ (Int32 × Int32)) :=
  if x2 ≤ x6 then
    jinl (X0_formOf_b91 x0 x1 x2 x3 x4 x5)
  else
    jloop (fun (t : Int32 × Int32) => X0_formOf_L42 x0 x1 x2 x3 x4 x6 t.1 t.2) (x5, 0)
theorem j_X0_formOf_L33 (D : va_G) (dA : Nat → ClassId) (x0 : Nat) (x1 : Nat) (x2 : Int32) (x3 : Int32) (x4 : Int32) (x5 : Int32) (x6 : Int32) : J (PM D dA false) Y_X0_formOf [(0, .ref x0), (1, .ref x1), (2, .int x2), (3, .int x3), (4, .int x4), (5, .int x5), (6, .int x6)] [] 33 (X0_formOf_L33 x0 x1 x2 x3 x4 x5 x6) (FLoop (FLoop (FLoop (FRet injI) 13 (fun (t : Int32) => [(0, .ref x0), (1, .ref x1), (2, .int x2), (3, .int t)])) 21 (fun (t : Int32) => [(0, .ref x0), (1, .ref x1), (2, .int x2), (3, .int x3), (4, .int t)])) 33 (fun (t : Int32 × Int32) => [(0, .ref x0), (1, .ref x1), (2, .int x2), (3, .int x3), (4, .int x4), (5, .int t.1), (6, .int t.2)])) := by
  unfold X0_formOf_L33
  refine J_iload dX0_formOf_33 6 rfl ?_
  refine J_iload_n dX0_formOf_35 rfl 2 rfl ?_
  refine J_icmp_ge (tgt := 91) dX0_formOf_36 rfl ?_ ?_
  · refine J_inl ?_
    refine J_sub [0, 1, 2, 3, 4, 5] rfl ?_
    exact j_X0_formOf_b91 D dA x0 x1 x2 x3 x4 x5
  refine J_iconst (v := 0) dX0_formOf_39 (by decide) ?_
  refine J_istore (env' := [(7, .int 0), (0, .ref x0), (1, .ref x1), (2, .int x2), (3, .int x3), (4, .int x4), (5, .int x5), (6, .int x6)]) dX0_formOf_40 (by decide) rfl ?_
  refine J_loop (he := fun (t : Int32 × Int32) => [(0, .ref x0), (1, .ref x1), (2, .int x2), (3, .int x3), (4, .int x4), (5, .int t.1), (6, .int x6), (7, .int t.2)]) [1, 2, 3, 4, 5, 6, 7, 0] rfl (fun t => ?_)
  exact j_X0_formOf_L42 D dA x0 x1 x2 x3 x4 x6 t.1 t.2
noncomputable def X0_formOf_L21 (x0 : Nat) (x1 : Nat) (x2 : Int32) (x3 : Int32) (x4 : Int32) : JM Mem ((Int32 ⊕ (Int32)) ⊕ (Int32)) :=
  if x2 ≤ x4 then
    jinl (X0_formOf_b112 x0 x1 x2 x3)
  else
    jloop (fun (t : Int32 × Int32) => X0_formOf_L33 x0 x1 x2 x3 x4 t.1 t.2) (0, 0)
theorem j_X0_formOf_L21 (D : va_G) (dA : Nat → ClassId) (x0 : Nat) (x1 : Nat) (x2 : Int32) (x3 : Int32) (x4 : Int32) : J (PM D dA false) Y_X0_formOf [(0, .ref x0), (1, .ref x1), (2, .int x2), (3, .int x3), (4, .int x4)] [] 21 (X0_formOf_L21 x0 x1 x2 x3 x4) (FLoop (FLoop (FRet injI) 13 (fun (t : Int32) => [(0, .ref x0), (1, .ref x1), (2, .int x2), (3, .int t)])) 21 (fun (t : Int32) => [(0, .ref x0), (1, .ref x1), (2, .int x2), (3, .int x3), (4, .int t)])) := by
  unfold X0_formOf_L21
  refine J_iload dX0_formOf_21 4 rfl ?_
  refine J_iload_n dX0_formOf_23 rfl 2 rfl ?_
  refine J_icmp_ge (tgt := 112) dX0_formOf_24 rfl ?_ ?_
  · refine J_inl ?_
    refine J_sub [0, 1, 2, 3] rfl ?_
    exact j_X0_formOf_b112 D dA x0 x1 x2 x3
  refine J_iconst (v := 0) dX0_formOf_27 (by decide) ?_
  refine J_istore (env' := [(5, .int 0), (0, .ref x0), (1, .ref x1), (2, .int x2), (3, .int x3), (4, .int x4)]) dX0_formOf_28 (by decide) rfl ?_
  refine J_iconst (v := 0) dX0_formOf_30 (by decide) ?_
  refine J_istore (env' := [(6, .int 0), (5, .int 0), (0, .ref x0), (1, .ref x1), (2, .int x2), (3, .int x3), (4, .int x4)]) dX0_formOf_31 (by decide) rfl ?_
  refine J_loop (he := fun (t : Int32 × Int32) => [(0, .ref x0), (1, .ref x1), (2, .int x2), (3, .int x3), (4, .int x4), (5, .int t.1), (6, .int t.2)]) [2, 3, 4, 5, 6, 1, 0] rfl (fun t => ?_)
  exact j_X0_formOf_L33 D dA x0 x1 x2 x3 x4 t.1 t.2
noncomputable def X0_formOf_L13 (x0 : Nat) (x1 : Nat) (x2 : Int32) (x3 : Int32) : JM Mem (Int32 ⊕ (Int32)) :=
  if x2 ≤ x3 then
    jinl (X0_formOf_b118 x0 x1 x2)
  else
    jloop (fun (t : Int32) => X0_formOf_L21 x0 x1 x2 x3 t) 0
theorem j_X0_formOf_L13 (D : va_G) (dA : Nat → ClassId) (x0 : Nat) (x1 : Nat) (x2 : Int32) (x3 : Int32) : J (PM D dA false) Y_X0_formOf [(0, .ref x0), (1, .ref x1), (2, .int x2), (3, .int x3)] [] 13 (X0_formOf_L13 x0 x1 x2 x3) (FLoop (FRet injI) 13 (fun (t : Int32) => [(0, .ref x0), (1, .ref x1), (2, .int x2), (3, .int t)])) := by
  unfold X0_formOf_L13
  refine J_iload_n dX0_formOf_13 rfl 3 rfl ?_
  refine J_iload_n dX0_formOf_14 rfl 2 rfl ?_
  refine J_icmp_ge (tgt := 118) dX0_formOf_15 rfl ?_ ?_
  · refine J_inl ?_
    refine J_sub [0, 1, 2] rfl ?_
    exact j_X0_formOf_b118 D dA x0 x1 x2
  refine J_iconst (v := 0) dX0_formOf_18 (by decide) ?_
  refine J_istore (env' := [(4, .int 0), (0, .ref x0), (1, .ref x1), (2, .int x2), (3, .int x3)]) dX0_formOf_19 (by decide) rfl ?_
  refine J_loop (he := fun (t : Int32) => [(0, .ref x0), (1, .ref x1), (2, .int x2), (3, .int x3), (4, .int t)]) [1, 2, 3, 4, 0] rfl (fun t => ?_)
  exact j_X0_formOf_L21 D dA x0 x1 x2 x3 t
noncomputable def f_X0_formOf (x0 : Nat) (x1 : Nat) : JM Mem Int32 :=
  jb (jgetI 3 2 x1) fun v1 =>
  jb (jcall 0 x0 (f_X0_clearRows x0 v1 v1)) fun _ =>
  jloop (fun (t : Int32) => X0_formOf_L13 x0 x1 v1 t) 0
theorem j_X0_formOf (D : va_G) (dA : Nat → ClassId) (x0 : Nat) (x1 : Nat) : J (PM D dA false) Y_X0_formOf [(0, .ref x0), (1, .ref x1)] [] 0 (f_X0_formOf x0 x1) (FRet injI) := by
  unfold f_X0_formOf
  refine J_aload_n dX0_formOf_0 rfl 1 rfl ?_
  refine J_getI dX0_formOf_1 fl_X0_196 rfl (fun v1 => ?_)
  refine J_istore_n (env' := [(2, .int v1), (0, .ref x0), (1, .ref x1)]) dX0_formOf_4 rfl (by decide) rfl ?_
  refine J_aload_n dX0_formOf_5 rfl 1 rfl ?_
  refine J_iload_n dX0_formOf_6 rfl 0 rfl ?_
  refine J_iload_n dX0_formOf_7 rfl 0 rfl ?_
  refine J_callVV (c := 0) (as := [.int v1, .int v1]) dX0_formOf_8 (by decide) rfl (Nat.le_of_ble_eq_true rfl) (cw_X0_clearRows _ (by decide)) q1170 q1172 qs26 q1173 np_X0_clearRows (i_X0_clearRows x0 v1 v1) jad_id rfl ?_
  refine J_iconst (v := 0) dX0_formOf_11 (by decide) ?_
  refine J_istore_n (env' := [(3, .int 0), (2, .int v1), (0, .ref x0), (1, .ref x1)]) dX0_formOf_12 rfl (by decide) rfl ?_
  refine J_loop (he := fun (t : Int32) => [(0, .ref x0), (1, .ref x1), (2, .int v1), (3, .int t)]) [2, 3, 1, 0] rfl (fun t => ?_)
  exact j_X0_formOf_L13 D dA x0 x1 v1 t
theorem i_X0_formOf (x0 : Nat) (x1 : Nat) : Impl (ws_ yX0_formOf cX0_formOf 8 (some .int)) yX0_formOf 4 false 0 0 [.ref x0, .ref x1] (f_X0_formOf x0 x1) injI := impl_of (plainFor_of_name (by decide)) (Nat.le_of_ble_eq_true rfl) (fun D dA => j_X0_formOf D dA x0 x1)
theorem cw_X0_formOf (Y : JY) (h : 5 ≤ Y.2.2.2.1) : JCw Y (ws_ yX0_formOf cX0_formOf 8 (some .int)) yX0_formOf cX0_formOf 8 (some .int) 4 := ⟨h, by decide, lw_meth q1285, q187, by decide, by decide⟩
theorem np_X0_formOf : JNp yX0_formOf.desc 1 := by decide +kernel
-- BracketRoom.form()I
abbrev Y_X0_form : JY := (cX0_form, yX0_form.cls, 1, 5, yX0_form.name, (some .int), [])
noncomputable def f_X0_form (x0 : Nat) : JM Mem Int32 :=
  jb (jgetA 0 2 x0) fun v1 =>
  jb (jcall 0 x0 (f_X0_formOf x0 v1)) fun v2 =>
  jb (jcall 0 x0 (f_X0_gives x0 v2)) fun v3 =>
  jp v3
theorem j_X0_form (D : va_G) (dA : Nat → ClassId) (x0 : Nat) : J (PM D dA false) Y_X0_form [(0, .ref x0)] [] 0 (f_X0_form x0) (FRet injI) := by
  unfold f_X0_form
  refine J_aload_n dX0_form_0 rfl 0 rfl ?_
  refine J_aload_n dX0_form_1 rfl 0 rfl ?_
  refine J_aload_n dX0_form_2 rfl 0 rfl ?_
  refine J_getA dX0_form_3 fl_X0_30 rfl (fun v1 => ?_)
  refine J_callVI (c := 0) (as := [.ref v1]) dX0_form_6 (by decide) rfl (Nat.le_of_ble_eq_true rfl) (cw_X0_formOf _ (by decide)) q1282 q1284 qs41 q1285 np_X0_formOf (i_X0_formOf x0 v1) jad_id rfl (fun v2 => ?_)
  refine J_callVI (c := 0) (as := [.int v2]) dX0_form_9 (by decide) rfl (Nat.le_of_ble_eq_true rfl) (cw_X0_gives _ (by decide)) q944 q946 qs9 q947 np_X0_gives (i_X0_gives x0 v2) jad_id rfl (fun v3 => ?_)
  exact J_ireturn dX0_form_12 rfl
theorem i_X0_form (x0 : Nat) : Impl (ws_ yX0_form cX0_form 1 (some .int)) yX0_form 5 false 0 0 [.ref x0] (f_X0_form x0) injI := impl_of (plainFor_of_name (by decide)) (Nat.le_of_ble_eq_true rfl) (fun D dA => j_X0_form D dA x0)
theorem cw_X0_form (Y : JY) (h : 6 ≤ Y.2.2.2.1) : JCw Y (ws_ yX0_form cX0_form 1 (some .int)) yX0_form cX0_form 1 (some .int) 5 := ⟨h, by decide, lw_meth q1281, q187, by decide, by decide⟩
theorem np_X0_form : JNp yX0_form.desc 0 := by decide +kernel
-- BracketRoom.numberOf(I)I
abbrev Y_X0_numberOf : JY := (cX0_numberOf, yX0_numberOf.cls, 3, 2, yX0_numberOf.name, (some .int), [])
noncomputable def X0_numberOf_b26 (x0 : Int32) (x2 : Int32) (s0 : Int32) (s1 : Int32) : JM Mem (Int32 ⊕ (Int32 × Int32)) :=
  jlet (s0 + s1) fun y3 =>
  jcont (y3, x2 + 1)
theorem j_X0_numberOf_b26 (D : va_G) (dA : Nat → ClassId) (x0 : Int32) (x2 : Int32) (s0 : Int32) (s1 : Int32) : J (PM D dA false) Y_X0_numberOf [(0, .int x0), (2, .int x2)] [.int s1, .int s0] 26 (X0_numberOf_b26 x0 x2 s0 s1) (FLoop (FRet injI) 4 (fun (t : Int32 × Int32) => [(0, .int x0), (1, .int t.1), (2, .int t.2)])) := by
  unfold X0_numberOf_b26
  refine J_iadd dX0_numberOf_26 ?_
  refine J_letI (fun y3 => ?_)
  refine J_istore_n (env' := [(1, .int y3), (0, .int x0), (2, .int x2)]) dX0_numberOf_27 rfl (by decide) rfl ?_
  refine J_iinc (v := x2 + 1) (env' := [(2, .int (x2 + 1)), (1, .int y3), (0, .int x0)]) dX0_numberOf_28 2 rfl rfl (by decide) rfl ?_
  refine J_goto (tgt := 4) dX0_numberOf_31 rfl ?_
  exact J_cont [2, 1, 0] rfl
noncomputable def X0_numberOf_L4 (x0 : Int32) (x1 : Int32) (x2 : Int32) : JM Mem (Int32 ⊕ (Int32 × Int32)) :=
  if x0 ≤ x2 then
    jinl (jp x1)
  else
  jb ((f_J12_bitCount x2)) fun v1 =>
  jb ((f_J12_bitCount x0)) fun v2 =>
  if v1 = v2 then
    X0_numberOf_b26 x0 x2 x1 1
  else
    X0_numberOf_b26 x0 x2 x1 0
theorem j_X0_numberOf_L4 (D : va_G) (dA : Nat → ClassId) (x0 : Int32) (x1 : Int32) (x2 : Int32) : J (PM D dA false) Y_X0_numberOf [(0, .int x0), (1, .int x1), (2, .int x2)] [] 4 (X0_numberOf_L4 x0 x1 x2) (FLoop (FRet injI) 4 (fun (t : Int32 × Int32) => [(0, .int x0), (1, .int t.1), (2, .int t.2)])) := by
  unfold X0_numberOf_L4
  refine J_iload_n dX0_numberOf_4 rfl 2 rfl ?_
  refine J_iload_n dX0_numberOf_5 rfl 0 rfl ?_
  refine J_icmp_ge (tgt := 34) dX0_numberOf_6 rfl ?_ ?_
  · refine J_inl ?_
    refine J_iload_n dX0_numberOf_34 rfl 1 rfl ?_
    exact J_ireturn dX0_numberOf_35 rfl
  refine J_iload_n dX0_numberOf_9 rfl 1 rfl ?_
  refine J_iload_n dX0_numberOf_10 rfl 2 rfl ?_
  refine J_callSI (host := "") (as := [.int x2]) dX0_numberOf_11 rfl (Nat.le_of_ble_eq_true rfl) (cw_J12_bitCount _ (by decide)) q1207 q1208 q1209 np_J12_bitCount (i_J12_bitCount x2) jad_id rfl (fun v1 => ?_)
  refine J_iload_n dX0_numberOf_14 rfl 0 rfl ?_
  refine J_callSI (host := "") (as := [.int x0]) dX0_numberOf_15 rfl (Nat.le_of_ble_eq_true rfl) (cw_J12_bitCount _ (by decide)) q1207 q1208 q1209 np_J12_bitCount (i_J12_bitCount x0) jad_id rfl (fun v2 => ?_)
  refine J_icmp_ne (tgt := 25) dX0_numberOf_18 rfl ?_ ?_
  · refine J_iconst (v := 0) dX0_numberOf_25 (by decide) ?_
    refine J_sub [0, 2] rfl ?_
    exact j_X0_numberOf_b26 D dA x0 x2 x1 0
  refine J_iconst (v := 1) dX0_numberOf_21 (by decide) ?_
  refine J_goto (tgt := 26) dX0_numberOf_22 rfl ?_
  refine J_sub [0, 2] rfl ?_
  exact j_X0_numberOf_b26 D dA x0 x2 x1 1
noncomputable def f_X0_numberOf (x0 : Int32) : JM Mem Int32 :=
  jloop (fun (t : Int32 × Int32) => X0_numberOf_L4 x0 t.1 t.2) (0, 0)
theorem j_X0_numberOf (D : va_G) (dA : Nat → ClassId) (x0 : Int32) : J (PM D dA false) Y_X0_numberOf [(0, .int x0)] [] 0 (f_X0_numberOf x0) (FRet injI) := by
  unfold f_X0_numberOf
  refine J_iconst (v := 0) dX0_numberOf_0 (by decide) ?_
  refine J_istore_n (env' := [(1, .int 0), (0, .int x0)]) dX0_numberOf_1 rfl (by decide) rfl ?_
  refine J_iconst (v := 0) dX0_numberOf_2 (by decide) ?_
  refine J_istore_n (env' := [(2, .int 0), (1, .int 0), (0, .int x0)]) dX0_numberOf_3 rfl (by decide) rfl ?_
  refine J_loop (he := fun (t : Int32 × Int32) => [(0, .int x0), (1, .int t.1), (2, .int t.2)]) [2, 1, 0] rfl (fun t => ?_)
  exact j_X0_numberOf_L4 D dA x0 t.1 t.2
theorem i_X0_numberOf (x0 : Int32) : Impl (ws_ yX0_numberOf cX0_numberOf 3 (some .int)) yX0_numberOf 2 false 0 0 [.int x0] (f_X0_numberOf x0) injI := impl_of (plainFor_of_name (by decide)) (Nat.le_of_ble_eq_true rfl) (fun D dA => j_X0_numberOf D dA x0)
theorem cw_X0_numberOf (Y : JY) (h : 3 ≤ Y.2.2.2.1) : JCw Y (ws_ yX0_numberOf cX0_numberOf 3 (some .int)) yX0_numberOf cX0_numberOf 3 (some .int) 2 := ⟨h, by decide, lw_meth q1303, q187, by decide, by decide⟩
theorem np_X0_numberOf : JNp yX0_numberOf.desc 1 := by decide +kernel
-- BracketRoom.tellsOf(LBracketRoom$World;I[I)V
abbrev Y_X0_tellsOf : JY := (cX0_tellsOf, yX0_tellsOf.cls, 11, 3, yX0_tellsOf.name, none, [])
noncomputable def X0_tellsOf_b203 (x0 : Nat) (x1 : Int32) (x2 : Nat) (x3 : Int32) (x4 : Int32) : JM Mem (Unit ⊕ (Int32 × Int32)) :=
  jcont (x3, x4 + 1)
theorem j_X0_tellsOf_b203 (D : va_G) (dA : Nat → ClassId) (x0 : Nat) (x1 : Int32) (x2 : Nat) (x3 : Int32) (x4 : Int32) : J (PM D dA false) Y_X0_tellsOf [(0, .ref x0), (1, .int x1), (2, .ref x2), (3, .int x3), (4, .int x4)] [] 203 (X0_tellsOf_b203 x0 x1 x2 x3 x4) (FLoop (FRet injU) 5 (fun (t : Int32 × Int32) => [(0, .ref x0), (1, .int x1), (2, .ref x2), (3, .int t.1), (4, .int t.2)])) := by
  unfold X0_tellsOf_b203
  refine J_iinc (v := x4 + 1) (env' := [(4, .int (x4 + 1)), (0, .ref x0), (1, .int x1), (2, .ref x2), (3, .int x3)]) dX0_tellsOf_203 4 rfl rfl (by decide) rfl ?_
  refine J_goto (tgt := 5) dX0_tellsOf_206 rfl ?_
  exact J_cont [1, 2, 3, 4, 0] rfl
noncomputable def X0_tellsOf_b200 (x0 : Nat) (x1 : Int32) (x2 : Nat) (x3 : Int32) (x4 : Int32) : JM Mem (Unit ⊕ (Int32 × Int32)) :=
  X0_tellsOf_b203 x0 x1 x2 (x3 + 1) x4
theorem j_X0_tellsOf_b200 (D : va_G) (dA : Nat → ClassId) (x0 : Nat) (x1 : Int32) (x2 : Nat) (x3 : Int32) (x4 : Int32) : J (PM D dA false) Y_X0_tellsOf [(0, .ref x0), (1, .int x1), (2, .ref x2), (3, .int x3), (4, .int x4)] [] 200 (X0_tellsOf_b200 x0 x1 x2 x3 x4) (FLoop (FRet injU) 5 (fun (t : Int32 × Int32) => [(0, .ref x0), (1, .int x1), (2, .ref x2), (3, .int t.1), (4, .int t.2)])) := by
  unfold X0_tellsOf_b200
  refine J_iinc (v := x3 + 1) (env' := [(3, .int (x3 + 1)), (0, .ref x0), (1, .int x1), (2, .ref x2), (4, .int x4)]) dX0_tellsOf_200 3 rfl rfl (by decide) rfl ?_
  refine J_sub [1, 2, 3, 0, 4] rfl ?_
  exact j_X0_tellsOf_b203 D dA x0 x1 x2 (x3 + 1) x4
noncomputable def X0_tellsOf_b194 (x0 : Nat) (x1 : Int32) (x2 : Nat) (x3 : Int32) (x4 : Int32) (x5 : Int32) (x6 : Int32) : JM Mem ((Unit ⊕ (Int32 × Int32)) ⊕ (Int32 × Int32)) :=
  jcont (x5, x6 + 1)
theorem j_X0_tellsOf_b194 (D : va_G) (dA : Nat → ClassId) (x0 : Nat) (x1 : Int32) (x2 : Nat) (x3 : Int32) (x4 : Int32) (x5 : Int32) (x6 : Int32) : J (PM D dA false) Y_X0_tellsOf [(0, .ref x0), (1, .int x1), (2, .ref x2), (3, .int x3), (4, .int x4), (5, .int x5), (6, .int x6)] [] 194 (X0_tellsOf_b194 x0 x1 x2 x3 x4 x5 x6) (FLoop (FLoop (FRet injU) 5 (fun (t : Int32 × Int32) => [(0, .ref x0), (1, .int x1), (2, .ref x2), (3, .int t.1), (4, .int t.2)])) 37 (fun (t : Int32 × Int32) => [(0, .ref x0), (1, .int x1), (2, .ref x2), (3, .int x3), (4, .int x4), (5, .int t.1), (6, .int t.2)])) := by
  unfold X0_tellsOf_b194
  refine J_iinc (v := x6 + 1) (env' := [(6, .int (x6 + 1)), (0, .ref x0), (1, .int x1), (2, .ref x2), (3, .int x3), (4, .int x4), (5, .int x5)]) dX0_tellsOf_194 6 rfl rfl (by decide) rfl ?_
  refine J_goto (tgt := 37) dX0_tellsOf_197 rfl ?_
  exact J_cont [1, 2, 3, 4, 5, 6, 0] rfl
noncomputable def X0_tellsOf_b191 (x0 : Nat) (x1 : Int32) (x2 : Nat) (x3 : Int32) (x4 : Int32) (x5 : Int32) (x6 : Int32) : JM Mem ((Unit ⊕ (Int32 × Int32)) ⊕ (Int32 × Int32)) :=
  X0_tellsOf_b194 x0 x1 x2 x3 x4 (x5 + 1) x6
theorem j_X0_tellsOf_b191 (D : va_G) (dA : Nat → ClassId) (x0 : Nat) (x1 : Int32) (x2 : Nat) (x3 : Int32) (x4 : Int32) (x5 : Int32) (x6 : Int32) : J (PM D dA false) Y_X0_tellsOf [(0, .ref x0), (1, .int x1), (2, .ref x2), (3, .int x3), (4, .int x4), (5, .int x5), (6, .int x6)] [] 191 (X0_tellsOf_b191 x0 x1 x2 x3 x4 x5 x6) (FLoop (FLoop (FRet injU) 5 (fun (t : Int32 × Int32) => [(0, .ref x0), (1, .int x1), (2, .ref x2), (3, .int t.1), (4, .int t.2)])) 37 (fun (t : Int32 × Int32) => [(0, .ref x0), (1, .int x1), (2, .ref x2), (3, .int x3), (4, .int x4), (5, .int t.1), (6, .int t.2)])) := by
  unfold X0_tellsOf_b191
  refine J_iinc (v := x5 + 1) (env' := [(5, .int (x5 + 1)), (0, .ref x0), (1, .int x1), (2, .ref x2), (3, .int x3), (4, .int x4), (6, .int x6)]) dX0_tellsOf_191 5 rfl rfl (by decide) rfl ?_
  refine J_sub [1, 2, 3, 4, 5, 0, 6] rfl ?_
  exact j_X0_tellsOf_b194 D dA x0 x1 x2 x3 x4 (x5 + 1) x6
noncomputable def X0_tellsOf_b185 (x0 : Nat) (x1 : Int32) (x2 : Nat) (x3 : Int32) (x4 : Int32) (x5 : Int32) (x6 : Int32) (x7 : Int32) (x8 : Int32) : JM Mem (((Unit ⊕ (Int32 × Int32)) ⊕ (Int32 × Int32)) ⊕ (Int32)) :=
  jcont (x8 + 1)
theorem j_X0_tellsOf_b185 (D : va_G) (dA : Nat → ClassId) (x0 : Nat) (x1 : Int32) (x2 : Nat) (x3 : Int32) (x4 : Int32) (x5 : Int32) (x6 : Int32) (x7 : Int32) (x8 : Int32) : J (PM D dA false) Y_X0_tellsOf [(0, .ref x0), (1, .int x1), (2, .ref x2), (3, .int x3), (4, .int x4), (5, .int x5), (6, .int x6), (7, .int x7), (8, .int x8)] [] 185 (X0_tellsOf_b185 x0 x1 x2 x3 x4 x5 x6 x7 x8) (FLoop (FLoop (FLoop (FRet injU) 5 (fun (t : Int32 × Int32) => [(0, .ref x0), (1, .int x1), (2, .ref x2), (3, .int t.1), (4, .int t.2)])) 37 (fun (t : Int32 × Int32) => [(0, .ref x0), (1, .int x1), (2, .ref x2), (3, .int x3), (4, .int x4), (5, .int t.1), (6, .int t.2)])) 76 (fun (t : Int32) => [(0, .ref x0), (1, .int x1), (2, .ref x2), (3, .int x3), (4, .int x4), (5, .int x5), (6, .int x6), (7, .int x7), (8, .int t)])) := by
  unfold X0_tellsOf_b185
  refine J_iinc (v := x8 + 1) (env' := [(8, .int (x8 + 1)), (0, .ref x0), (1, .int x1), (2, .ref x2), (3, .int x3), (4, .int x4), (5, .int x5), (6, .int x6), (7, .int x7)]) dX0_tellsOf_185 8 rfl rfl (by decide) rfl ?_
  refine J_goto (tgt := 76) dX0_tellsOf_188 rfl ?_
  exact J_cont [1, 2, 3, 4, 5, 6, 7, 8, 0] rfl
noncomputable def X0_tellsOf_b166 (x0 : Nat) (x1 : Int32) (x2 : Nat) (x3 : Int32) (x4 : Int32) (x5 : Int32) (x6 : Int32) (x7 : Int32) (x8 : Int32) (s0 : Nat) (s1 : Int32) (s2 : Nat) (s3 : Int32) (s4 : Int32) : JM Mem (((Unit ⊕ (Int32 × Int32)) ⊕ (Int32 × Int32)) ⊕ (Int32)) :=
  jb (jgetA 3 0 x0) fun v16 =>
  jb (jaldA 6 v16 x4) fun v17 =>
  jb (jaldA 5 v17 x6) fun v18 =>
  jb (jald mI 0 v18 x8) fun v19 =>
  jb (jcall 3 s2 (f_X4_by s2 (s3 + (s4 * v19)))) fun v20 =>
  jb (jast_i s0 s1 v20) fun _ =>
  X0_tellsOf_b185 x0 x1 x2 x3 x4 x5 x6 x7 x8
theorem j_X0_tellsOf_b166 (D : va_G) (dA : Nat → ClassId) (x0 : Nat) (x1 : Int32) (x2 : Nat) (x3 : Int32) (x4 : Int32) (x5 : Int32) (x6 : Int32) (x7 : Int32) (x8 : Int32) (s0 : Nat) (s1 : Int32) (s2 : Nat) (s3 : Int32) (s4 : Int32) : J (PM D dA false) Y_X0_tellsOf [(0, .ref x0), (1, .int x1), (2, .ref x2), (3, .int x3), (4, .int x4), (5, .int x5), (6, .int x6), (7, .int x7), (8, .int x8)] [.int s4, .int s3, .ref s2, .int s1, .ref s0] 166 (X0_tellsOf_b166 x0 x1 x2 x3 x4 x5 x6 x7 x8 s0 s1 s2 s3 s4) (FLoop (FLoop (FLoop (FRet injU) 5 (fun (t : Int32 × Int32) => [(0, .ref x0), (1, .int x1), (2, .ref x2), (3, .int t.1), (4, .int t.2)])) 37 (fun (t : Int32 × Int32) => [(0, .ref x0), (1, .int x1), (2, .ref x2), (3, .int x3), (4, .int x4), (5, .int t.1), (6, .int t.2)])) 76 (fun (t : Int32) => [(0, .ref x0), (1, .int x1), (2, .ref x2), (3, .int x3), (4, .int x4), (5, .int x5), (6, .int x6), (7, .int x7), (8, .int t)])) := by
  unfold X0_tellsOf_b166
  refine J_aload_n dX0_tellsOf_166 rfl 0 rfl ?_
  refine J_getA dX0_tellsOf_167 fl_X0_256 rfl (fun v16 => ?_)
  refine J_iload dX0_tellsOf_170 4 rfl ?_
  refine J_aald dX0_tellsOf_172 rfl (by decide) (fun v17 => ?_)
  refine J_iload dX0_tellsOf_173 6 rfl ?_
  refine J_aald dX0_tellsOf_175 rfl (by decide) (fun v18 => ?_)
  refine J_iload dX0_tellsOf_176 8 rfl ?_
  refine J_iald dX0_tellsOf_178 (fun v19 => ?_)
  refine J_imul dX0_tellsOf_179 ?_
  refine J_iadd dX0_tellsOf_180 ?_
  refine J_callVI (c := 3) (as := [.int (s3 + (s4 * v19))]) dX0_tellsOf_181 (by decide) rfl (Nat.le_of_ble_eq_true rfl) (cw_X4_by _ (by decide)) q1067 q929 q930 q931 np_X4_by (i_X4_by s2 (s3 + (s4 * v19))) jad_id rfl (fun v20 => ?_)
  refine J_iast dX0_tellsOf_184 ?_
  refine J_sub [0, 1, 2, 3, 4, 5, 6, 7, 8] rfl ?_
  exact j_X0_tellsOf_b185 D dA x0 x1 x2 x3 x4 x5 x6 x7 x8
noncomputable def X0_tellsOf_L76 (x0 : Nat) (x1 : Int32) (x2 : Nat) (x3 : Int32) (x4 : Int32) (x5 : Int32) (x6 : Int32) (x7 : Int32) (x8 : Int32) : JM Mem (((Unit ⊕ (Int32 × Int32)) ⊕ (Int32 × Int32)) ⊕ (Int32)) :=
  jb (jgetI 3 2 x0) fun v6 =>
  if v6 ≤ x8 then
    jinl (X0_tellsOf_b191 x0 x1 x2 x3 x4 x5 x6)
  else
  jb (jgetA 3 0 x0) fun v7 =>
  jb (jaldA 6 v7 x4) fun v8 =>
  jb (jaldA 5 v8 x6) fun v9 =>
  jb (jald mI 0 v9 x8) fun v10 =>
  if v10 = 0 then
    X0_tellsOf_b185 x0 x1 x2 x3 x4 x5 x6 x7 x8
  else
  if (x7 >>> (x8 &&& 31)) &&& 1 = 1 then
    X0_tellsOf_b185 x0 x1 x2 x3 x4 x5 x6 x7 x8
  else
  jb ((f_J12_bitCount (x7 &&& (((1 : Int32) <<< (x8 &&& 31)) - 1)))) fun v11 =>
  jlet ((x3 + x5) + v11) fun y12 =>
  jb ((f_X0_numberOf (x7 ||| ((1 : Int32) <<< (x8 &&& 31))))) fun v13 =>
  jb (jald mI 0 x2 v13) fun v14 =>
  jb (jrem y12 2) fun v15 =>
  if v15 = 0 then
    X0_tellsOf_b166 x0 x1 x2 x3 x4 x5 x6 x7 x8 x2 v13 x0 v14 1
  else
    X0_tellsOf_b166 x0 x1 x2 x3 x4 x5 x6 x7 x8 x2 v13 x0 v14 (-1)
theorem j_X0_tellsOf_L76 (D : va_G) (dA : Nat → ClassId) (x0 : Nat) (x1 : Int32) (x2 : Nat) (x3 : Int32) (x4 : Int32) (x5 : Int32) (x6 : Int32) (x7 : Int32) (x8 : Int32) : J (PM D dA false) Y_X0_tellsOf [(0, .ref x0), (1, .int x1), (2, .ref x2), (3, .int x3), (4, .int x4), (5, .int x5), (6, .int x6), (7, .int x7), (8, .int x8)] [] 76 (X0_tellsOf_L76 x0 x1 x2 x3 x4 x5 x6 x7 x8) (FLoop (FLoop (FLoop (FRet injU) 5 (fun (t : Int32 × Int32) => [(0, .ref x0), (1, .int x1), (2, .ref x2), (3, .int t.1), (4, .int t.2)])) 37 (fun (t : Int32 × Int32) => [(0, .ref x0), (1, .int x1), (2, .ref x2), (3, .int x3), (4, .int x4), (5, .int t.1), (6, .int t.2)])) 76 (fun (t : Int32) => [(0, .ref x0), (1, .int x1), (2, .ref x2), (3, .int x3), (4, .int x4), (5, .int x5), (6, .int x6), (7, .int x7), (8, .int t)])) := by
  unfold X0_tellsOf_L76
  refine J_iload dX0_tellsOf_76 8 rfl ?_
  refine J_aload_n dX0_tellsOf_78 rfl 0 rfl ?_
  refine J_getI dX0_tellsOf_79 fl_X0_196 rfl (fun v6 => ?_)
  refine J_icmp_ge (tgt := 191) dX0_tellsOf_82 rfl ?_ ?_
  · refine J_inl ?_
    refine J_sub [0, 1, 2, 3, 4, 5, 6] rfl ?_
    exact j_X0_tellsOf_b191 D dA x0 x1 x2 x3 x4 x5 x6
  refine J_aload_n dX0_tellsOf_85 rfl 0 rfl ?_
  refine J_getA dX0_tellsOf_86 fl_X0_256 rfl (fun v7 => ?_)
  refine J_iload dX0_tellsOf_89 4 rfl ?_
  refine J_aald dX0_tellsOf_91 rfl (by decide) (fun v8 => ?_)
  refine J_iload dX0_tellsOf_92 6 rfl ?_
  refine J_aald dX0_tellsOf_94 rfl (by decide) (fun v9 => ?_)
  refine J_iload dX0_tellsOf_95 8 rfl ?_
  refine J_iald dX0_tellsOf_97 (fun v10 => ?_)
  refine J_if_eq (tgt := 185) dX0_tellsOf_98 rfl ?_ ?_
  · refine J_sub [0, 1, 2, 3, 4, 5, 6, 7, 8] rfl ?_
    exact j_X0_tellsOf_b185 D dA x0 x1 x2 x3 x4 x5 x6 x7 x8
  refine J_iload dX0_tellsOf_101 7 rfl ?_
  refine J_iload dX0_tellsOf_103 8 rfl ?_
  refine J_ishr dX0_tellsOf_105 ?_
  refine J_iconst (v := 1) dX0_tellsOf_106 (by decide) ?_
  refine J_iand dX0_tellsOf_107 ?_
  refine J_iconst (v := 1) dX0_tellsOf_108 (by decide) ?_
  refine J_icmp_ne (tgt := 115) dX0_tellsOf_109 rfl ?_ ?_
  · refine J_iload_n dX0_tellsOf_115 rfl 3 rfl ?_
    refine J_iload dX0_tellsOf_116 5 rfl ?_
    refine J_iadd dX0_tellsOf_118 ?_
    refine J_iload dX0_tellsOf_119 7 rfl ?_
    refine J_iconst (v := 1) dX0_tellsOf_121 (by decide) ?_
    refine J_iload dX0_tellsOf_122 8 rfl ?_
    refine J_ishl dX0_tellsOf_124 ?_
    refine J_iconst (v := 1) dX0_tellsOf_125 (by decide) ?_
    refine J_isub dX0_tellsOf_126 ?_
    refine J_iand dX0_tellsOf_127 ?_
    refine J_callSI (host := "") (as := [.int (x7 &&& (((1 : Int32) <<< (x8 &&& 31)) - 1))]) dX0_tellsOf_128 rfl (Nat.le_of_ble_eq_true rfl) (cw_J12_bitCount _ (by decide)) q1207 q1208 q1209 np_J12_bitCount (i_J12_bitCount (x7 &&& (((1 : Int32) <<< (x8 &&& 31)) - 1))) jad_id rfl (fun v11 => ?_)
    refine J_iadd dX0_tellsOf_131 ?_
    refine J_letI (fun y12 => ?_)
    refine J_istore (env' := [(9, .int y12), (0, .ref x0), (1, .int x1), (2, .ref x2), (3, .int x3), (4, .int x4), (5, .int x5), (6, .int x6), (7, .int x7), (8, .int x8)]) dX0_tellsOf_132 (by decide) rfl ?_
    refine J_iload dX0_tellsOf_134 8 rfl ?_
    refine J_iconst (v := 1) dX0_tellsOf_136 (by decide) ?_
    refine J_iload dX0_tellsOf_137 9 rfl ?_
    refine J_ishl dX0_tellsOf_139 ?_
    refine J_ior dX0_tellsOf_140 ?_
    refine J_callSI (host := "") (as := [.int (x7 ||| ((1 : Int32) <<< (x8 &&& 31)))]) dX0_tellsOf_141 rfl (Nat.le_of_ble_eq_true rfl) (cw_X0_numberOf _ (by decide)) q1301 q1302 q1303 np_X0_numberOf (i_X0_numberOf (x7 ||| ((1 : Int32) <<< (x8 &&& 31)))) jad_id rfl (fun v13 => ?_)
    refine J_istore (env' := [(10, .int v13), (9, .int y12), (0, .ref x0), (1, .int x1), (2, .ref x2), (3, .int x3), (4, .int x4), (5, .int x5), (6, .int x6), (7, .int x7), (8, .int x8)]) dX0_tellsOf_144 (by decide) rfl ?_
    refine J_aload_n dX0_tellsOf_146 rfl 4 rfl ?_
    refine J_iload dX0_tellsOf_147 0 rfl ?_
    refine J_aload_n dX0_tellsOf_149 rfl 2 rfl ?_
    refine J_aload_n dX0_tellsOf_150 rfl 4 rfl ?_
    refine J_iload dX0_tellsOf_151 0 rfl ?_
    refine J_iald dX0_tellsOf_153 (fun v14 => ?_)
    refine J_iload dX0_tellsOf_154 1 rfl ?_
    refine J_iconst (v := 2) dX0_tellsOf_156 (by decide) ?_
    refine J_irem dX0_tellsOf_157 (fun v15 => ?_)
    refine J_if_ne (tgt := 165) dX0_tellsOf_158 rfl ?_ ?_
    · refine J_iconst (v := (-1)) dX0_tellsOf_165 (by decide) ?_
      refine J_sub [2, 3, 4, 5, 6, 7, 8, 9, 10] rfl ?_
      exact j_X0_tellsOf_b166 D dA x0 x1 x2 x3 x4 x5 x6 x7 x8 x2 v13 x0 v14 (-1)
    refine J_iconst (v := 1) dX0_tellsOf_161 (by decide) ?_
    refine J_goto (tgt := 166) dX0_tellsOf_162 rfl ?_
    refine J_sub [2, 3, 4, 5, 6, 7, 8, 9, 10] rfl ?_
    exact j_X0_tellsOf_b166 D dA x0 x1 x2 x3 x4 x5 x6 x7 x8 x2 v13 x0 v14 1
  refine J_goto (tgt := 185) dX0_tellsOf_112 rfl ?_
  refine J_sub [0, 1, 2, 3, 4, 5, 6, 7, 8] rfl ?_
  exact j_X0_tellsOf_b185 D dA x0 x1 x2 x3 x4 x5 x6 x7 x8
noncomputable def X0_tellsOf_L37 (x0 : Nat) (x1 : Int32) (x2 : Nat) (x3 : Int32) (x4 : Int32) (x5 : Int32) (x6 : Int32) : JM Mem ((Unit ⊕ (Int32 × Int32)) ⊕ (Int32 × Int32)) :=
  jb (jgetI 3 2 x0) fun v4 =>
  if v4 ≤ x6 then
    jinl (X0_tellsOf_b200 x0 x1 x2 x3 x4)
  else
  if (x1 >>> (x6 &&& 31)) &&& 1 = 0 then
    X0_tellsOf_b194 x0 x1 x2 x3 x4 x5 x6
  else
  jlet (x1 &&& ((((1 : Int32) <<< (x4 &&& 31)) ||| ((1 : Int32) <<< (x6 &&& 31))) ^^^ (-1))) fun y5 =>
  jloop (fun (t : Int32) => X0_tellsOf_L76 x0 x1 x2 x3 x4 x5 x6 y5 t) 0
theorem j_X0_tellsOf_L37 (D : va_G) (dA : Nat → ClassId) (x0 : Nat) (x1 : Int32) (x2 : Nat) (x3 : Int32) (x4 : Int32) (x5 : Int32) (x6 : Int32) : J (PM D dA false) Y_X0_tellsOf [(0, .ref x0), (1, .int x1), (2, .ref x2), (3, .int x3), (4, .int x4), (5, .int x5), (6, .int x6)] [] 37 (X0_tellsOf_L37 x0 x1 x2 x3 x4 x5 x6) (FLoop (FLoop (FRet injU) 5 (fun (t : Int32 × Int32) => [(0, .ref x0), (1, .int x1), (2, .ref x2), (3, .int t.1), (4, .int t.2)])) 37 (fun (t : Int32 × Int32) => [(0, .ref x0), (1, .int x1), (2, .ref x2), (3, .int x3), (4, .int x4), (5, .int t.1), (6, .int t.2)])) := by
  unfold X0_tellsOf_L37
  refine J_iload dX0_tellsOf_37 6 rfl ?_
  refine J_aload_n dX0_tellsOf_39 rfl 0 rfl ?_
  refine J_getI dX0_tellsOf_40 fl_X0_196 rfl (fun v4 => ?_)
  refine J_icmp_ge (tgt := 200) dX0_tellsOf_43 rfl ?_ ?_
  · refine J_inl ?_
    refine J_sub [0, 1, 2, 3, 4] rfl ?_
    exact j_X0_tellsOf_b200 D dA x0 x1 x2 x3 x4
  refine J_iload_n dX0_tellsOf_46 rfl 1 rfl ?_
  refine J_iload dX0_tellsOf_47 6 rfl ?_
  refine J_ishr dX0_tellsOf_49 ?_
  refine J_iconst (v := 1) dX0_tellsOf_50 (by decide) ?_
  refine J_iand dX0_tellsOf_51 ?_
  refine J_if_ne (tgt := 58) dX0_tellsOf_52 rfl ?_ ?_
  · refine J_iload_n dX0_tellsOf_58 rfl 1 rfl ?_
    refine J_iconst (v := 1) dX0_tellsOf_59 (by decide) ?_
    refine J_iload dX0_tellsOf_60 4 rfl ?_
    refine J_ishl dX0_tellsOf_62 ?_
    refine J_iconst (v := 1) dX0_tellsOf_63 (by decide) ?_
    refine J_iload dX0_tellsOf_64 6 rfl ?_
    refine J_ishl dX0_tellsOf_66 ?_
    refine J_ior dX0_tellsOf_67 ?_
    refine J_iconst (v := (-1)) dX0_tellsOf_68 (by decide) ?_
    refine J_ixor dX0_tellsOf_69 ?_
    refine J_iand dX0_tellsOf_70 ?_
    refine J_letI (fun y5 => ?_)
    refine J_istore (env' := [(7, .int y5), (0, .ref x0), (1, .int x1), (2, .ref x2), (3, .int x3), (4, .int x4), (5, .int x5), (6, .int x6)]) dX0_tellsOf_71 (by decide) rfl ?_
    refine J_iconst (v := 0) dX0_tellsOf_73 (by decide) ?_
    refine J_istore (env' := [(8, .int 0), (7, .int y5), (0, .ref x0), (1, .int x1), (2, .ref x2), (3, .int x3), (4, .int x4), (5, .int x5), (6, .int x6)]) dX0_tellsOf_74 (by decide) rfl ?_
    refine J_loop (he := fun (t : Int32) => [(0, .ref x0), (1, .int x1), (2, .ref x2), (3, .int x3), (4, .int x4), (5, .int x5), (6, .int x6), (7, .int y5), (8, .int t)]) [2, 3, 4, 5, 6, 7, 8, 1, 0] rfl (fun t => ?_)
    exact j_X0_tellsOf_L76 D dA x0 x1 x2 x3 x4 x5 x6 y5 t
  refine J_goto (tgt := 194) dX0_tellsOf_55 rfl ?_
  refine J_sub [0, 1, 2, 3, 4, 5, 6] rfl ?_
  exact j_X0_tellsOf_b194 D dA x0 x1 x2 x3 x4 x5 x6
noncomputable def X0_tellsOf_L5 (x0 : Nat) (x1 : Int32) (x2 : Nat) (x3 : Int32) (x4 : Int32) : JM Mem (Unit ⊕ (Int32 × Int32)) :=
  jb (jgetI 3 2 x0) fun v1 =>
  if v1 ≤ x4 then
    jinl (jp ())
  else
  if (x1 >>> (x4 &&& 31)) &&& 1 = 0 then
    X0_tellsOf_b203 x0 x1 x2 x3 x4
  else
  jlet (x3 + 1) fun y2 =>
  jlet (x4 + 1) fun y3 =>
  jloop (fun (t : Int32 × Int32) => X0_tellsOf_L37 x0 x1 x2 x3 x4 t.1 t.2) (y2, y3)
theorem j_X0_tellsOf_L5 (D : va_G) (dA : Nat → ClassId) (x0 : Nat) (x1 : Int32) (x2 : Nat) (x3 : Int32) (x4 : Int32) : J (PM D dA false) Y_X0_tellsOf [(0, .ref x0), (1, .int x1), (2, .ref x2), (3, .int x3), (4, .int x4)] [] 5 (X0_tellsOf_L5 x0 x1 x2 x3 x4) (FLoop (FRet injU) 5 (fun (t : Int32 × Int32) => [(0, .ref x0), (1, .int x1), (2, .ref x2), (3, .int t.1), (4, .int t.2)])) := by
  unfold X0_tellsOf_L5
  refine J_iload dX0_tellsOf_5 4 rfl ?_
  refine J_aload_n dX0_tellsOf_7 rfl 0 rfl ?_
  refine J_getI dX0_tellsOf_8 fl_X0_196 rfl (fun v1 => ?_)
  refine J_icmp_ge (tgt := 209) dX0_tellsOf_11 rfl ?_ ?_
  · refine J_inl ?_
    exact J_return dX0_tellsOf_209 rfl
  refine J_iload_n dX0_tellsOf_14 rfl 1 rfl ?_
  refine J_iload dX0_tellsOf_15 4 rfl ?_
  refine J_ishr dX0_tellsOf_17 ?_
  refine J_iconst (v := 1) dX0_tellsOf_18 (by decide) ?_
  refine J_iand dX0_tellsOf_19 ?_
  refine J_if_ne (tgt := 26) dX0_tellsOf_20 rfl ?_ ?_
  · refine J_iload_n dX0_tellsOf_26 rfl 3 rfl ?_
    refine J_iconst (v := 1) dX0_tellsOf_27 (by decide) ?_
    refine J_iadd dX0_tellsOf_28 ?_
    refine J_letI (fun y2 => ?_)
    refine J_istore (env' := [(5, .int y2), (0, .ref x0), (1, .int x1), (2, .ref x2), (3, .int x3), (4, .int x4)]) dX0_tellsOf_29 (by decide) rfl ?_
    refine J_iload dX0_tellsOf_31 5 rfl ?_
    refine J_iconst (v := 1) dX0_tellsOf_33 (by decide) ?_
    refine J_iadd dX0_tellsOf_34 ?_
    refine J_letI (fun y3 => ?_)
    refine J_istore (env' := [(6, .int y3), (5, .int y2), (0, .ref x0), (1, .int x1), (2, .ref x2), (3, .int x3), (4, .int x4)]) dX0_tellsOf_35 (by decide) rfl ?_
    refine J_loop (he := fun (t : Int32 × Int32) => [(0, .ref x0), (1, .int x1), (2, .ref x2), (3, .int x3), (4, .int x4), (5, .int t.1), (6, .int t.2)]) [2, 3, 4, 5, 6, 1, 0] rfl (fun t => ?_)
    exact j_X0_tellsOf_L37 D dA x0 x1 x2 x3 x4 t.1 t.2
  refine J_goto (tgt := 203) dX0_tellsOf_23 rfl ?_
  refine J_sub [0, 1, 2, 3, 4] rfl ?_
  exact j_X0_tellsOf_b203 D dA x0 x1 x2 x3 x4
noncomputable def f_X0_tellsOf (x0 : Nat) (x1 : Int32) (x2 : Nat) : JM Mem Unit :=
  jloop (fun (t : Int32 × Int32) => X0_tellsOf_L5 x0 x1 x2 t.1 t.2) (0, 0)
theorem j_X0_tellsOf (D : va_G) (dA : Nat → ClassId) (x0 : Nat) (x1 : Int32) (x2 : Nat) : J (PM D dA false) Y_X0_tellsOf [(0, .ref x0), (1, .int x1), (2, .ref x2)] [] 0 (f_X0_tellsOf x0 x1 x2) (FRet injU) := by
  unfold f_X0_tellsOf
  refine J_iconst (v := 0) dX0_tellsOf_0 (by decide) ?_
  refine J_istore_n (env' := [(3, .int 0), (0, .ref x0), (1, .int x1), (2, .ref x2)]) dX0_tellsOf_1 rfl (by decide) rfl ?_
  refine J_iconst (v := 0) dX0_tellsOf_2 (by decide) ?_
  refine J_istore (env' := [(4, .int 0), (3, .int 0), (0, .ref x0), (1, .int x1), (2, .ref x2)]) dX0_tellsOf_3 (by decide) rfl ?_
  refine J_loop (he := fun (t : Int32 × Int32) => [(0, .ref x0), (1, .int x1), (2, .ref x2), (3, .int t.1), (4, .int t.2)]) [2, 3, 4, 1, 0] rfl (fun t => ?_)
  exact j_X0_tellsOf_L5 D dA x0 x1 x2 t.1 t.2
theorem i_X0_tellsOf (x0 : Nat) (x1 : Int32) (x2 : Nat) : Impl (ws_ yX0_tellsOf cX0_tellsOf 11 none) yX0_tellsOf 3 false 0 0 [.ref x0, .int x1, .ref x2] (f_X0_tellsOf x0 x1 x2) injU := impl_of (plainFor_of_name (by decide)) (Nat.le_of_ble_eq_true rfl) (fun D dA => j_X0_tellsOf D dA x0 x1 x2)
theorem cw_X0_tellsOf (Y : JY) (h : 4 ≤ Y.2.2.2.1) : JCw Y (ws_ yX0_tellsOf cX0_tellsOf 11 none) yX0_tellsOf cX0_tellsOf 11 none 3 := ⟨h, by decide, lw_meth q1300, q187, by decide, by decide⟩
theorem np_X0_tellsOf : JNp yX0_tellsOf.desc 3 := by decide +kernel
-- BracketRoom.rankOfD(LBracketRoom$World;I)I
abbrev Y_X0_rankOfD : JY := (cX0_rankOfD, yX0_rankOfD.cls, 6, 4, yX0_rankOfD.name, (some .int), [])
noncomputable def X0_rankOfD_b91 (x0 : Nat) (x1 : Nat) (x3 : Int32) : JM Mem Int32 :=
  jb (jgetA 0 23 x0) fun v3 =>
  jb (jcall 3 x1 (f_X4_rank x1 v3 x3 16)) fun v4 =>
  jp v4
theorem j_X0_rankOfD_b91 (D : va_G) (dA : Nat → ClassId) (x0 : Nat) (x1 : Nat) (x3 : Int32) : J (PM D dA false) Y_X0_rankOfD [(0, .ref x0), (1, .ref x1), (3, .int x3)] [] 91 (X0_rankOfD_b91 x0 x1 x3) (FRet injI) := by
  unfold X0_rankOfD_b91
  refine J_aload_n dX0_rankOfD_91 rfl 1 rfl ?_
  refine J_aload_n dX0_rankOfD_92 rfl 0 rfl ?_
  refine J_getA dX0_rankOfD_93 fl_X0_93 rfl (fun v3 => ?_)
  refine J_iload_n dX0_rankOfD_96 rfl 2 rfl ?_
  refine J_bipush (v := 16) dX0_rankOfD_97 (by decide) ?_
  refine J_callVI (c := 3) (as := [.ref v3, .int x3, .int 16]) dX0_rankOfD_99 (by decide) rfl (Nat.le_of_ble_eq_true rfl) (cw_X4_rank _ (by decide)) q1174 q1175 q1176 q1177 np_X4_rank (i_X4_rank x1 v3 x3 16) jad_id rfl (fun v4 => ?_)
  exact J_ireturn dX0_rankOfD_102 rfl
noncomputable def X0_rankOfD_b85 (x0 : Nat) (x1 : Nat) (x2 : Int32) (x3 : Int32) (x4 : Int32) : JM Mem (Int32 ⊕ (Int32 × Int32)) :=
  jcont (x3, x4 + 1)
theorem j_X0_rankOfD_b85 (D : va_G) (dA : Nat → ClassId) (x0 : Nat) (x1 : Nat) (x2 : Int32) (x3 : Int32) (x4 : Int32) : J (PM D dA false) Y_X0_rankOfD [(0, .ref x0), (1, .ref x1), (2, .int x2), (3, .int x3), (4, .int x4)] [] 85 (X0_rankOfD_b85 x0 x1 x2 x3 x4) (FLoop (FRet injI) 19 (fun (t : Int32 × Int32) => [(0, .ref x0), (1, .ref x1), (2, .int x2), (3, .int t.1), (4, .int t.2)])) := by
  unfold X0_rankOfD_b85
  refine J_iinc (v := x4 + 1) (env' := [(4, .int (x4 + 1)), (0, .ref x0), (1, .ref x1), (2, .int x2), (3, .int x3)]) dX0_rankOfD_85 4 rfl rfl (by decide) rfl ?_
  refine J_goto (tgt := 19) dX0_rankOfD_88 rfl ?_
  exact J_cont [1, 2, 3, 4, 0] rfl
noncomputable def X0_rankOfD_b70 (x0 : Nat) (x1 : Nat) (x2 : Int32) (x3 : Int32) (x4 : Int32) : JM Mem (Int32 ⊕ (Int32 × Int32)) :=
  jb (jgetA 0 23 x0) fun v6 =>
  jb (jaldA 5 v6 x3) fun v7 =>
  jb ((f_X0_tellsOf x1 x4 v7)) fun _ =>
  X0_rankOfD_b85 x0 x1 x2 (x3 + 1) x4
theorem j_X0_rankOfD_b70 (D : va_G) (dA : Nat → ClassId) (x0 : Nat) (x1 : Nat) (x2 : Int32) (x3 : Int32) (x4 : Int32) : J (PM D dA false) Y_X0_rankOfD [(0, .ref x0), (1, .ref x1), (2, .int x2), (3, .int x3), (4, .int x4)] [] 70 (X0_rankOfD_b70 x0 x1 x2 x3 x4) (FLoop (FRet injI) 19 (fun (t : Int32 × Int32) => [(0, .ref x0), (1, .ref x1), (2, .int x2), (3, .int t.1), (4, .int t.2)])) := by
  unfold X0_rankOfD_b70
  refine J_aload_n dX0_rankOfD_70 rfl 1 rfl ?_
  refine J_iload dX0_rankOfD_71 4 rfl ?_
  refine J_aload_n dX0_rankOfD_73 rfl 0 rfl ?_
  refine J_getA dX0_rankOfD_74 fl_X0_93 rfl (fun v6 => ?_)
  refine J_iload_n dX0_rankOfD_77 rfl 3 rfl ?_
  refine J_aald dX0_rankOfD_78 rfl (by decide) (fun v7 => ?_)
  refine J_callSV (host := "") (as := [.ref x1, .int x4, .ref v7]) dX0_rankOfD_79 rfl (Nat.le_of_ble_eq_true rfl) (cw_X0_tellsOf _ (by decide)) q1298 q1299 q1300 np_X0_tellsOf (i_X0_tellsOf x1 x4 v7) jad_id rfl ?_
  refine J_iinc (v := x3 + 1) (env' := [(3, .int (x3 + 1)), (0, .ref x0), (1, .ref x1), (2, .int x2), (4, .int x4)]) dX0_rankOfD_82 3 rfl rfl (by decide) rfl ?_
  refine J_sub [1, 2, 3, 0, 4] rfl ?_
  exact j_X0_rankOfD_b85 D dA x0 x1 x2 (x3 + 1) x4
noncomputable def X0_rankOfD_L47 (x0 : Nat) (x1 : Nat) (x2 : Int32) (x3 : Int32) (x4 : Int32) (x5 : Int32) : JM Mem ((Int32 ⊕ (Int32 × Int32)) ⊕ (Int32)) :=
  if 16 ≤ x5 then
    jinl (X0_rankOfD_b70 x0 x1 x2 x3 x4)
  else
  jb (jgetA 0 23 x0) fun v8 =>
  jb (jaldA 5 v8 x3) fun v9 =>
  jb (jast_i v9 x5 0) fun _ =>
  jcont (x5 + 1)
theorem j_X0_rankOfD_L47 (D : va_G) (dA : Nat → ClassId) (x0 : Nat) (x1 : Nat) (x2 : Int32) (x3 : Int32) (x4 : Int32) (x5 : Int32) : J (PM D dA false) Y_X0_rankOfD [(0, .ref x0), (1, .ref x1), (2, .int x2), (3, .int x3), (4, .int x4), (5, .int x5)] [] 47 (X0_rankOfD_L47 x0 x1 x2 x3 x4 x5) (FLoop (FLoop (FRet injI) 19 (fun (t : Int32 × Int32) => [(0, .ref x0), (1, .ref x1), (2, .int x2), (3, .int t.1), (4, .int t.2)])) 47 (fun (t : Int32) => [(0, .ref x0), (1, .ref x1), (2, .int x2), (3, .int x3), (4, .int x4), (5, .int t)])) := by
  unfold X0_rankOfD_L47
  refine J_iload dX0_rankOfD_47 5 rfl ?_
  refine J_bipush (v := 16) dX0_rankOfD_49 (by decide) ?_
  refine J_icmp_ge (tgt := 70) dX0_rankOfD_51 rfl ?_ ?_
  · refine J_inl ?_
    refine J_sub [0, 1, 2, 3, 4] rfl ?_
    exact j_X0_rankOfD_b70 D dA x0 x1 x2 x3 x4
  refine J_aload_n dX0_rankOfD_54 rfl 0 rfl ?_
  refine J_getA dX0_rankOfD_55 fl_X0_93 rfl (fun v8 => ?_)
  refine J_iload_n dX0_rankOfD_58 rfl 3 rfl ?_
  refine J_aald dX0_rankOfD_59 rfl (by decide) (fun v9 => ?_)
  refine J_iload dX0_rankOfD_60 5 rfl ?_
  refine J_iconst (v := 0) dX0_rankOfD_62 (by decide) ?_
  refine J_iast dX0_rankOfD_63 ?_
  refine J_iinc (v := x5 + 1) (env' := [(5, .int (x5 + 1)), (0, .ref x0), (1, .ref x1), (2, .int x2), (3, .int x3), (4, .int x4)]) dX0_rankOfD_64 5 rfl rfl (by decide) rfl ?_
  refine J_goto (tgt := 47) dX0_rankOfD_67 rfl ?_
  exact J_cont [1, 2, 3, 4, 5, 0] rfl
noncomputable def X0_rankOfD_L19 (x0 : Nat) (x1 : Nat) (x2 : Int32) (x3 : Int32) (x4 : Int32) : JM Mem (Int32 ⊕ (Int32 × Int32)) :=
  jb (jgetI 3 2 x1) fun v2 =>
  if (1 : Int32) <<< (v2 &&& 31) ≤ x4 then
    jinl (X0_rankOfD_b91 x0 x1 x3)
  else
  jb ((f_J12_bitCount x4)) fun v5 =>
  if v5 = x2 + 1 then
    jloop (fun (t : Int32) => X0_rankOfD_L47 x0 x1 x2 x3 x4 t) 0
  else
    X0_rankOfD_b85 x0 x1 x2 x3 x4
theorem j_X0_rankOfD_L19 (D : va_G) (dA : Nat → ClassId) (x0 : Nat) (x1 : Nat) (x2 : Int32) (x3 : Int32) (x4 : Int32) : J (PM D dA false) Y_X0_rankOfD [(0, .ref x0), (1, .ref x1), (2, .int x2), (3, .int x3), (4, .int x4)] [] 19 (X0_rankOfD_L19 x0 x1 x2 x3 x4) (FLoop (FRet injI) 19 (fun (t : Int32 × Int32) => [(0, .ref x0), (1, .ref x1), (2, .int x2), (3, .int t.1), (4, .int t.2)])) := by
  unfold X0_rankOfD_L19
  refine J_iload dX0_rankOfD_19 4 rfl ?_
  refine J_iconst (v := 1) dX0_rankOfD_21 (by decide) ?_
  refine J_aload_n dX0_rankOfD_22 rfl 1 rfl ?_
  refine J_getI dX0_rankOfD_23 fl_X0_196 rfl (fun v2 => ?_)
  refine J_ishl dX0_rankOfD_26 ?_
  refine J_icmp_ge (tgt := 91) dX0_rankOfD_27 rfl ?_ ?_
  · refine J_inl ?_
    refine J_sub [0, 1, 3] rfl ?_
    exact j_X0_rankOfD_b91 D dA x0 x1 x3
  refine J_iload dX0_rankOfD_30 4 rfl ?_
  refine J_callSI (host := "") (as := [.int x4]) dX0_rankOfD_32 rfl (Nat.le_of_ble_eq_true rfl) (cw_J12_bitCount _ (by decide)) q1207 q1208 q1209 np_J12_bitCount (i_J12_bitCount x4) jad_id rfl (fun v5 => ?_)
  refine J_iload_n dX0_rankOfD_35 rfl 2 rfl ?_
  refine J_iconst (v := 1) dX0_rankOfD_36 (by decide) ?_
  refine J_iadd dX0_rankOfD_37 ?_
  refine J_icmp_eq (tgt := 44) dX0_rankOfD_38 rfl ?_ ?_
  · refine J_iconst (v := 0) dX0_rankOfD_44 (by decide) ?_
    refine J_istore (env' := [(5, .int 0), (0, .ref x0), (1, .ref x1), (2, .int x2), (3, .int x3), (4, .int x4)]) dX0_rankOfD_45 (by decide) rfl ?_
    refine J_loop (he := fun (t : Int32) => [(0, .ref x0), (1, .ref x1), (2, .int x2), (3, .int x3), (4, .int x4), (5, .int t)]) [1, 2, 3, 4, 5, 0] rfl (fun t => ?_)
    exact j_X0_rankOfD_L47 D dA x0 x1 x2 x3 x4 t
  refine J_goto (tgt := 85) dX0_rankOfD_41 rfl ?_
  refine J_sub [0, 1, 2, 3, 4] rfl ?_
  exact j_X0_rankOfD_b85 D dA x0 x1 x2 x3 x4
noncomputable def f_X0_rankOfD (x0 : Nat) (x1 : Nat) (x2 : Int32) : JM Mem Int32 :=
  if x2 < 0 then
    jp 0
  else
  jb (jgetI 3 2 x1) fun v1 =>
  if x2 < v1 then
    jloop (fun (t : Int32 × Int32) => X0_rankOfD_L19 x0 x1 x2 t.1 t.2) (0, 0)
  else
    jp 0
theorem j_X0_rankOfD (D : va_G) (dA : Nat → ClassId) (x0 : Nat) (x1 : Nat) (x2 : Int32) : J (PM D dA false) Y_X0_rankOfD [(0, .ref x0), (1, .ref x1), (2, .int x2)] [] 0 (f_X0_rankOfD x0 x1 x2) (FRet injI) := by
  unfold f_X0_rankOfD
  refine J_iload_n dX0_rankOfD_0 rfl 2 rfl ?_
  refine J_if_lt (tgt := 12) dX0_rankOfD_1 rfl ?_ ?_
  · refine J_iconst (v := 0) dX0_rankOfD_12 (by decide) ?_
    exact J_ireturn dX0_rankOfD_13 rfl
  refine J_iload_n dX0_rankOfD_4 rfl 2 rfl ?_
  refine J_aload_n dX0_rankOfD_5 rfl 1 rfl ?_
  refine J_getI dX0_rankOfD_6 fl_X0_196 rfl (fun v1 => ?_)
  refine J_icmp_lt (tgt := 14) dX0_rankOfD_9 rfl ?_ ?_
  · refine J_iconst (v := 0) dX0_rankOfD_14 (by decide) ?_
    refine J_istore_n (env' := [(3, .int 0), (0, .ref x0), (1, .ref x1), (2, .int x2)]) dX0_rankOfD_15 rfl (by decide) rfl ?_
    refine J_iconst (v := 0) dX0_rankOfD_16 (by decide) ?_
    refine J_istore (env' := [(4, .int 0), (3, .int 0), (0, .ref x0), (1, .ref x1), (2, .int x2)]) dX0_rankOfD_17 (by decide) rfl ?_
    refine J_loop (he := fun (t : Int32 × Int32) => [(0, .ref x0), (1, .ref x1), (2, .int x2), (3, .int t.1), (4, .int t.2)]) [2, 3, 4, 1, 0] rfl (fun t => ?_)
    exact j_X0_rankOfD_L19 D dA x0 x1 x2 t.1 t.2
  refine J_iconst (v := 0) dX0_rankOfD_12 (by decide) ?_
  exact J_ireturn dX0_rankOfD_13 rfl
theorem i_X0_rankOfD (x0 : Nat) (x1 : Nat) (x2 : Int32) : Impl (ws_ yX0_rankOfD cX0_rankOfD 6 (some .int)) yX0_rankOfD 4 false 0 0 [.ref x0, .ref x1, .int x2] (f_X0_rankOfD x0 x1 x2) injI := impl_of (plainFor_of_name (by decide)) (Nat.le_of_ble_eq_true rfl) (fun D dA => j_X0_rankOfD D dA x0 x1 x2)
theorem cw_X0_rankOfD (Y : JY) (h : 5 ≤ Y.2.2.2.1) : JCw Y (ws_ yX0_rankOfD cX0_rankOfD 6 (some .int)) yX0_rankOfD cX0_rankOfD 6 (some .int) 4 := ⟨h, by decide, lw_meth q1297, q187, by decide, by decide⟩
theorem np_X0_rankOfD : JNp yX0_rankOfD.desc 2 := by decide +kernel
-- BracketRoom.classesOf(LBracketRoom$World;I)I
abbrev Y_X0_classesOf : JY := (cX0_classesOf, yX0_classesOf.cls, 5, 5, yX0_classesOf.name, (some .int), [])
noncomputable def X0_classesOf_b39 (x0 : Nat) (x1 : Nat) (x2 : Int32) (x3 : Int32) : JM Mem Int32 :=
  jb (jcall 0 x0 (f_X0_rankOfD x0 x1 x2)) fun v2 =>
  jb (jcall 0 x0 (f_X0_rankOfD x0 x1 (x2 - 1))) fun v3 =>
  jp ((x3 - v2) - v3)
theorem j_X0_classesOf_b39 (D : va_G) (dA : Nat → ClassId) (x0 : Nat) (x1 : Nat) (x2 : Int32) (x3 : Int32) : J (PM D dA false) Y_X0_classesOf [(0, .ref x0), (1, .ref x1), (2, .int x2), (3, .int x3)] [] 39 (X0_classesOf_b39 x0 x1 x2 x3) (FRet injI) := by
  unfold X0_classesOf_b39
  refine J_iload_n dX0_classesOf_39 rfl 3 rfl ?_
  refine J_aload_n dX0_classesOf_40 rfl 0 rfl ?_
  refine J_aload_n dX0_classesOf_41 rfl 1 rfl ?_
  refine J_iload_n dX0_classesOf_42 rfl 2 rfl ?_
  refine J_callVI (c := 0) (as := [.ref x1, .int x2]) dX0_classesOf_43 (by decide) rfl (Nat.le_of_ble_eq_true rfl) (cw_X0_rankOfD _ (by decide)) q1294 q1296 qs43 q1297 np_X0_rankOfD (i_X0_rankOfD x0 x1 x2) jad_id rfl (fun v2 => ?_)
  refine J_isub dX0_classesOf_46 ?_
  refine J_aload_n dX0_classesOf_47 rfl 0 rfl ?_
  refine J_aload_n dX0_classesOf_48 rfl 1 rfl ?_
  refine J_iload_n dX0_classesOf_49 rfl 2 rfl ?_
  refine J_iconst (v := 1) dX0_classesOf_50 (by decide) ?_
  refine J_isub dX0_classesOf_51 ?_
  refine J_callVI (c := 0) (as := [.ref x1, .int (x2 - 1)]) dX0_classesOf_52 (by decide) rfl (Nat.le_of_ble_eq_true rfl) (cw_X0_rankOfD _ (by decide)) q1294 q1296 qs43 q1297 np_X0_rankOfD (i_X0_rankOfD x0 x1 (x2 - 1)) jad_id rfl (fun v3 => ?_)
  refine J_isub dX0_classesOf_55 ?_
  exact J_ireturn dX0_classesOf_56 rfl
noncomputable def X0_classesOf_b31 (x0 : Nat) (x1 : Nat) (x2 : Int32) (x4 : Int32) (s0 : Int32) (s1 : Int32) : JM Mem (Int32 ⊕ (Int32 × Int32)) :=
  jlet (s0 + s1) fun y5 =>
  jcont (y5, x4 + 1)
theorem j_X0_classesOf_b31 (D : va_G) (dA : Nat → ClassId) (x0 : Nat) (x1 : Nat) (x2 : Int32) (x4 : Int32) (s0 : Int32) (s1 : Int32) : J (PM D dA false) Y_X0_classesOf [(0, .ref x0), (1, .ref x1), (2, .int x2), (4, .int x4)] [.int s1, .int s0] 31 (X0_classesOf_b31 x0 x1 x2 x4 s0 s1) (FLoop (FRet injI) 5 (fun (t : Int32 × Int32) => [(0, .ref x0), (1, .ref x1), (2, .int x2), (3, .int t.1), (4, .int t.2)])) := by
  unfold X0_classesOf_b31
  refine J_iadd dX0_classesOf_31 ?_
  refine J_letI (fun y5 => ?_)
  refine J_istore_n (env' := [(3, .int y5), (0, .ref x0), (1, .ref x1), (2, .int x2), (4, .int x4)]) dX0_classesOf_32 rfl (by decide) rfl ?_
  refine J_iinc (v := x4 + 1) (env' := [(4, .int (x4 + 1)), (3, .int y5), (0, .ref x0), (1, .ref x1), (2, .int x2)]) dX0_classesOf_33 4 rfl rfl (by decide) rfl ?_
  refine J_goto (tgt := 5) dX0_classesOf_36 rfl ?_
  exact J_cont [2, 3, 4, 1, 0] rfl
noncomputable def X0_classesOf_L5 (x0 : Nat) (x1 : Nat) (x2 : Int32) (x3 : Int32) (x4 : Int32) : JM Mem (Int32 ⊕ (Int32 × Int32)) :=
  jb (jgetI 3 2 x1) fun v1 =>
  if (1 : Int32) <<< (v1 &&& 31) ≤ x4 then
    jinl (X0_classesOf_b39 x0 x1 x2 x3)
  else
  jb ((f_J12_bitCount x4)) fun v4 =>
  if v4 = x2 then
    X0_classesOf_b31 x0 x1 x2 x4 x3 1
  else
    X0_classesOf_b31 x0 x1 x2 x4 x3 0
theorem j_X0_classesOf_L5 (D : va_G) (dA : Nat → ClassId) (x0 : Nat) (x1 : Nat) (x2 : Int32) (x3 : Int32) (x4 : Int32) : J (PM D dA false) Y_X0_classesOf [(0, .ref x0), (1, .ref x1), (2, .int x2), (3, .int x3), (4, .int x4)] [] 5 (X0_classesOf_L5 x0 x1 x2 x3 x4) (FLoop (FRet injI) 5 (fun (t : Int32 × Int32) => [(0, .ref x0), (1, .ref x1), (2, .int x2), (3, .int t.1), (4, .int t.2)])) := by
  unfold X0_classesOf_L5
  refine J_iload dX0_classesOf_5 4 rfl ?_
  refine J_iconst (v := 1) dX0_classesOf_7 (by decide) ?_
  refine J_aload_n dX0_classesOf_8 rfl 1 rfl ?_
  refine J_getI dX0_classesOf_9 fl_X0_196 rfl (fun v1 => ?_)
  refine J_ishl dX0_classesOf_12 ?_
  refine J_icmp_ge (tgt := 39) dX0_classesOf_13 rfl ?_ ?_
  · refine J_inl ?_
    refine J_sub [0, 1, 2, 3] rfl ?_
    exact j_X0_classesOf_b39 D dA x0 x1 x2 x3
  refine J_iload_n dX0_classesOf_16 rfl 3 rfl ?_
  refine J_iload dX0_classesOf_17 4 rfl ?_
  refine J_callSI (host := "") (as := [.int x4]) dX0_classesOf_19 rfl (Nat.le_of_ble_eq_true rfl) (cw_J12_bitCount _ (by decide)) q1207 q1208 q1209 np_J12_bitCount (i_J12_bitCount x4) jad_id rfl (fun v4 => ?_)
  refine J_iload_n dX0_classesOf_22 rfl 2 rfl ?_
  refine J_icmp_ne (tgt := 30) dX0_classesOf_23 rfl ?_ ?_
  · refine J_iconst (v := 0) dX0_classesOf_30 (by decide) ?_
    refine J_sub [0, 1, 2, 4] rfl ?_
    exact j_X0_classesOf_b31 D dA x0 x1 x2 x4 x3 0
  refine J_iconst (v := 1) dX0_classesOf_26 (by decide) ?_
  refine J_goto (tgt := 31) dX0_classesOf_27 rfl ?_
  refine J_sub [0, 1, 2, 4] rfl ?_
  exact j_X0_classesOf_b31 D dA x0 x1 x2 x4 x3 1
noncomputable def f_X0_classesOf (x0 : Nat) (x1 : Nat) (x2 : Int32) : JM Mem Int32 :=
  jloop (fun (t : Int32 × Int32) => X0_classesOf_L5 x0 x1 x2 t.1 t.2) (0, 0)
theorem j_X0_classesOf (D : va_G) (dA : Nat → ClassId) (x0 : Nat) (x1 : Nat) (x2 : Int32) : J (PM D dA false) Y_X0_classesOf [(0, .ref x0), (1, .ref x1), (2, .int x2)] [] 0 (f_X0_classesOf x0 x1 x2) (FRet injI) := by
  unfold f_X0_classesOf
  refine J_iconst (v := 0) dX0_classesOf_0 (by decide) ?_
  refine J_istore_n (env' := [(3, .int 0), (0, .ref x0), (1, .ref x1), (2, .int x2)]) dX0_classesOf_1 rfl (by decide) rfl ?_
  refine J_iconst (v := 0) dX0_classesOf_2 (by decide) ?_
  refine J_istore (env' := [(4, .int 0), (3, .int 0), (0, .ref x0), (1, .ref x1), (2, .int x2)]) dX0_classesOf_3 (by decide) rfl ?_
  refine J_loop (he := fun (t : Int32 × Int32) => [(0, .ref x0), (1, .ref x1), (2, .int x2), (3, .int t.1), (4, .int t.2)]) [2, 3, 4, 1, 0] rfl (fun t => ?_)
  exact j_X0_classesOf_L5 D dA x0 x1 x2 t.1 t.2
theorem i_X0_classesOf (x0 : Nat) (x1 : Nat) (x2 : Int32) : Impl (ws_ yX0_classesOf cX0_classesOf 5 (some .int)) yX0_classesOf 5 false 0 0 [.ref x0, .ref x1, .int x2] (f_X0_classesOf x0 x1 x2) injI := impl_of (plainFor_of_name (by decide)) (Nat.le_of_ble_eq_true rfl) (fun D dA => j_X0_classesOf D dA x0 x1 x2)
theorem cw_X0_classesOf (Y : JY) (h : 6 ≤ Y.2.2.2.1) : JCw Y (ws_ yX0_classesOf cX0_classesOf 5 (some .int)) yX0_classesOf cX0_classesOf 5 (some .int) 5 := ⟨h, by decide, lw_meth q1293, q187, by decide, by decide⟩
theorem np_X0_classesOf : JNp yX0_classesOf.desc 2 := by decide +kernel
-- BracketRoom.classes(I)I
abbrev Y_X0_classes : JY := (cX0_classes, yX0_classes.cls, 2, 6, yX0_classes.name, (some .int), [])
noncomputable def f_X0_classes (x0 : Nat) (x1 : Int32) : JM Mem Int32 :=
  jb (jgetA 0 2 x0) fun v1 =>
  jb (jgetI 3 2 v1) fun v2 =>
  jb ((f_X0_isFrom ((x1 : Int32).toInt64) 0 ((v2 : Int32).toInt64))) fun v3 =>
  if v3 = 0 then
    jb (jcall 0 x0 (f_X0_none x0 5)) fun v10 =>
    jp v10
  else
  jb (jgetA 0 2 x0) fun v4 =>
  jb (jcall 0 x0 (f_X0_isLawful x0 v4)) fun v5 =>
  if v5 = 0 then
    jb (jcall 0 x0 (f_X0_none x0 9)) fun v6 =>
    jp v6
  else
  jb (jgetA 0 2 x0) fun v7 =>
  jb (jcall 0 x0 (f_X0_classesOf x0 v7 x1)) fun v8 =>
  jb (jcall 0 x0 (f_X0_gives x0 v8)) fun v9 =>
  jp v9
theorem j_X0_classes (D : va_G) (dA : Nat → ClassId) (x0 : Nat) (x1 : Int32) : J (PM D dA false) Y_X0_classes [(0, .ref x0), (1, .int x1)] [] 0 (f_X0_classes x0 x1) (FRet injI) := by
  unfold f_X0_classes
  refine J_iload_n dX0_classes_0 rfl 1 rfl ?_
  refine J_i2l dX0_classes_1 ?_
  refine J_lconst (v := 0) dX0_classes_2 (by decide) ?_
  refine J_aload_n dX0_classes_3 rfl 0 rfl ?_
  refine J_getA dX0_classes_4 fl_X0_30 rfl (fun v1 => ?_)
  refine J_getI dX0_classes_7 fl_X0_196 rfl (fun v2 => ?_)
  refine J_i2l dX0_classes_10 ?_
  refine J_callSI (host := "") (as := [.long ((x1 : Int32).toInt64), .long 0, .long ((v2 : Int32).toInt64)]) dX0_classes_11 rfl (Nat.le_of_ble_eq_true rfl) (cw_X0_isFrom _ (by decide)) q1096 q1097 q1098 np_X0_isFrom (i_X0_isFrom ((x1 : Int32).toInt64) 0 ((v2 : Int32).toInt64)) jad_id rfl (fun v3 => ?_)
  refine J_if_ne (tgt := 23) dX0_classes_14 rfl ?_ ?_
  · refine J_aload_n dX0_classes_23 rfl 0 rfl ?_
    refine J_aload_n dX0_classes_24 rfl 0 rfl ?_
    refine J_getA dX0_classes_25 fl_X0_30 rfl (fun v4 => ?_)
    refine J_callVI (c := 0) (as := [.ref v4]) dX0_classes_28 (by decide) rfl (Nat.le_of_ble_eq_true rfl) (cw_X0_isLawful _ (by decide)) q1060 q1062 qs15 q1063 np_X0_isLawful (i_X0_isLawful x0 v4) jad_id rfl (fun v5 => ?_)
    refine J_if_eq (tgt := 50) dX0_classes_31 rfl ?_ ?_
    · refine J_aload_n dX0_classes_50 rfl 0 rfl ?_
      refine J_bipush (v := 9) dX0_classes_51 (by decide) ?_
      refine J_callVI (c := 0) (as := [.int 9]) dX0_classes_53 (by decide) rfl (Nat.le_of_ble_eq_true rfl) (cw_X0_none _ (by decide)) q729 q731 qs3 q732 np_X0_none (i_X0_none x0 9) jad_id rfl (fun v6 => ?_)
      exact J_ireturn dX0_classes_56 rfl
    refine J_aload_n dX0_classes_34 rfl 0 rfl ?_
    refine J_aload_n dX0_classes_35 rfl 0 rfl ?_
    refine J_aload_n dX0_classes_36 rfl 0 rfl ?_
    refine J_getA dX0_classes_37 fl_X0_30 rfl (fun v7 => ?_)
    refine J_iload_n dX0_classes_40 rfl 1 rfl ?_
    refine J_callVI (c := 0) (as := [.ref v7, .int x1]) dX0_classes_41 (by decide) rfl (Nat.le_of_ble_eq_true rfl) (cw_X0_classesOf _ (by decide)) q1290 q1292 qs42 q1293 np_X0_classesOf (i_X0_classesOf x0 v7 x1) jad_id rfl (fun v8 => ?_)
    refine J_callVI (c := 0) (as := [.int v8]) dX0_classes_44 (by decide) rfl (Nat.le_of_ble_eq_true rfl) (cw_X0_gives _ (by decide)) q944 q946 qs9 q947 np_X0_gives (i_X0_gives x0 v8) jad_id rfl (fun v9 => ?_)
    refine J_goto (tgt := 56) dX0_classes_47 rfl ?_
    exact J_ireturn dX0_classes_56 rfl
  refine J_aload_n dX0_classes_17 rfl 0 rfl ?_
  refine J_iconst (v := 5) dX0_classes_18 (by decide) ?_
  refine J_callVI (c := 0) (as := [.int 5]) dX0_classes_19 (by decide) rfl (Nat.le_of_ble_eq_true rfl) (cw_X0_none _ (by decide)) q729 q731 qs3 q732 np_X0_none (i_X0_none x0 5) jad_id rfl (fun v10 => ?_)
  exact J_ireturn dX0_classes_22 rfl
theorem i_X0_classes (x0 : Nat) (x1 : Int32) : Impl (ws_ yX0_classes cX0_classes 2 (some .int)) yX0_classes 6 false 0 0 [.ref x0, .int x1] (f_X0_classes x0 x1) injI := impl_of (plainFor_of_name (by decide)) (Nat.le_of_ble_eq_true rfl) (fun D dA => j_X0_classes D dA x0 x1)
theorem cw_X0_classes (Y : JY) (h : 7 ≤ Y.2.2.2.1) : JCw Y (ws_ yX0_classes cX0_classes 2 (some .int)) yX0_classes cX0_classes 2 (some .int) 6 := ⟨h, by decide, lw_meth q1289, q187, by decide, by decide⟩
theorem np_X0_classes : JNp yX0_classes.desc 1 := by decide +kernel
-- BracketRoom.commutingOf(LBracketRoom$World;)I
abbrev Y_X0_commutingOf : JY := (cX0_commutingOf, yX0_commutingOf.cls, 6, 5, yX0_commutingOf.name, (some .int), [])
noncomputable def X0_commutingOf_b46 (x0 : Nat) (x1 : Nat) (x2 : Int32) (x3 : Int32) (x4 : Int32) : JM Mem (Int32 ⊕ (Int32 × Int32)) :=
  jlet (x2 + x4) fun y4 =>
  jcont (y4, x3 + 1)
theorem j_X0_commutingOf_b46 (D : va_G) (dA : Nat → ClassId) (x0 : Nat) (x1 : Nat) (x2 : Int32) (x3 : Int32) (x4 : Int32) : J (PM D dA false) Y_X0_commutingOf [(0, .ref x0), (1, .ref x1), (2, .int x2), (3, .int x3), (4, .int x4)] [] 46 (X0_commutingOf_b46 x0 x1 x2 x3 x4) (FLoop (FRet injI) 4 (fun (t : Int32 × Int32) => [(0, .ref x0), (1, .ref x1), (2, .int t.1), (3, .int t.2)])) := by
  unfold X0_commutingOf_b46
  refine J_iload_n dX0_commutingOf_46 rfl 2 rfl ?_
  refine J_iload dX0_commutingOf_47 4 rfl ?_
  refine J_iadd dX0_commutingOf_49 ?_
  refine J_letI (fun y4 => ?_)
  refine J_istore_n (env' := [(2, .int y4), (0, .ref x0), (1, .ref x1), (3, .int x3), (4, .int x4)]) dX0_commutingOf_50 rfl (by decide) rfl ?_
  refine J_iinc (v := x3 + 1) (env' := [(3, .int (x3 + 1)), (2, .int y4), (0, .ref x0), (1, .ref x1), (4, .int x4)]) dX0_commutingOf_51 3 rfl rfl (by decide) rfl ?_
  refine J_goto (tgt := 4) dX0_commutingOf_54 rfl ?_
  exact J_cont [2, 3, 1, 0] rfl
noncomputable def X0_commutingOf_L26 (x0 : Nat) (x1 : Nat) (x2 : Int32) (x3 : Int32) (x4 : Int32) (x5 : Int32) : JM Mem ((Int32 ⊕ (Int32 × Int32)) ⊕ (Int32 × Int32)) :=
  if x5 ≤ 0 then
    jinl (X0_commutingOf_b46 x0 x1 x2 x3 x4)
  else
  jb (jgetI 3 1 x1) fun v5 =>
  jb (jdiv x4 v5) fun v6 =>
  jcont (v6, x5 + (-1))
theorem j_X0_commutingOf_L26 (D : va_G) (dA : Nat → ClassId) (x0 : Nat) (x1 : Nat) (x2 : Int32) (x3 : Int32) (x4 : Int32) (x5 : Int32) : J (PM D dA false) Y_X0_commutingOf [(0, .ref x0), (1, .ref x1), (2, .int x2), (3, .int x3), (4, .int x4), (5, .int x5)] [] 26 (X0_commutingOf_L26 x0 x1 x2 x3 x4 x5) (FLoop (FLoop (FRet injI) 4 (fun (t : Int32 × Int32) => [(0, .ref x0), (1, .ref x1), (2, .int t.1), (3, .int t.2)])) 26 (fun (t : Int32 × Int32) => [(0, .ref x0), (1, .ref x1), (2, .int x2), (3, .int x3), (4, .int t.1), (5, .int t.2)])) := by
  unfold X0_commutingOf_L26
  refine J_iload dX0_commutingOf_26 5 rfl ?_
  refine J_if_le (tgt := 46) dX0_commutingOf_28 rfl ?_ ?_
  · refine J_inl ?_
    refine J_sub [0, 1, 2, 3, 4] rfl ?_
    exact j_X0_commutingOf_b46 D dA x0 x1 x2 x3 x4
  refine J_iload dX0_commutingOf_31 4 rfl ?_
  refine J_aload_n dX0_commutingOf_33 rfl 1 rfl ?_
  refine J_getI dX0_commutingOf_34 fl_X0_253 rfl (fun v5 => ?_)
  refine J_idiv dX0_commutingOf_37 (fun v6 => ?_)
  refine J_istore (env' := [(4, .int v6), (0, .ref x0), (1, .ref x1), (2, .int x2), (3, .int x3), (5, .int x5)]) dX0_commutingOf_38 (by decide) rfl ?_
  refine J_iinc (v := x5 + (-1)) (env' := [(5, .int (x5 + (-1))), (4, .int v6), (0, .ref x0), (1, .ref x1), (2, .int x2), (3, .int x3)]) dX0_commutingOf_40 5 rfl rfl (by decide) rfl ?_
  refine J_goto (tgt := 26) dX0_commutingOf_43 rfl ?_
  exact J_cont [2, 3, 4, 5, 1, 0] rfl
noncomputable def X0_commutingOf_L4 (x0 : Nat) (x1 : Nat) (x2 : Int32) (x3 : Int32) : JM Mem (Int32 ⊕ (Int32 × Int32)) :=
  jb (jcall 3 x1 (f_X4_vectors x1)) fun v1 =>
  if v1 ≤ x3 then
    jinl (jp x2)
  else
  jb (jcall 3 x1 (f_X4_vectors x1)) fun v2 =>
  jb (jcall 0 x0 (f_X0_rankOf x0 x1 x3)) fun v3 =>
  jloop (fun (t : Int32 × Int32) => X0_commutingOf_L26 x0 x1 x2 x3 t.1 t.2) (v2, v3)
theorem j_X0_commutingOf_L4 (D : va_G) (dA : Nat → ClassId) (x0 : Nat) (x1 : Nat) (x2 : Int32) (x3 : Int32) : J (PM D dA false) Y_X0_commutingOf [(0, .ref x0), (1, .ref x1), (2, .int x2), (3, .int x3)] [] 4 (X0_commutingOf_L4 x0 x1 x2 x3) (FLoop (FRet injI) 4 (fun (t : Int32 × Int32) => [(0, .ref x0), (1, .ref x1), (2, .int t.1), (3, .int t.2)])) := by
  unfold X0_commutingOf_L4
  refine J_iload_n dX0_commutingOf_4 rfl 3 rfl ?_
  refine J_aload_n dX0_commutingOf_5 rfl 1 rfl ?_
  refine J_callVI (c := 3) (as := []) dX0_commutingOf_6 (by decide) rfl (Nat.le_of_ble_eq_true rfl) (cw_X4_vectors _ (by decide)) q1040 q1041 q1042 q1043 np_X4_vectors (i_X4_vectors x1) jad_id rfl (fun v1 => ?_)
  refine J_icmp_ge (tgt := 57) dX0_commutingOf_9 rfl ?_ ?_
  · refine J_inl ?_
    refine J_iload_n dX0_commutingOf_57 rfl 2 rfl ?_
    exact J_ireturn dX0_commutingOf_58 rfl
  refine J_aload_n dX0_commutingOf_12 rfl 1 rfl ?_
  refine J_callVI (c := 3) (as := []) dX0_commutingOf_13 (by decide) rfl (Nat.le_of_ble_eq_true rfl) (cw_X4_vectors _ (by decide)) q1040 q1041 q1042 q1043 np_X4_vectors (i_X4_vectors x1) jad_id rfl (fun v2 => ?_)
  refine J_istore (env' := [(4, .int v2), (0, .ref x0), (1, .ref x1), (2, .int x2), (3, .int x3)]) dX0_commutingOf_16 (by decide) rfl ?_
  refine J_aload_n dX0_commutingOf_18 rfl 1 rfl ?_
  refine J_aload_n dX0_commutingOf_19 rfl 2 rfl ?_
  refine J_iload_n dX0_commutingOf_20 rfl 4 rfl ?_
  refine J_callVI (c := 0) (as := [.ref x1, .int x3]) dX0_commutingOf_21 (by decide) rfl (Nat.le_of_ble_eq_true rfl) (cw_X0_rankOf _ (by decide)) q1183 q1185 qs27 q1186 np_X0_rankOf (i_X0_rankOf x0 x1 x3) jad_id rfl (fun v3 => ?_)
  refine J_istore (env' := [(5, .int v3), (4, .int v2), (0, .ref x0), (1, .ref x1), (2, .int x2), (3, .int x3)]) dX0_commutingOf_24 (by decide) rfl ?_
  refine J_loop (he := fun (t : Int32 × Int32) => [(0, .ref x0), (1, .ref x1), (2, .int x2), (3, .int x3), (4, .int t.1), (5, .int t.2)]) [2, 3, 4, 5, 1, 0] rfl (fun t => ?_)
  exact j_X0_commutingOf_L26 D dA x0 x1 x2 x3 t.1 t.2
noncomputable def f_X0_commutingOf (x0 : Nat) (x1 : Nat) : JM Mem Int32 :=
  jloop (fun (t : Int32 × Int32) => X0_commutingOf_L4 x0 x1 t.1 t.2) (0, 0)
theorem j_X0_commutingOf (D : va_G) (dA : Nat → ClassId) (x0 : Nat) (x1 : Nat) : J (PM D dA false) Y_X0_commutingOf [(0, .ref x0), (1, .ref x1)] [] 0 (f_X0_commutingOf x0 x1) (FRet injI) := by
  unfold f_X0_commutingOf
  refine J_iconst (v := 0) dX0_commutingOf_0 (by decide) ?_
  refine J_istore_n (env' := [(2, .int 0), (0, .ref x0), (1, .ref x1)]) dX0_commutingOf_1 rfl (by decide) rfl ?_
  refine J_iconst (v := 0) dX0_commutingOf_2 (by decide) ?_
  refine J_istore_n (env' := [(3, .int 0), (2, .int 0), (0, .ref x0), (1, .ref x1)]) dX0_commutingOf_3 rfl (by decide) rfl ?_
  refine J_loop (he := fun (t : Int32 × Int32) => [(0, .ref x0), (1, .ref x1), (2, .int t.1), (3, .int t.2)]) [2, 3, 1, 0] rfl (fun t => ?_)
  exact j_X0_commutingOf_L4 D dA x0 x1 t.1 t.2
theorem i_X0_commutingOf (x0 : Nat) (x1 : Nat) : Impl (ws_ yX0_commutingOf cX0_commutingOf 6 (some .int)) yX0_commutingOf 5 false 0 0 [.ref x0, .ref x1] (f_X0_commutingOf x0 x1) injI := impl_of (plainFor_of_name (by decide)) (Nat.le_of_ble_eq_true rfl) (fun D dA => j_X0_commutingOf D dA x0 x1)
theorem cw_X0_commutingOf (Y : JY) (h : 6 ≤ Y.2.2.2.1) : JCw Y (ws_ yX0_commutingOf cX0_commutingOf 6 (some .int)) yX0_commutingOf cX0_commutingOf 6 (some .int) 5 := ⟨h, by decide, lw_meth q1311, q187, by decide, by decide⟩
theorem np_X0_commutingOf : JNp yX0_commutingOf.desc 1 := by decide +kernel
-- BracketRoom.commuting()I
abbrev Y_X0_commuting : JY := (cX0_commuting, yX0_commuting.cls, 1, 6, yX0_commuting.name, (some .int), [])
noncomputable def f_X0_commuting (x0 : Nat) : JM Mem Int32 :=
  jb (jgetA 0 2 x0) fun v1 =>
  jb (jcall 0 x0 (f_X0_commutingOf x0 v1)) fun v2 =>
  jb (jcall 0 x0 (f_X0_gives x0 v2)) fun v3 =>
  jp v3
theorem j_X0_commuting (D : va_G) (dA : Nat → ClassId) (x0 : Nat) : J (PM D dA false) Y_X0_commuting [(0, .ref x0)] [] 0 (f_X0_commuting x0) (FRet injI) := by
  unfold f_X0_commuting
  refine J_aload_n dX0_commuting_0 rfl 0 rfl ?_
  refine J_aload_n dX0_commuting_1 rfl 0 rfl ?_
  refine J_aload_n dX0_commuting_2 rfl 0 rfl ?_
  refine J_getA dX0_commuting_3 fl_X0_30 rfl (fun v1 => ?_)
  refine J_callVI (c := 0) (as := [.ref v1]) dX0_commuting_6 (by decide) rfl (Nat.le_of_ble_eq_true rfl) (cw_X0_commutingOf _ (by decide)) q1308 q1310 qs44 q1311 np_X0_commutingOf (i_X0_commutingOf x0 v1) jad_id rfl (fun v2 => ?_)
  refine J_callVI (c := 0) (as := [.int v2]) dX0_commuting_9 (by decide) rfl (Nat.le_of_ble_eq_true rfl) (cw_X0_gives _ (by decide)) q944 q946 qs9 q947 np_X0_gives (i_X0_gives x0 v2) jad_id rfl (fun v3 => ?_)
  exact J_ireturn dX0_commuting_12 rfl
theorem i_X0_commuting (x0 : Nat) : Impl (ws_ yX0_commuting cX0_commuting 1 (some .int)) yX0_commuting 6 false 0 0 [.ref x0] (f_X0_commuting x0) injI := impl_of (plainFor_of_name (by decide)) (Nat.le_of_ble_eq_true rfl) (fun D dA => j_X0_commuting D dA x0)
theorem cw_X0_commuting (Y : JY) (h : 7 ≤ Y.2.2.2.1) : JCw Y (ws_ yX0_commuting cX0_commuting 1 (some .int)) yX0_commuting cX0_commuting 1 (some .int) 6 := ⟨h, by decide, lw_meth q1307, q187, by decide, by decide⟩
theorem np_X0_commuting : JNp yX0_commuting.desc 0 := by decide +kernel
-- BracketRoom.fits(LBracketRoom$World;LBracketRoom$World;I)Z
abbrev Y_X0_fits : JY := (cX0_fits, yX0_fits.cls, 10, 4, yX0_fits.name, (some .boolean), [])
noncomputable def X0_fits_b191 (x0 : Nat) (x1 : Nat) (x2 : Nat) (x3 : Int32) (x4 : Int32) : JM Mem (Int32 ⊕ (Int32)) :=
  jcont (x4 + 1)
theorem j_X0_fits_b191 (D : va_G) (dA : Nat → ClassId) (x0 : Nat) (x1 : Nat) (x2 : Nat) (x3 : Int32) (x4 : Int32) : J (PM D dA false) Y_X0_fits [(0, .ref x0), (1, .ref x1), (2, .ref x2), (3, .int x3), (4, .int x4)] [] 191 (X0_fits_b191 x0 x1 x2 x3 x4) (FLoop (FRet injI) 3 (fun (t : Int32) => [(0, .ref x0), (1, .ref x1), (2, .ref x2), (3, .int x3), (4, .int t)])) := by
  unfold X0_fits_b191
  refine J_iinc (v := x4 + 1) (env' := [(4, .int (x4 + 1)), (0, .ref x0), (1, .ref x1), (2, .ref x2), (3, .int x3)]) dX0_fits_191 4 rfl rfl (by decide) rfl ?_
  refine J_goto (tgt := 3) dX0_fits_194 rfl ?_
  exact J_cont [1, 2, 3, 4, 0] rfl
noncomputable def X0_fits_b185 (x0 : Nat) (x1 : Nat) (x2 : Nat) (x3 : Int32) (x4 : Int32) (x5 : Int32) : JM Mem ((Int32 ⊕ (Int32)) ⊕ (Int32)) :=
  jcont (x5 + 1)
theorem j_X0_fits_b185 (D : va_G) (dA : Nat → ClassId) (x0 : Nat) (x1 : Nat) (x2 : Nat) (x3 : Int32) (x4 : Int32) (x5 : Int32) : J (PM D dA false) Y_X0_fits [(0, .ref x0), (1, .ref x1), (2, .ref x2), (3, .int x3), (4, .int x4), (5, .int x5)] [] 185 (X0_fits_b185 x0 x1 x2 x3 x4 x5) (FLoop (FLoop (FRet injI) 3 (fun (t : Int32) => [(0, .ref x0), (1, .ref x1), (2, .ref x2), (3, .int x3), (4, .int t)])) 15 (fun (t : Int32) => [(0, .ref x0), (1, .ref x1), (2, .ref x2), (3, .int x3), (4, .int x4), (5, .int t)])) := by
  unfold X0_fits_b185
  refine J_iinc (v := x5 + 1) (env' := [(5, .int (x5 + 1)), (0, .ref x0), (1, .ref x1), (2, .ref x2), (3, .int x3), (4, .int x4)]) dX0_fits_185 5 rfl rfl (by decide) rfl ?_
  refine J_goto (tgt := 15) dX0_fits_188 rfl ?_
  exact J_cont [1, 2, 3, 4, 5, 0] rfl
noncomputable def X0_fits_b161 (x0 : Nat) (x1 : Nat) (x2 : Nat) (x3 : Int32) (x4 : Int32) (x5 : Int32) (x7 : Int32) (x8 : Int32) : JM Mem (((Int32 ⊕ (Int32)) ⊕ (Int32)) ⊕ (Int32)) :=
  jb (jcall 3 x2 (f_X4_by x2 x8)) fun v10 =>
  jb (jgetA 0 15 x0) fun v11 =>
  jb (jald mI 0 v11 x7) fun v12 =>
  if v10 = v12 then
    jcont (x7 + 1)
  else
    jinl (jinl (jinl (jp 0)))
theorem j_X0_fits_b161 (D : va_G) (dA : Nat → ClassId) (x0 : Nat) (x1 : Nat) (x2 : Nat) (x3 : Int32) (x4 : Int32) (x5 : Int32) (x7 : Int32) (x8 : Int32) : J (PM D dA false) Y_X0_fits [(0, .ref x0), (1, .ref x1), (2, .ref x2), (3, .int x3), (4, .int x4), (5, .int x5), (7, .int x7), (8, .int x8)] [] 161 (X0_fits_b161 x0 x1 x2 x3 x4 x5 x7 x8) (FLoop (FLoop (FLoop (FRet injI) 3 (fun (t : Int32) => [(0, .ref x0), (1, .ref x1), (2, .ref x2), (3, .int x3), (4, .int t)])) 15 (fun (t : Int32) => [(0, .ref x0), (1, .ref x1), (2, .ref x2), (3, .int x3), (4, .int x4), (5, .int t)])) 105 (fun (t : Int32) => [(0, .ref x0), (1, .ref x1), (2, .ref x2), (3, .int x3), (4, .int x4), (5, .int x5), (7, .int t)])) := by
  unfold X0_fits_b161
  refine J_aload_n dX0_fits_161 rfl 2 rfl ?_
  refine J_iload dX0_fits_162 7 rfl ?_
  refine J_callVI (c := 3) (as := [.int x8]) dX0_fits_164 (by decide) rfl (Nat.le_of_ble_eq_true rfl) (cw_X4_by _ (by decide)) q1067 q929 q930 q931 np_X4_by (i_X4_by x2 x8) jad_id rfl (fun v10 => ?_)
  refine J_aload_n dX0_fits_167 rfl 0 rfl ?_
  refine J_getA dX0_fits_168 fl_X0_63 rfl (fun v11 => ?_)
  refine J_iload dX0_fits_171 6 rfl ?_
  refine J_iald dX0_fits_173 (fun v12 => ?_)
  refine J_icmp_eq (tgt := 179) dX0_fits_174 rfl ?_ ?_
  · refine J_iinc (v := x7 + 1) (env' := [(7, .int (x7 + 1)), (0, .ref x0), (1, .ref x1), (2, .ref x2), (3, .int x3), (4, .int x4), (5, .int x5), (8, .int x8)]) dX0_fits_179 6 rfl rfl (by decide) rfl ?_
    refine J_goto (tgt := 105) dX0_fits_182 rfl ?_
    exact J_cont [1, 2, 3, 4, 5, 6, 0] rfl
  refine J_inl ?_
  refine J_inl ?_
  refine J_inl ?_
  refine J_iconst (v := 0) dX0_fits_177 (by decide) ?_
  exact J_zreturn0 dX0_fits_178 rfl
noncomputable def X0_fits_L120 (x0 : Nat) (x1 : Nat) (x2 : Nat) (x3 : Int32) (x4 : Int32) (x5 : Int32) (x7 : Int32) (x8 : Int32) (x9 : Int32) : JM Mem ((((Int32 ⊕ (Int32)) ⊕ (Int32)) ⊕ (Int32)) ⊕ (Int32 × Int32)) :=
  if x3 < x9 then
    jinl (X0_fits_b161 x0 x1 x2 x3 x4 x5 x7 x8)
  else
  jb (jgetA 3 0 x1) fun v13 =>
  jb (jaldA 6 v13 x4) fun v14 =>
  jb (jaldA 5 v14 x5) fun v15 =>
  jb (jald mI 0 v15 x9) fun v16 =>
  jb (jgetA 0 27 x0) fun v17 =>
  jb (jaldA 5 v17 x9) fun v18 =>
  jb (jald mI 0 v18 x7) fun v19 =>
  jlet (x8 + (v16 * v19)) fun y20 =>
  jcont (y20, x9 + 1)
theorem j_X0_fits_L120 (D : va_G) (dA : Nat → ClassId) (x0 : Nat) (x1 : Nat) (x2 : Nat) (x3 : Int32) (x4 : Int32) (x5 : Int32) (x7 : Int32) (x8 : Int32) (x9 : Int32) : J (PM D dA false) Y_X0_fits [(0, .ref x0), (1, .ref x1), (2, .ref x2), (3, .int x3), (4, .int x4), (5, .int x5), (7, .int x7), (8, .int x8), (9, .int x9)] [] 120 (X0_fits_L120 x0 x1 x2 x3 x4 x5 x7 x8 x9) (FLoop (FLoop (FLoop (FLoop (FRet injI) 3 (fun (t : Int32) => [(0, .ref x0), (1, .ref x1), (2, .ref x2), (3, .int x3), (4, .int t)])) 15 (fun (t : Int32) => [(0, .ref x0), (1, .ref x1), (2, .ref x2), (3, .int x3), (4, .int x4), (5, .int t)])) 105 (fun (t : Int32) => [(0, .ref x0), (1, .ref x1), (2, .ref x2), (3, .int x3), (4, .int x4), (5, .int x5), (7, .int t)])) 120 (fun (t : Int32 × Int32) => [(0, .ref x0), (1, .ref x1), (2, .ref x2), (3, .int x3), (4, .int x4), (5, .int x5), (7, .int x7), (8, .int t.1), (9, .int t.2)])) := by
  unfold X0_fits_L120
  refine J_iload dX0_fits_120 8 rfl ?_
  refine J_iload_n dX0_fits_122 rfl 3 rfl ?_
  refine J_icmp_gt (tgt := 161) dX0_fits_123 rfl ?_ ?_
  · refine J_inl ?_
    refine J_sub [0, 1, 2, 3, 4, 5, 6, 7] rfl ?_
    exact j_X0_fits_b161 D dA x0 x1 x2 x3 x4 x5 x7 x8
  refine J_iload dX0_fits_126 7 rfl ?_
  refine J_aload_n dX0_fits_128 rfl 1 rfl ?_
  refine J_getA dX0_fits_129 fl_X0_256 rfl (fun v13 => ?_)
  refine J_iload dX0_fits_132 4 rfl ?_
  refine J_aald dX0_fits_134 rfl (by decide) (fun v14 => ?_)
  refine J_iload dX0_fits_135 5 rfl ?_
  refine J_aald dX0_fits_137 rfl (by decide) (fun v15 => ?_)
  refine J_iload dX0_fits_138 8 rfl ?_
  refine J_iald dX0_fits_140 (fun v16 => ?_)
  refine J_aload_n dX0_fits_141 rfl 0 rfl ?_
  refine J_getA dX0_fits_142 fl_X0_105 rfl (fun v17 => ?_)
  refine J_iload dX0_fits_145 8 rfl ?_
  refine J_aald dX0_fits_147 rfl (by decide) (fun v18 => ?_)
  refine J_iload dX0_fits_148 6 rfl ?_
  refine J_iald dX0_fits_150 (fun v19 => ?_)
  refine J_imul dX0_fits_151 ?_
  refine J_iadd dX0_fits_152 ?_
  refine J_letI (fun y20 => ?_)
  refine J_istore (env' := [(8, .int y20), (0, .ref x0), (1, .ref x1), (2, .ref x2), (3, .int x3), (4, .int x4), (5, .int x5), (7, .int x7), (9, .int x9)]) dX0_fits_153 (by decide) rfl ?_
  refine J_iinc (v := x9 + 1) (env' := [(9, .int (x9 + 1)), (8, .int y20), (0, .ref x0), (1, .ref x1), (2, .ref x2), (3, .int x3), (4, .int x4), (5, .int x5), (7, .int x7)]) dX0_fits_155 8 rfl rfl (by decide) rfl ?_
  refine J_goto (tgt := 120) dX0_fits_158 rfl ?_
  exact J_cont [2, 3, 4, 5, 6, 7, 8, 1, 0] rfl
noncomputable def X0_fits_L105 (x0 : Nat) (x1 : Nat) (x2 : Nat) (x3 : Int32) (x4 : Int32) (x5 : Int32) (x7 : Int32) : JM Mem (((Int32 ⊕ (Int32)) ⊕ (Int32)) ⊕ (Int32)) :=
  jb (jgetI 3 2 x1) fun v9 =>
  if v9 ≤ x7 then
    jinl (X0_fits_b185 x0 x1 x2 x3 x4 x5)
  else
    jloop (fun (t : Int32 × Int32) => X0_fits_L120 x0 x1 x2 x3 x4 x5 x7 t.1 t.2) (0, 0)
theorem j_X0_fits_L105 (D : va_G) (dA : Nat → ClassId) (x0 : Nat) (x1 : Nat) (x2 : Nat) (x3 : Int32) (x4 : Int32) (x5 : Int32) (x7 : Int32) : J (PM D dA false) Y_X0_fits [(0, .ref x0), (1, .ref x1), (2, .ref x2), (3, .int x3), (4, .int x4), (5, .int x5), (7, .int x7)] [] 105 (X0_fits_L105 x0 x1 x2 x3 x4 x5 x7) (FLoop (FLoop (FLoop (FRet injI) 3 (fun (t : Int32) => [(0, .ref x0), (1, .ref x1), (2, .ref x2), (3, .int x3), (4, .int t)])) 15 (fun (t : Int32) => [(0, .ref x0), (1, .ref x1), (2, .ref x2), (3, .int x3), (4, .int x4), (5, .int t)])) 105 (fun (t : Int32) => [(0, .ref x0), (1, .ref x1), (2, .ref x2), (3, .int x3), (4, .int x4), (5, .int x5), (7, .int t)])) := by
  unfold X0_fits_L105
  refine J_iload dX0_fits_105 6 rfl ?_
  refine J_aload_n dX0_fits_107 rfl 1 rfl ?_
  refine J_getI dX0_fits_108 fl_X0_196 rfl (fun v9 => ?_)
  refine J_icmp_ge (tgt := 185) dX0_fits_111 rfl ?_ ?_
  · refine J_inl ?_
    refine J_sub [0, 1, 2, 3, 4, 5] rfl ?_
    exact j_X0_fits_b185 D dA x0 x1 x2 x3 x4 x5
  refine J_iconst (v := 0) dX0_fits_114 (by decide) ?_
  refine J_istore (env' := [(8, .int 0), (0, .ref x0), (1, .ref x1), (2, .ref x2), (3, .int x3), (4, .int x4), (5, .int x5), (7, .int x7)]) dX0_fits_115 (by decide) rfl ?_
  refine J_iconst (v := 0) dX0_fits_117 (by decide) ?_
  refine J_istore (env' := [(9, .int 0), (8, .int 0), (0, .ref x0), (1, .ref x1), (2, .ref x2), (3, .int x3), (4, .int x4), (5, .int x5), (7, .int x7)]) dX0_fits_118 (by decide) rfl ?_
  refine J_loop (he := fun (t : Int32 × Int32) => [(0, .ref x0), (1, .ref x1), (2, .ref x2), (3, .int x3), (4, .int x4), (5, .int x5), (7, .int x7), (8, .int t.1), (9, .int t.2)]) [2, 3, 4, 5, 6, 7, 8, 1, 0] rfl (fun t => ?_)
  exact j_X0_fits_L120 D dA x0 x1 x2 x3 x4 x5 x7 t.1 t.2
noncomputable def X0_fits_b72 (x0 : Nat) (x1 : Nat) (x2 : Nat) (x3 : Int32) (x4 : Int32) (x5 : Int32) (x6 : Int32) : JM Mem ((Int32 ⊕ (Int32)) ⊕ (Int32)) :=
  if x6 = 0 then
    X0_fits_b185 x0 x1 x2 x3 x4 x5
  else
  jb (jgetA 0 27 x0) fun v4 =>
  jb (jaldA 5 v4 x4) fun v5 =>
  jb (jgetA 0 27 x0) fun v6 =>
  jb (jaldA 5 v6 x5) fun v7 =>
  jb (jgetA 0 15 x0) fun v8 =>
  jb (jcall 3 x2 (f_X4_bracket x2 v5 v7 v8)) fun _ =>
  jloop (fun (t : Int32) => X0_fits_L105 x0 x1 x2 x3 x4 x5 t) 0
theorem j_X0_fits_b72 (D : va_G) (dA : Nat → ClassId) (x0 : Nat) (x1 : Nat) (x2 : Nat) (x3 : Int32) (x4 : Int32) (x5 : Int32) (x6 : Int32) : J (PM D dA false) Y_X0_fits [(0, .ref x0), (1, .ref x1), (2, .ref x2), (3, .int x3), (4, .int x4), (5, .int x5), (6, .int x6)] [] 72 (X0_fits_b72 x0 x1 x2 x3 x4 x5 x6) (FLoop (FLoop (FRet injI) 3 (fun (t : Int32) => [(0, .ref x0), (1, .ref x1), (2, .ref x2), (3, .int x3), (4, .int t)])) 15 (fun (t : Int32) => [(0, .ref x0), (1, .ref x1), (2, .ref x2), (3, .int x3), (4, .int x4), (5, .int t)])) := by
  unfold X0_fits_b72
  refine J_iload dX0_fits_72 6 rfl ?_
  refine J_if_ne (tgt := 80) dX0_fits_74 rfl ?_ ?_
  · refine J_aload_n dX0_fits_80 rfl 2 rfl ?_
    refine J_aload_n dX0_fits_81 rfl 0 rfl ?_
    refine J_getA dX0_fits_82 fl_X0_105 rfl (fun v4 => ?_)
    refine J_iload dX0_fits_85 4 rfl ?_
    refine J_aald dX0_fits_87 rfl (by decide) (fun v5 => ?_)
    refine J_aload_n dX0_fits_88 rfl 0 rfl ?_
    refine J_getA dX0_fits_89 fl_X0_105 rfl (fun v6 => ?_)
    refine J_iload dX0_fits_92 5 rfl ?_
    refine J_aald dX0_fits_94 rfl (by decide) (fun v7 => ?_)
    refine J_aload_n dX0_fits_95 rfl 0 rfl ?_
    refine J_getA dX0_fits_96 fl_X0_63 rfl (fun v8 => ?_)
    refine J_callVV (c := 3) (as := [.ref v5, .ref v7, .ref v8]) dX0_fits_99 (by decide) rfl (Nat.le_of_ble_eq_true rfl) (cw_X4_bracket _ (by decide)) q1048 q1049 q1050 q1051 np_X4_bracket (i_X4_bracket x2 v5 v7 v8) jad_id rfl ?_
    refine J_iconst (v := 0) dX0_fits_102 (by decide) ?_
    refine J_istore (env' := [(7, .int 0), (0, .ref x0), (1, .ref x1), (2, .ref x2), (3, .int x3), (4, .int x4), (5, .int x5), (6, .int x6)]) dX0_fits_103 (by decide) rfl ?_
    refine J_loop (he := fun (t : Int32) => [(0, .ref x0), (1, .ref x1), (2, .ref x2), (3, .int x3), (4, .int x4), (5, .int x5), (7, .int t)]) [1, 2, 3, 4, 5, 6, 0] rfl (fun t => ?_)
    exact j_X0_fits_L105 D dA x0 x1 x2 x3 x4 x5 t
  refine J_goto (tgt := 185) dX0_fits_77 rfl ?_
  refine J_sub [0, 1, 2, 3, 4, 5] rfl ?_
  exact j_X0_fits_b185 D dA x0 x1 x2 x3 x4 x5
noncomputable def X0_fits_b64 (x0 : Nat) (x1 : Nat) (x2 : Nat) (x3 : Int32) (x4 : Int32) (x5 : Int32) (x7 : Int32) (s0 : Int32) : JM Mem (((Int32 ⊕ (Int32)) ⊕ (Int32)) ⊕ (Int32 × Int32)) :=
  jcont (s0, x7 + 1)
theorem j_X0_fits_b64 (D : va_G) (dA : Nat → ClassId) (x0 : Nat) (x1 : Nat) (x2 : Nat) (x3 : Int32) (x4 : Int32) (x5 : Int32) (x7 : Int32) (s0 : Int32) : J (PM D dA false) Y_X0_fits [(0, .ref x0), (1, .ref x1), (2, .ref x2), (3, .int x3), (4, .int x4), (5, .int x5), (7, .int x7)] [.int s0] 64 (X0_fits_b64 x0 x1 x2 x3 x4 x5 x7 s0) (FLoop (FLoop (FLoop (FRet injI) 3 (fun (t : Int32) => [(0, .ref x0), (1, .ref x1), (2, .ref x2), (3, .int x3), (4, .int t)])) 15 (fun (t : Int32) => [(0, .ref x0), (1, .ref x1), (2, .ref x2), (3, .int x3), (4, .int x4), (5, .int t)])) 29 (fun (t : Int32 × Int32) => [(0, .ref x0), (1, .ref x1), (2, .ref x2), (3, .int x3), (4, .int x4), (5, .int x5), (6, .int t.1), (7, .int t.2)])) := by
  unfold X0_fits_b64
  refine J_istore (env' := [(6, .int s0), (0, .ref x0), (1, .ref x1), (2, .ref x2), (3, .int x3), (4, .int x4), (5, .int x5), (7, .int x7)]) dX0_fits_64 (by decide) rfl ?_
  refine J_iinc (v := x7 + 1) (env' := [(7, .int (x7 + 1)), (6, .int s0), (0, .ref x0), (1, .ref x1), (2, .ref x2), (3, .int x3), (4, .int x4), (5, .int x5)]) dX0_fits_66 7 rfl rfl (by decide) rfl ?_
  refine J_goto (tgt := 29) dX0_fits_69 rfl ?_
  exact J_cont [2, 3, 4, 5, 6, 7, 1, 0] rfl
noncomputable def X0_fits_b63 (x0 : Nat) (x1 : Nat) (x2 : Nat) (x3 : Int32) (x4 : Int32) (x5 : Int32) (x7 : Int32) : JM Mem (((Int32 ⊕ (Int32)) ⊕ (Int32)) ⊕ (Int32 × Int32)) :=
  X0_fits_b64 x0 x1 x2 x3 x4 x5 x7 0
theorem j_X0_fits_b63 (D : va_G) (dA : Nat → ClassId) (x0 : Nat) (x1 : Nat) (x2 : Nat) (x3 : Int32) (x4 : Int32) (x5 : Int32) (x7 : Int32) : J (PM D dA false) Y_X0_fits [(0, .ref x0), (1, .ref x1), (2, .ref x2), (3, .int x3), (4, .int x4), (5, .int x5), (7, .int x7)] [] 63 (X0_fits_b63 x0 x1 x2 x3 x4 x5 x7) (FLoop (FLoop (FLoop (FRet injI) 3 (fun (t : Int32) => [(0, .ref x0), (1, .ref x1), (2, .ref x2), (3, .int x3), (4, .int t)])) 15 (fun (t : Int32) => [(0, .ref x0), (1, .ref x1), (2, .ref x2), (3, .int x3), (4, .int x4), (5, .int t)])) 29 (fun (t : Int32 × Int32) => [(0, .ref x0), (1, .ref x1), (2, .ref x2), (3, .int x3), (4, .int x4), (5, .int x5), (6, .int t.1), (7, .int t.2)])) := by
  unfold X0_fits_b63
  refine J_iconst (v := 0) dX0_fits_63 (by decide) ?_
  refine J_sub [0, 1, 2, 3, 4, 5, 6] rfl ?_
  exact j_X0_fits_b64 D dA x0 x1 x2 x3 x4 x5 x7 0
noncomputable def X0_fits_L29 (x0 : Nat) (x1 : Nat) (x2 : Nat) (x3 : Int32) (x4 : Int32) (x5 : Int32) (x6 : Int32) (x7 : Int32) : JM Mem (((Int32 ⊕ (Int32)) ⊕ (Int32)) ⊕ (Int32 × Int32)) :=
  jb (jgetI 3 2 x1) fun v3 =>
  if v3 ≤ x7 then
    jinl (X0_fits_b72 x0 x1 x2 x3 x4 x5 x6)
  else
  if x6 = 0 then
    X0_fits_b63 x0 x1 x2 x3 x4 x5 x7
  else
  jb (jgetA 3 0 x1) fun v21 =>
  jb (jaldA 6 v21 x4) fun v22 =>
  jb (jaldA 5 v22 x5) fun v23 =>
  jb (jald mI 0 v23 x7) fun v24 =>
  if v24 = 0 then
    X0_fits_b64 x0 x1 x2 x3 x4 x5 x7 1
  else
    X0_fits_b63 x0 x1 x2 x3 x4 x5 x7
theorem j_X0_fits_L29 (D : va_G) (dA : Nat → ClassId) (x0 : Nat) (x1 : Nat) (x2 : Nat) (x3 : Int32) (x4 : Int32) (x5 : Int32) (x6 : Int32) (x7 : Int32) : J (PM D dA false) Y_X0_fits [(0, .ref x0), (1, .ref x1), (2, .ref x2), (3, .int x3), (4, .int x4), (5, .int x5), (6, .int x6), (7, .int x7)] [] 29 (X0_fits_L29 x0 x1 x2 x3 x4 x5 x6 x7) (FLoop (FLoop (FLoop (FRet injI) 3 (fun (t : Int32) => [(0, .ref x0), (1, .ref x1), (2, .ref x2), (3, .int x3), (4, .int t)])) 15 (fun (t : Int32) => [(0, .ref x0), (1, .ref x1), (2, .ref x2), (3, .int x3), (4, .int x4), (5, .int t)])) 29 (fun (t : Int32 × Int32) => [(0, .ref x0), (1, .ref x1), (2, .ref x2), (3, .int x3), (4, .int x4), (5, .int x5), (6, .int t.1), (7, .int t.2)])) := by
  unfold X0_fits_L29
  refine J_iload dX0_fits_29 7 rfl ?_
  refine J_aload_n dX0_fits_31 rfl 1 rfl ?_
  refine J_getI dX0_fits_32 fl_X0_196 rfl (fun v3 => ?_)
  refine J_icmp_ge (tgt := 72) dX0_fits_35 rfl ?_ ?_
  · refine J_inl ?_
    refine J_sub [0, 1, 2, 3, 4, 5, 6] rfl ?_
    exact j_X0_fits_b72 D dA x0 x1 x2 x3 x4 x5 x6
  refine J_iload dX0_fits_38 6 rfl ?_
  refine J_if_eq (tgt := 63) dX0_fits_40 rfl ?_ ?_
  · refine J_sub [0, 1, 2, 3, 4, 5, 7] rfl ?_
    exact j_X0_fits_b63 D dA x0 x1 x2 x3 x4 x5 x7
  refine J_aload_n dX0_fits_43 rfl 1 rfl ?_
  refine J_getA dX0_fits_44 fl_X0_256 rfl (fun v21 => ?_)
  refine J_iload dX0_fits_47 4 rfl ?_
  refine J_aald dX0_fits_49 rfl (by decide) (fun v22 => ?_)
  refine J_iload dX0_fits_50 5 rfl ?_
  refine J_aald dX0_fits_52 rfl (by decide) (fun v23 => ?_)
  refine J_iload dX0_fits_53 7 rfl ?_
  refine J_iald dX0_fits_55 (fun v24 => ?_)
  refine J_if_ne (tgt := 63) dX0_fits_56 rfl ?_ ?_
  · refine J_sub [0, 1, 2, 3, 4, 5, 7] rfl ?_
    exact j_X0_fits_b63 D dA x0 x1 x2 x3 x4 x5 x7
  refine J_iconst (v := 1) dX0_fits_59 (by decide) ?_
  refine J_goto (tgt := 64) dX0_fits_60 rfl ?_
  refine J_sub [0, 1, 2, 3, 4, 5, 7] rfl ?_
  exact j_X0_fits_b64 D dA x0 x1 x2 x3 x4 x5 x7 1
noncomputable def X0_fits_L15 (x0 : Nat) (x1 : Nat) (x2 : Nat) (x3 : Int32) (x4 : Int32) (x5 : Int32) : JM Mem ((Int32 ⊕ (Int32)) ⊕ (Int32)) :=
  if x3 < x5 then
    jinl (X0_fits_b191 x0 x1 x2 x3 x4)
  else
  jlet (x3 + 1) fun y2 =>
  jloop (fun (t : Int32 × Int32) => X0_fits_L29 x0 x1 x2 x3 x4 x5 t.1 t.2) (1, y2)
theorem j_X0_fits_L15 (D : va_G) (dA : Nat → ClassId) (x0 : Nat) (x1 : Nat) (x2 : Nat) (x3 : Int32) (x4 : Int32) (x5 : Int32) : J (PM D dA false) Y_X0_fits [(0, .ref x0), (1, .ref x1), (2, .ref x2), (3, .int x3), (4, .int x4), (5, .int x5)] [] 15 (X0_fits_L15 x0 x1 x2 x3 x4 x5) (FLoop (FLoop (FRet injI) 3 (fun (t : Int32) => [(0, .ref x0), (1, .ref x1), (2, .ref x2), (3, .int x3), (4, .int t)])) 15 (fun (t : Int32) => [(0, .ref x0), (1, .ref x1), (2, .ref x2), (3, .int x3), (4, .int x4), (5, .int t)])) := by
  unfold X0_fits_L15
  refine J_iload dX0_fits_15 5 rfl ?_
  refine J_iload_n dX0_fits_17 rfl 3 rfl ?_
  refine J_icmp_gt (tgt := 191) dX0_fits_18 rfl ?_ ?_
  · refine J_inl ?_
    refine J_sub [0, 1, 2, 3, 4] rfl ?_
    exact j_X0_fits_b191 D dA x0 x1 x2 x3 x4
  refine J_iconst (v := 1) dX0_fits_21 (by decide) ?_
  refine J_istore (env' := [(6, .int 1), (0, .ref x0), (1, .ref x1), (2, .ref x2), (3, .int x3), (4, .int x4), (5, .int x5)]) dX0_fits_22 (by decide) rfl ?_
  refine J_iload_n dX0_fits_24 rfl 4 rfl ?_
  refine J_iconst (v := 1) dX0_fits_25 (by decide) ?_
  refine J_iadd dX0_fits_26 ?_
  refine J_letI (fun y2 => ?_)
  refine J_istore (env' := [(7, .int y2), (6, .int 1), (0, .ref x0), (1, .ref x1), (2, .ref x2), (3, .int x3), (4, .int x4), (5, .int x5)]) dX0_fits_27 (by decide) rfl ?_
  refine J_loop (he := fun (t : Int32 × Int32) => [(0, .ref x0), (1, .ref x1), (2, .ref x2), (3, .int x3), (4, .int x4), (5, .int x5), (6, .int t.1), (7, .int t.2)]) [2, 3, 4, 5, 6, 7, 1, 0] rfl (fun t => ?_)
  exact j_X0_fits_L29 D dA x0 x1 x2 x3 x4 x5 t.1 t.2
noncomputable def X0_fits_L3 (x0 : Nat) (x1 : Nat) (x2 : Nat) (x3 : Int32) (x4 : Int32) : JM Mem (Int32 ⊕ (Int32)) :=
  if x3 ≤ x4 then
    jinl (jp 1)
  else
  jlet (x4 + 1) fun y1 =>
  jloop (fun (t : Int32) => X0_fits_L15 x0 x1 x2 x3 x4 t) y1
theorem j_X0_fits_L3 (D : va_G) (dA : Nat → ClassId) (x0 : Nat) (x1 : Nat) (x2 : Nat) (x3 : Int32) (x4 : Int32) : J (PM D dA false) Y_X0_fits [(0, .ref x0), (1, .ref x1), (2, .ref x2), (3, .int x3), (4, .int x4)] [] 3 (X0_fits_L3 x0 x1 x2 x3 x4) (FLoop (FRet injI) 3 (fun (t : Int32) => [(0, .ref x0), (1, .ref x1), (2, .ref x2), (3, .int x3), (4, .int t)])) := by
  unfold X0_fits_L3
  refine J_iload dX0_fits_3 4 rfl ?_
  refine J_iload_n dX0_fits_5 rfl 3 rfl ?_
  refine J_icmp_ge (tgt := 197) dX0_fits_6 rfl ?_ ?_
  · refine J_inl ?_
    refine J_iconst (v := 1) dX0_fits_197 (by decide) ?_
    exact J_zreturn1 dX0_fits_198 rfl
  refine J_iload dX0_fits_9 4 rfl ?_
  refine J_iconst (v := 1) dX0_fits_11 (by decide) ?_
  refine J_iadd dX0_fits_12 ?_
  refine J_letI (fun y1 => ?_)
  refine J_istore (env' := [(5, .int y1), (0, .ref x0), (1, .ref x1), (2, .ref x2), (3, .int x3), (4, .int x4)]) dX0_fits_13 (by decide) rfl ?_
  refine J_loop (he := fun (t : Int32) => [(0, .ref x0), (1, .ref x1), (2, .ref x2), (3, .int x3), (4, .int x4), (5, .int t)]) [1, 2, 3, 4, 5, 0] rfl (fun t => ?_)
  exact j_X0_fits_L15 D dA x0 x1 x2 x3 x4 t
noncomputable def f_X0_fits (x0 : Nat) (x1 : Nat) (x2 : Nat) (x3 : Int32) : JM Mem Int32 :=
  jloop (fun (t : Int32) => X0_fits_L3 x0 x1 x2 x3 t) 0
theorem j_X0_fits (D : va_G) (dA : Nat → ClassId) (x0 : Nat) (x1 : Nat) (x2 : Nat) (x3 : Int32) : J (PM D dA false) Y_X0_fits [(0, .ref x0), (1, .ref x1), (2, .ref x2), (3, .int x3)] [] 0 (f_X0_fits x0 x1 x2 x3) (FRet injI) := by
  unfold f_X0_fits
  refine J_iconst (v := 0) dX0_fits_0 (by decide) ?_
  refine J_istore (env' := [(4, .int 0), (0, .ref x0), (1, .ref x1), (2, .ref x2), (3, .int x3)]) dX0_fits_1 (by decide) rfl ?_
  refine J_loop (he := fun (t : Int32) => [(0, .ref x0), (1, .ref x1), (2, .ref x2), (3, .int x3), (4, .int t)]) [1, 2, 3, 4, 0] rfl (fun t => ?_)
  exact j_X0_fits_L3 D dA x0 x1 x2 x3 t
theorem i_X0_fits (x0 : Nat) (x1 : Nat) (x2 : Nat) (x3 : Int32) : Impl (ws_ yX0_fits cX0_fits 10 (some .boolean)) yX0_fits 4 false 0 0 [.ref x0, .ref x1, .ref x2, .int x3] (f_X0_fits x0 x1 x2 x3) injI := impl_of (plainFor_of_name (by decide)) (Nat.le_of_ble_eq_true rfl) (fun D dA => j_X0_fits D dA x0 x1 x2 x3)
theorem cw_X0_fits (Y : JY) (h : 5 ≤ Y.2.2.2.1) : JCw Y (ws_ yX0_fits cX0_fits 10 (some .boolean)) yX0_fits cX0_fits 10 (some .boolean) 4 := ⟨h, by decide, lw_meth q1332, q187, by decide, by decide⟩
theorem np_X0_fits : JNp yX0_fits.desc 3 := by decide +kernel
-- BracketRoom.seeks(LBracketRoom$World;LBracketRoom$World;IZ)V
abbrev Y_X0_seeks (dd : Nat) : JY := (cX0_seeks, yX0_seeks.cls, 6, dd + 1, yX0_seeks.name, none, [])
theorem np_X0_seeks : JNp yX0_seeks.desc 4 := by decide +kernel
noncomputable def X0_seeks_b161 (r_seeks : Nat → Nat → Nat → Int32 → Int32 → JM Mem Unit) (x0 : Nat) (x1 : Nat) (x2 : Nat) (x3 : Int32) (x4 : Int32) (x5 : Int32) : JM Mem (Unit ⊕ (Int32)) :=
  jcont (x5 + 1)
theorem j_X0_seeks_b161 (D : va_G) (dA : Nat → ClassId) (dd : Nat) (hdd : 5 ≤ dd) (r_seeks : Nat → Nat → Nat → Int32 → Int32 → JM Mem Unit) (h_seeks : ∀ a0 a1 a2 a3 a4, Impl (ws_ yX0_seeks cX0_seeks 6 none) yX0_seeks dd false 0 0 [.ref a0, .ref a1, .ref a2, .int a3, .int a4] (r_seeks a0 a1 a2 a3 a4) injU) (x0 : Nat) (x1 : Nat) (x2 : Nat) (x3 : Int32) (x4 : Int32) (x5 : Int32) : J (PM D dA false) (Y_X0_seeks dd) [(0, .ref x0), (1, .ref x1), (2, .ref x2), (3, .int x3), (4, .int x4), (5, .int x5)] [] 161 (X0_seeks_b161 r_seeks x0 x1 x2 x3 x4 x5) (FLoop (FRet injU) 22 (fun (t : Int32) => [(0, .ref x0), (1, .ref x1), (2, .ref x2), (3, .int x3), (4, .int x4), (5, .int t)])) := by
  unfold X0_seeks_b161
  refine J_iinc (v := x5 + 1) (env' := [(5, .int (x5 + 1)), (0, .ref x0), (1, .ref x1), (2, .ref x2), (3, .int x3), (4, .int x4)]) dX0_seeks_161 5 rfl rfl (Nat.le_of_ble_eq_true rfl) rfl ?_
  refine J_goto (tgt := 22) dX0_seeks_164 rfl ?_
  exact J_cont [1, 2, 3, 4, 5, 0] rfl
noncomputable def X0_seeks_b60 (r_seeks : Nat → Nat → Nat → Int32 → Int32 → JM Mem Unit) (x0 : Nat) : JM Mem Unit :=
  jb (jputZ 0 32 x0 1) fun _ =>
  jp ()
theorem j_X0_seeks_b60 (D : va_G) (dA : Nat → ClassId) (dd : Nat) (hdd : 5 ≤ dd) (r_seeks : Nat → Nat → Nat → Int32 → Int32 → JM Mem Unit) (h_seeks : ∀ a0 a1 a2 a3 a4, Impl (ws_ yX0_seeks cX0_seeks 6 none) yX0_seeks dd false 0 0 [.ref a0, .ref a1, .ref a2, .int a3, .int a4] (r_seeks a0 a1 a2 a3 a4) injU) (x0 : Nat) : J (PM D dA false) (Y_X0_seeks dd) [(0, .ref x0)] [] 60 (X0_seeks_b60 r_seeks x0) (FRet injU) := by
  unfold X0_seeks_b60
  refine J_aload_n dX0_seeks_60 rfl 0 rfl ?_
  refine J_iconst (v := 1) dX0_seeks_61 (by decide) ?_
  refine J_putZ dX0_seeks_62 ⟨fl_X0_448, Or.inl rfl⟩ rfl ?_
  exact J_return dX0_seeks_65 rfl
noncomputable def X0_seeks_b50 (r_seeks : Nat → Nat → Nat → Int32 → Int32 → JM Mem Unit) (x0 : Nat) (x1 : Nat) (x2 : Nat) (x3 : Int32) (x4 : Int32) (x5 : Int32) : JM Mem (Unit ⊕ (Int32)) :=
  jb (jgetI 0 29 x0) fun v4 =>
  if v4 = 200000 then
    jinl (X0_seeks_b60 r_seeks x0)
  else
  jb (jgetI 0 29 x0) fun v5 =>
  jb (jputI 0 29 x0 (v5 + 1)) fun _ =>
  jb (jgetA 0 27 x0) fun v6 =>
  jb (jaldA 5 v6 x3) fun v7 =>
  jb (jcall 3 x2 (f_X4_parts x2 x5 v7)) fun _ =>
  jb (jgetA 0 27 x0) fun v8 =>
  jb (jaldA 5 v8 x3) fun v9 =>
  jb (jgetA 0 16 x0) fun v10 =>
  jb (jcopy 0 v9 0 v10 0 5) fun _ =>
  jb (jgetA 0 28 x0) fun v11 =>
  jb (jaldA 8 v11 (x3 + 1)) fun v12 =>
  jb (jgetA 0 28 x0) fun v13 =>
  jb (jaldA 8 v13 x3) fun v14 =>
  jb (jcall 4 v12 (f_X5_copy v12 v14)) fun _ =>
  jb (jgetA 0 28 x0) fun v15 =>
  jb (jaldA 8 v15 (x3 + 1)) fun v16 =>
  jb (jgetA 0 16 x0) fun v17 =>
  jb (jcall 4 v16 (f_X5_add v16 x2 v17)) fun v18 =>
  if v18 = 0 then
    X0_seeks_b161 r_seeks x0 x1 x2 x3 x4 x5
  else
  jb (jcall 0 x0 (f_X0_fits x0 x1 x2 x3)) fun v19 =>
  if v19 = 0 then
    X0_seeks_b161 r_seeks x0 x1 x2 x3 x4 x5
  else
  jb (jcall 0 x0 (r_seeks x0 x1 x2 (x3 + 1) x4)) fun _ =>
  X0_seeks_b161 r_seeks x0 x1 x2 x3 x4 x5
theorem j_X0_seeks_b50 (D : va_G) (dA : Nat → ClassId) (dd : Nat) (hdd : 5 ≤ dd) (r_seeks : Nat → Nat → Nat → Int32 → Int32 → JM Mem Unit) (h_seeks : ∀ a0 a1 a2 a3 a4, Impl (ws_ yX0_seeks cX0_seeks 6 none) yX0_seeks dd false 0 0 [.ref a0, .ref a1, .ref a2, .int a3, .int a4] (r_seeks a0 a1 a2 a3 a4) injU) (x0 : Nat) (x1 : Nat) (x2 : Nat) (x3 : Int32) (x4 : Int32) (x5 : Int32) : J (PM D dA false) (Y_X0_seeks dd) [(0, .ref x0), (1, .ref x1), (2, .ref x2), (3, .int x3), (4, .int x4), (5, .int x5)] [] 50 (X0_seeks_b50 r_seeks x0 x1 x2 x3 x4 x5) (FLoop (FRet injU) 22 (fun (t : Int32) => [(0, .ref x0), (1, .ref x1), (2, .ref x2), (3, .int x3), (4, .int x4), (5, .int t)])) := by
  unfold X0_seeks_b50
  refine J_aload_n dX0_seeks_50 rfl 0 rfl ?_
  refine J_getI dX0_seeks_51 fl_X0_452 rfl (fun v4 => ?_)
  refine J_ldcw dX0_seeks_54 q1328 ?_
  refine J_icmp_ne (tgt := 66) dX0_seeks_57 rfl ?_ ?_
  · refine J_aload_n dX0_seeks_66 rfl 0 rfl ?_
    refine J_dup dX0_seeks_67 rfl ?_
    refine J_getI dX0_seeks_68 fl_X0_452 rfl (fun v5 => ?_)
    refine J_iconst (v := 1) dX0_seeks_71 (by decide) ?_
    refine J_iadd dX0_seeks_72 ?_
    refine J_putI dX0_seeks_73 ⟨fl_X0_452, Or.inl rfl⟩ rfl ?_
    refine J_aload_n dX0_seeks_76 rfl 2 rfl ?_
    refine J_iload dX0_seeks_77 5 rfl ?_
    refine J_aload_n dX0_seeks_79 rfl 0 rfl ?_
    refine J_getA dX0_seeks_80 fl_X0_105 rfl (fun v6 => ?_)
    refine J_iload_n dX0_seeks_83 rfl 3 rfl ?_
    refine J_aald dX0_seeks_84 rfl (by decide) (fun v7 => ?_)
    refine J_callVV (c := 3) (as := [.int x5, .ref v7]) dX0_seeks_85 (by decide) rfl (Nat.le_of_ble_eq_true rfl) (cw_X4_parts _ (Nat.succ_le_succ (Nat.le_trans (by decide) hdd))) q1044 q1045 q1046 q1047 np_X4_parts (i_X4_parts x2 x5 v7) jad_id rfl ?_
    refine J_aload_n dX0_seeks_88 rfl 0 rfl ?_
    refine J_getA dX0_seeks_89 fl_X0_105 rfl (fun v8 => ?_)
    refine J_iload_n dX0_seeks_92 rfl 3 rfl ?_
    refine J_aald dX0_seeks_93 rfl (by decide) (fun v9 => ?_)
    refine J_iconst (v := 0) dX0_seeks_94 (by decide) ?_
    refine J_aload_n dX0_seeks_95 rfl 0 rfl ?_
    refine J_getA dX0_seeks_96 fl_X0_66 rfl (fun v10 => ?_)
    refine J_iconst (v := 0) dX0_seeks_99 (by decide) ?_
    refine J_iconst (v := 5) dX0_seeks_100 (by decide) ?_
    refine J_copy (t := 0) dX0_seeks_101 (by decide) (Nat.le_of_ble_eq_true rfl) (Nat.succ_le_succ (Nat.zero_le _)) q743 q745 q744 q204 ?_
    refine J_aload_n dX0_seeks_104 rfl 0 rfl ?_
    refine J_getA dX0_seeks_105 fl_X0_108 rfl (fun v11 => ?_)
    refine J_iload_n dX0_seeks_108 rfl 3 rfl ?_
    refine J_iconst (v := 1) dX0_seeks_109 (by decide) ?_
    refine J_iadd dX0_seeks_110 ?_
    refine J_aald dX0_seeks_111 rfl (by decide) (fun v12 => ?_)
    refine J_aload_n dX0_seeks_112 rfl 0 rfl ?_
    refine J_getA dX0_seeks_113 fl_X0_108 rfl (fun v13 => ?_)
    refine J_iload_n dX0_seeks_116 rfl 3 rfl ?_
    refine J_aald dX0_seeks_117 rfl (by decide) (fun v14 => ?_)
    refine J_callVV (c := 4) (as := [.ref v14]) dX0_seeks_118 (by decide) rfl (Nat.le_of_ble_eq_true rfl) (cw_X5_copy _ (Nat.succ_le_succ (Nat.le_trans (by decide) hdd))) q1150 q1151 q1152 q1153 np_X5_copy (i_X5_copy v12 v14) jad_id rfl ?_
    refine J_aload_n dX0_seeks_121 rfl 0 rfl ?_
    refine J_getA dX0_seeks_122 fl_X0_108 rfl (fun v15 => ?_)
    refine J_iload_n dX0_seeks_125 rfl 3 rfl ?_
    refine J_iconst (v := 1) dX0_seeks_126 (by decide) ?_
    refine J_iadd dX0_seeks_127 ?_
    refine J_aald dX0_seeks_128 rfl (by decide) (fun v16 => ?_)
    refine J_aload_n dX0_seeks_129 rfl 2 rfl ?_
    refine J_aload_n dX0_seeks_130 rfl 0 rfl ?_
    refine J_getA dX0_seeks_131 fl_X0_66 rfl (fun v17 => ?_)
    refine J_callVI (c := 4) (as := [.ref x2, .ref v17]) dX0_seeks_134 (by decide) rfl (Nat.le_of_ble_eq_true rfl) (cw_X5_add _ (Nat.succ_le_succ (Nat.le_trans (by decide) hdd))) q1111 q1112 q1113 q1114 np_X5_add (i_X5_add v16 x2 v17) jad_id rfl (fun v18 => ?_)
    refine J_if_eq (tgt := 161) dX0_seeks_137 rfl ?_ ?_
    · refine J_sub [0, 1, 2, 3, 4, 5] rfl ?_
      exact j_X0_seeks_b161 D dA dd hdd r_seeks h_seeks x0 x1 x2 x3 x4 x5
    refine J_aload_n dX0_seeks_140 rfl 0 rfl ?_
    refine J_aload_n dX0_seeks_141 rfl 1 rfl ?_
    refine J_aload_n dX0_seeks_142 rfl 2 rfl ?_
    refine J_iload_n dX0_seeks_143 rfl 3 rfl ?_
    refine J_callVI (c := 0) (as := [.ref x1, .ref x2, .int x3]) dX0_seeks_144 (by decide) rfl (Nat.le_of_ble_eq_true rfl) (cw_X0_fits _ (Nat.succ_le_succ (Nat.le_trans (by decide) hdd))) q1329 q1331 qs47 q1332 np_X0_fits (i_X0_fits x0 x1 x2 x3) jad_id rfl (fun v19 => ?_)
    refine J_if_eq (tgt := 161) dX0_seeks_147 rfl ?_ ?_
    · refine J_sub [0, 1, 2, 3, 4, 5] rfl ?_
      exact j_X0_seeks_b161 D dA dd hdd r_seeks h_seeks x0 x1 x2 x3 x4 x5
    refine J_aload_n dX0_seeks_150 rfl 0 rfl ?_
    refine J_aload_n dX0_seeks_151 rfl 1 rfl ?_
    refine J_aload_n dX0_seeks_152 rfl 2 rfl ?_
    refine J_iload_n dX0_seeks_153 rfl 3 rfl ?_
    refine J_iconst (v := 1) dX0_seeks_154 (by decide) ?_
    refine J_iadd dX0_seeks_155 ?_
    refine J_iload dX0_seeks_156 4 rfl ?_
    refine J_callVV (c := 0) (as := [.ref x1, .ref x2, .int (x3 + 1), .int x4]) dX0_seeks_158 (by decide) rfl (Nat.le_of_ble_eq_true rfl) ⟨Nat.le_refl _, by decide, lw_meth q1327, q187, by decide, by decide⟩ q1324 q1326 qs46 q1327 np_X0_seeks (h_seeks x0 x1 x2 (x3 + 1) x4) jad_id rfl ?_
    refine J_sub [0, 1, 2, 3, 4, 5] rfl ?_
    exact j_X0_seeks_b161 D dA dd hdd r_seeks h_seeks x0 x1 x2 x3 x4 x5
  refine J_inl ?_
  refine J_sub [0] rfl ?_
  exact j_X0_seeks_b60 D dA dd hdd r_seeks h_seeks x0
noncomputable def X0_seeks_L22 (r_seeks : Nat → Nat → Nat → Int32 → Int32 → JM Mem Unit) (x0 : Nat) (x1 : Nat) (x2 : Nat) (x3 : Int32) (x4 : Int32) (x5 : Int32) : JM Mem (Unit ⊕ (Int32)) :=
  jb (jcall 3 x2 (f_X4_vectors x2)) fun v2 =>
  if v2 ≤ x5 then
    jinl (jp ())
  else
  jb (jgetI 0 32 x0) fun v3 =>
  if v3 = 0 then
    if x4 = 0 then
      X0_seeks_b50 r_seeks x0 x1 x2 x3 x4 x5
    else
    jb (jgetI 0 31 x0) fun v20 =>
    if 0 < v20 then
      jinl (jp ())
    else
      X0_seeks_b50 r_seeks x0 x1 x2 x3 x4 x5
  else
    jinl (jp ())
theorem j_X0_seeks_L22 (D : va_G) (dA : Nat → ClassId) (dd : Nat) (hdd : 5 ≤ dd) (r_seeks : Nat → Nat → Nat → Int32 → Int32 → JM Mem Unit) (h_seeks : ∀ a0 a1 a2 a3 a4, Impl (ws_ yX0_seeks cX0_seeks 6 none) yX0_seeks dd false 0 0 [.ref a0, .ref a1, .ref a2, .int a3, .int a4] (r_seeks a0 a1 a2 a3 a4) injU) (x0 : Nat) (x1 : Nat) (x2 : Nat) (x3 : Int32) (x4 : Int32) (x5 : Int32) : J (PM D dA false) (Y_X0_seeks dd) [(0, .ref x0), (1, .ref x1), (2, .ref x2), (3, .int x3), (4, .int x4), (5, .int x5)] [] 22 (X0_seeks_L22 r_seeks x0 x1 x2 x3 x4 x5) (FLoop (FRet injU) 22 (fun (t : Int32) => [(0, .ref x0), (1, .ref x1), (2, .ref x2), (3, .int x3), (4, .int x4), (5, .int t)])) := by
  unfold X0_seeks_L22
  refine J_iload dX0_seeks_22 5 rfl ?_
  refine J_aload_n dX0_seeks_24 rfl 2 rfl ?_
  refine J_callVI (c := 3) (as := []) dX0_seeks_25 (by decide) rfl (Nat.le_of_ble_eq_true rfl) (cw_X4_vectors _ (Nat.succ_le_succ (Nat.le_trans (by decide) hdd))) q1040 q1041 q1042 q1043 np_X4_vectors (i_X4_vectors x2) jad_id rfl (fun v2 => ?_)
  refine J_icmp_ge (tgt := 167) dX0_seeks_28 rfl ?_ ?_
  · refine J_inl ?_
    exact J_return dX0_seeks_167 rfl
  refine J_aload_n dX0_seeks_31 rfl 0 rfl ?_
  refine J_getI dX0_seeks_32 fl_X0_448 rfl (fun v3 => ?_)
  refine J_if_ne (tgt := 167) dX0_seeks_35 rfl ?_ ?_
  · refine J_inl ?_
    exact J_return dX0_seeks_167 rfl
  refine J_iload dX0_seeks_38 4 rfl ?_
  refine J_if_eq (tgt := 50) dX0_seeks_40 rfl ?_ ?_
  · refine J_sub [0, 1, 2, 3, 4, 5] rfl ?_
    exact j_X0_seeks_b50 D dA dd hdd r_seeks h_seeks x0 x1 x2 x3 x4 x5
  refine J_aload_n dX0_seeks_43 rfl 0 rfl ?_
  refine J_getI dX0_seeks_44 fl_X0_445 rfl (fun v20 => ?_)
  refine J_if_gt (tgt := 167) dX0_seeks_47 rfl ?_ ?_
  · refine J_inl ?_
    exact J_return dX0_seeks_167 rfl
  refine J_sub [0, 1, 2, 3, 4, 5] rfl ?_
  exact j_X0_seeks_b50 D dA dd hdd r_seeks h_seeks x0 x1 x2 x3 x4 x5
noncomputable def e_X0_seeks (r_seeks : Nat → Nat → Nat → Int32 → Int32 → JM Mem Unit) (x0 : Nat) (x1 : Nat) (x2 : Nat) (x3 : Int32) (x4 : Int32) : JM Mem Unit :=
  jb (jgetI 3 2 x1) fun v1 =>
  if x3 = v1 then
    jb (jgetI 0 31 x0) fun v21 =>
    jb (jputI 0 31 x0 (v21 + 1)) fun _ =>
    jp ()
  else
    jloop (fun (t : Int32) => X0_seeks_L22 r_seeks x0 x1 x2 x3 x4 t) 1
theorem j_X0_seeks (D : va_G) (dA : Nat → ClassId) (dd : Nat) (hdd : 5 ≤ dd) (r_seeks : Nat → Nat → Nat → Int32 → Int32 → JM Mem Unit) (h_seeks : ∀ a0 a1 a2 a3 a4, Impl (ws_ yX0_seeks cX0_seeks 6 none) yX0_seeks dd false 0 0 [.ref a0, .ref a1, .ref a2, .int a3, .int a4] (r_seeks a0 a1 a2 a3 a4) injU) (x0 : Nat) (x1 : Nat) (x2 : Nat) (x3 : Int32) (x4 : Int32) : J (PM D dA false) (Y_X0_seeks dd) [(0, .ref x0), (1, .ref x1), (2, .ref x2), (3, .int x3), (4, .int x4)] [] 0 (e_X0_seeks r_seeks x0 x1 x2 x3 x4) (FRet injU) := by
  unfold e_X0_seeks
  refine J_iload_n dX0_seeks_0 rfl 3 rfl ?_
  refine J_aload_n dX0_seeks_1 rfl 1 rfl ?_
  refine J_getI dX0_seeks_2 fl_X0_196 rfl (fun v1 => ?_)
  refine J_icmp_ne (tgt := 19) dX0_seeks_5 rfl ?_ ?_
  · refine J_iconst (v := 1) dX0_seeks_19 (by decide) ?_
    refine J_istore (env' := [(5, .int 1), (0, .ref x0), (1, .ref x1), (2, .ref x2), (3, .int x3), (4, .int x4)]) dX0_seeks_20 (Nat.le_of_ble_eq_true rfl) rfl ?_
    refine J_loop (he := fun (t : Int32) => [(0, .ref x0), (1, .ref x1), (2, .ref x2), (3, .int x3), (4, .int x4), (5, .int t)]) [1, 2, 3, 4, 5, 0] rfl (fun t => ?_)
    exact j_X0_seeks_L22 D dA dd hdd r_seeks h_seeks x0 x1 x2 x3 x4 t
  refine J_aload_n dX0_seeks_8 rfl 0 rfl ?_
  refine J_dup dX0_seeks_9 rfl ?_
  refine J_getI dX0_seeks_10 fl_X0_445 rfl (fun v21 => ?_)
  refine J_iconst (v := 1) dX0_seeks_13 (by decide) ?_
  refine J_iadd dX0_seeks_14 ?_
  refine J_putI dX0_seeks_15 ⟨fl_X0_445, Or.inl rfl⟩ rfl ?_
  exact J_return dX0_seeks_18 rfl
noncomputable def f_X0_seeks : Nat → Nat → Nat → Nat → Int32 → Int32 → JM Mem Unit
  | 0 => fun _ _ _ _ _ => jfail
  | n + 1 => fun x0 x1 x2 x3 x4 => e_X0_seeks (f_X0_seeks n) x0 x1 x2 x3 x4
theorem i_X0_seeks (n : Nat) : ∀ (x0 : Nat) (x1 : Nat) (x2 : Nat) (x3 : Int32) (x4 : Int32), Impl (ws_ yX0_seeks cX0_seeks 6 none) yX0_seeks (5 + n) false 0 0 [.ref x0, .ref x1, .ref x2, .int x3, .int x4] (f_X0_seeks n x0 x1 x2 x3 x4) injU := by
  induction n with
  | zero => intro x0 x1 x2 x3 x4 l D dA M r M' hst hb hf; cases hf
  | succ n ih => intro x0 x1 x2 x3 x4; exact impl_of (plainFor_of_name (by decide)) (Nat.le_of_ble_eq_true rfl) (fun D dA => j_X0_seeks D dA (5 + n) (Nat.le_add_right _ _) (f_X0_seeks n) ih x0 x1 x2 x3 x4)
theorem cw_X0_seeks (Y : JY) (h : 14 ≤ Y.2.2.2.1) : JCw Y (ws_ yX0_seeks cX0_seeks 6 none) yX0_seeks cX0_seeks 6 none (5 + 8) := ⟨h, by decide, lw_meth q1327, q187, by decide, by decide⟩
-- BracketRoom.maps(LBracketRoom$World;LBracketRoom$World;Z)I
abbrev Y_X0_maps_2 : JY := (cX0_maps_2, yX0_maps_2.cls, 4, 14, yX0_maps_2.name, (some .int), [])
noncomputable def f_X0_maps_2 (x0 : Nat) (x1 : Nat) (x2 : Nat) (x3 : Int32) : JM Mem Int32 :=
  jb (jputI 0 29 x0 0) fun _ =>
  jb (jputI 0 31 x0 0) fun _ =>
  jb (jputZ 0 32 x0 0) fun _ =>
  jb (jcall 3 x1 (f_X4_isLike x1 x2)) fun v1 =>
  if v1 = 0 then
    jp 0
  else
  jb (jgetA 0 28 x0) fun v2 =>
  jb (jaldA 8 v2 0) fun v3 =>
  jb (jputI 4 2 v3 0) fun _ =>
  jb (jcall 0 x0 (f_X0_seeks 8 x0 x1 x2 0 x3)) fun _ =>
  jb (jgetI 0 31 x0) fun v4 =>
  jp v4
theorem j_X0_maps_2 (D : va_G) (dA : Nat → ClassId) (x0 : Nat) (x1 : Nat) (x2 : Nat) (x3 : Int32) : J (PM D dA false) Y_X0_maps_2 [(0, .ref x0), (1, .ref x1), (2, .ref x2), (3, .int x3)] [] 0 (f_X0_maps_2 x0 x1 x2 x3) (FRet injI) := by
  unfold f_X0_maps_2
  refine J_aload_n dX0_maps_2_0 rfl 0 rfl ?_
  refine J_iconst (v := 0) dX0_maps_2_1 (by decide) ?_
  refine J_putI dX0_maps_2_2 ⟨fl_X0_452, Or.inl rfl⟩ rfl ?_
  refine J_aload_n dX0_maps_2_5 rfl 0 rfl ?_
  refine J_iconst (v := 0) dX0_maps_2_6 (by decide) ?_
  refine J_putI dX0_maps_2_7 ⟨fl_X0_445, Or.inl rfl⟩ rfl ?_
  refine J_aload_n dX0_maps_2_10 rfl 0 rfl ?_
  refine J_iconst (v := 0) dX0_maps_2_11 (by decide) ?_
  refine J_putZ dX0_maps_2_12 ⟨fl_X0_448, Or.inl rfl⟩ rfl ?_
  refine J_aload_n dX0_maps_2_15 rfl 1 rfl ?_
  refine J_aload_n dX0_maps_2_16 rfl 2 rfl ?_
  refine J_callVI (c := 3) (as := [.ref x2]) dX0_maps_2_17 (by decide) rfl (Nat.le_of_ble_eq_true rfl) (cw_X4_isLike _ (by decide)) q1320 q1321 q1322 q1323 np_X4_isLike (i_X4_isLike x1 x2) jad_id rfl (fun v1 => ?_)
  refine J_if_ne (tgt := 25) dX0_maps_2_20 rfl ?_ ?_
  · refine J_aload_n dX0_maps_2_25 rfl 0 rfl ?_
    refine J_getA dX0_maps_2_26 fl_X0_108 rfl (fun v2 => ?_)
    refine J_iconst (v := 0) dX0_maps_2_29 (by decide) ?_
    refine J_aald dX0_maps_2_30 rfl (by decide) (fun v3 => ?_)
    refine J_iconst (v := 0) dX0_maps_2_31 (by decide) ?_
    refine J_putI dX0_maps_2_32 ⟨fl_X0_302, Or.inl rfl⟩ rfl ?_
    refine J_aload_n dX0_maps_2_35 rfl 0 rfl ?_
    refine J_aload_n dX0_maps_2_36 rfl 1 rfl ?_
    refine J_aload_n dX0_maps_2_37 rfl 2 rfl ?_
    refine J_iconst (v := 0) dX0_maps_2_38 (by decide) ?_
    refine J_iload_n dX0_maps_2_39 rfl 3 rfl ?_
    refine J_callVV (c := 0) (as := [.ref x1, .ref x2, .int 0, .int x3]) dX0_maps_2_40 (by decide) rfl (Nat.le_of_ble_eq_true rfl) (cw_X0_seeks _ (by decide)) q1324 q1326 qs46 q1327 np_X0_seeks (i_X0_seeks 8 x0 x1 x2 0 x3) jad_id rfl ?_
    refine J_aload_n dX0_maps_2_43 rfl 0 rfl ?_
    refine J_getI dX0_maps_2_44 fl_X0_445 rfl (fun v4 => ?_)
    exact J_ireturn dX0_maps_2_47 rfl
  refine J_iconst (v := 0) dX0_maps_2_23 (by decide) ?_
  exact J_ireturn dX0_maps_2_24 rfl
theorem i_X0_maps_2 (x0 : Nat) (x1 : Nat) (x2 : Nat) (x3 : Int32) : Impl (ws_ yX0_maps_2 cX0_maps_2 4 (some .int)) yX0_maps_2 14 false 0 0 [.ref x0, .ref x1, .ref x2, .int x3] (f_X0_maps_2 x0 x1 x2 x3) injI := impl_of (plainFor_of_name (by decide)) (Nat.le_of_ble_eq_true rfl) (fun D dA => j_X0_maps_2 D dA x0 x1 x2 x3)
theorem cw_X0_maps_2 (Y : JY) (h : 15 ≤ Y.2.2.2.1) : JCw Y (ws_ yX0_maps_2 cX0_maps_2 4 (some .int)) yX0_maps_2 cX0_maps_2 4 (some .int) 14 := ⟨h, by decide, lw_meth q1319, q187, by decide, by decide⟩
theorem np_X0_maps_2 : JNp yX0_maps_2.desc 3 := by decide +kernel
-- BracketRoom.maps()I
abbrev Y_X0_maps : JY := (cX0_maps, yX0_maps.cls, 2, 15, yX0_maps.name, (some .int), [])
noncomputable def f_X0_maps (x0 : Nat) : JM Mem Int32 :=
  jb (jgetA 0 2 x0) fun v1 =>
  jb (jgetA 0 2 x0) fun v2 =>
  jb (jcall 0 x0 (f_X0_maps_2 x0 v1 v2 0)) fun v3 =>
  jb (jgetI 0 29 x0) fun v4 =>
  jb (jputI 0 30 x0 v4) fun _ =>
  jb (jgetI 0 32 x0) fun v5 =>
  if v5 = 0 then
    jb (jcall 0 x0 (f_X0_gives x0 v3)) fun v6 =>
    jp v6
  else
  jb (jcall 0 x0 (f_X0_none x0 9)) fun v7 =>
  jp v7
theorem j_X0_maps (D : va_G) (dA : Nat → ClassId) (x0 : Nat) : J (PM D dA false) Y_X0_maps [(0, .ref x0)] [] 0 (f_X0_maps x0) (FRet injI) := by
  unfold f_X0_maps
  refine J_aload_n dX0_maps_0 rfl 0 rfl ?_
  refine J_aload_n dX0_maps_1 rfl 0 rfl ?_
  refine J_getA dX0_maps_2 fl_X0_30 rfl (fun v1 => ?_)
  refine J_aload_n dX0_maps_5 rfl 0 rfl ?_
  refine J_getA dX0_maps_6 fl_X0_30 rfl (fun v2 => ?_)
  refine J_iconst (v := 0) dX0_maps_9 (by decide) ?_
  refine J_callVI (c := 0) (as := [.ref v1, .ref v2, .int 0]) dX0_maps_10 (by decide) rfl (Nat.le_of_ble_eq_true rfl) (cw_X0_maps_2 _ (by decide)) q1316 q1318 qs45 q1319 np_X0_maps_2 (i_X0_maps_2 x0 v1 v2 0) jad_id rfl (fun v3 => ?_)
  refine J_istore_n (env' := [(1, .int v3), (0, .ref x0)]) dX0_maps_13 rfl (by decide) rfl ?_
  refine J_aload_n dX0_maps_14 rfl 1 rfl ?_
  refine J_aload_n dX0_maps_15 rfl 1 rfl ?_
  refine J_getI dX0_maps_16 fl_X0_452 rfl (fun v4 => ?_)
  refine J_putI dX0_maps_19 ⟨fl_X0_112, Or.inl rfl⟩ rfl ?_
  refine J_aload_n dX0_maps_22 rfl 1 rfl ?_
  refine J_getI dX0_maps_23 fl_X0_448 rfl (fun v5 => ?_)
  refine J_if_eq (tgt := 38) dX0_maps_26 rfl ?_ ?_
  · refine J_aload_n dX0_maps_38 rfl 1 rfl ?_
    refine J_iload_n dX0_maps_39 rfl 0 rfl ?_
    refine J_callVI (c := 0) (as := [.int v3]) dX0_maps_40 (by decide) rfl (Nat.le_of_ble_eq_true rfl) (cw_X0_gives _ (by decide)) q944 q946 qs9 q947 np_X0_gives (i_X0_gives x0 v3) jad_id rfl (fun v6 => ?_)
    exact J_ireturn dX0_maps_43 rfl
  refine J_aload_n dX0_maps_29 rfl 1 rfl ?_
  refine J_bipush (v := 9) dX0_maps_30 (by decide) ?_
  refine J_callVI (c := 0) (as := [.int 9]) dX0_maps_32 (by decide) rfl (Nat.le_of_ble_eq_true rfl) (cw_X0_none _ (by decide)) q729 q731 qs3 q732 np_X0_none (i_X0_none x0 9) jad_id rfl (fun v7 => ?_)
  refine J_goto (tgt := 43) dX0_maps_35 rfl ?_
  exact J_ireturn dX0_maps_43 rfl
theorem i_X0_maps (x0 : Nat) : Impl (ws_ yX0_maps cX0_maps 2 (some .int)) yX0_maps 15 false 0 0 [.ref x0] (f_X0_maps x0) injI := impl_of (plainFor_of_name (by decide)) (Nat.le_of_ble_eq_true rfl) (fun D dA => j_X0_maps D dA x0)
theorem cw_X0_maps (Y : JY) (h : 16 ≤ Y.2.2.2.1) : JCw Y (ws_ yX0_maps cX0_maps 2 (some .int)) yX0_maps cX0_maps 2 (some .int) 15 := ⟨h, by decide, lw_meth q1315, q187, by decide, by decide⟩
theorem np_X0_maps : JNp yX0_maps.desc 0 := by decide +kernel
-- BracketRoom.orSpent(I)I
abbrev Y_X0_orSpent : JY := (cX0_orSpent, yX0_orSpent.cls, 2, 2, yX0_orSpent.name, (some .int), [])
noncomputable def X0_orSpent_b29 (x0 : Nat) (x1 : Int32) : JM Mem Int32 :=
  jb (jcall 0 x0 (f_X0_gives x0 x1)) fun v3 =>
  jp v3
theorem j_X0_orSpent_b29 (D : va_G) (dA : Nat → ClassId) (x0 : Nat) (x1 : Int32) : J (PM D dA false) Y_X0_orSpent [(0, .ref x0), (1, .int x1)] [] 29 (X0_orSpent_b29 x0 x1) (FRet injI) := by
  unfold X0_orSpent_b29
  refine J_aload_n dX0_orSpent_29 rfl 0 rfl ?_
  refine J_iload_n dX0_orSpent_30 rfl 1 rfl ?_
  refine J_callVI (c := 0) (as := [.int x1]) dX0_orSpent_31 (by decide) rfl (Nat.le_of_ble_eq_true rfl) (cw_X0_gives _ (by decide)) q944 q946 qs9 q947 np_X0_gives (i_X0_gives x0 x1) jad_id rfl (fun v3 => ?_)
  exact J_ireturn dX0_orSpent_34 rfl
noncomputable def f_X0_orSpent (x0 : Nat) (x1 : Int32) : JM Mem Int32 :=
  jb (jgetI 0 29 x0) fun v1 =>
  jb (jputI 0 30 x0 v1) fun _ =>
  jb (jgetI 0 32 x0) fun v2 =>
  if v2 = 0 then
    X0_orSpent_b29 x0 x1
  else
  if x1 = 1 then
    X0_orSpent_b29 x0 x1
  else
  jb (jcall 0 x0 (f_X0_none x0 9)) fun v4 =>
  jp v4
theorem j_X0_orSpent (D : va_G) (dA : Nat → ClassId) (x0 : Nat) (x1 : Int32) : J (PM D dA false) Y_X0_orSpent [(0, .ref x0), (1, .int x1)] [] 0 (f_X0_orSpent x0 x1) (FRet injI) := by
  unfold f_X0_orSpent
  refine J_aload_n dX0_orSpent_0 rfl 0 rfl ?_
  refine J_aload_n dX0_orSpent_1 rfl 0 rfl ?_
  refine J_getI dX0_orSpent_2 fl_X0_452 rfl (fun v1 => ?_)
  refine J_putI dX0_orSpent_5 ⟨fl_X0_112, Or.inl rfl⟩ rfl ?_
  refine J_aload_n dX0_orSpent_8 rfl 0 rfl ?_
  refine J_getI dX0_orSpent_9 fl_X0_448 rfl (fun v2 => ?_)
  refine J_if_eq (tgt := 29) dX0_orSpent_12 rfl ?_ ?_
  · refine J_sub [0, 1] rfl ?_
    exact j_X0_orSpent_b29 D dA x0 x1
  refine J_iload_n dX0_orSpent_15 rfl 1 rfl ?_
  refine J_iconst (v := 1) dX0_orSpent_16 (by decide) ?_
  refine J_icmp_eq (tgt := 29) dX0_orSpent_17 rfl ?_ ?_
  · refine J_sub [0, 1] rfl ?_
    exact j_X0_orSpent_b29 D dA x0 x1
  refine J_aload_n dX0_orSpent_20 rfl 0 rfl ?_
  refine J_bipush (v := 9) dX0_orSpent_21 (by decide) ?_
  refine J_callVI (c := 0) (as := [.int 9]) dX0_orSpent_23 (by decide) rfl (Nat.le_of_ble_eq_true rfl) (cw_X0_none _ (by decide)) q729 q731 qs3 q732 np_X0_none (i_X0_none x0 9) jad_id rfl (fun v4 => ?_)
  refine J_goto (tgt := 34) dX0_orSpent_26 rfl ?_
  exact J_ireturn dX0_orSpent_34 rfl
theorem i_X0_orSpent (x0 : Nat) (x1 : Int32) : Impl (ws_ yX0_orSpent cX0_orSpent 2 (some .int)) yX0_orSpent 2 false 0 0 [.ref x0, .int x1] (f_X0_orSpent x0 x1) injI := impl_of (plainFor_of_name (by decide)) (Nat.le_of_ble_eq_true rfl) (fun D dA => j_X0_orSpent D dA x0 x1)
theorem cw_X0_orSpent (Y : JY) (h : 3 ≤ Y.2.2.2.1) : JCw Y (ws_ yX0_orSpent cX0_orSpent 2 (some .int)) yX0_orSpent cX0_orSpent 2 (some .int) 2 := ⟨h, by decide, lw_meth q1340, q187, by decide, by decide⟩
theorem np_X0_orSpent : JNp yX0_orSpent.desc 1 := by decide +kernel
-- BracketRoom.sameAs(I)I
abbrev Y_X0_sameAs : JY := (cX0_sameAs, yX0_sameAs.cls, 3, 15, yX0_sameAs.name, (some .int), [])
noncomputable def f_X0_sameAs (x0 : Nat) (x1 : Int32) : JM Mem Int32 :=
  jb (jcall 0 x0 (f_X0_noShelf x0 x1)) fun v1 =>
  if v1 ≤ 0 then
    jb (jgetA 0 2 x0) fun v2 =>
    jb (jgetA 0 4 x0) fun v3 =>
    jb (jaldA 7 v3 x1) fun v4 =>
    jb (jcall 0 x0 (f_X0_maps_2 x0 v2 v4 1)) fun v5 =>
    jb (jcall 0 x0 (f_X0_orSpent x0 v5)) fun v6 =>
    jp v6
  else
  jb (jcall 0 x0 (f_X0_none x0 v1)) fun v7 =>
  jp v7
theorem j_X0_sameAs (D : va_G) (dA : Nat → ClassId) (x0 : Nat) (x1 : Int32) : J (PM D dA false) Y_X0_sameAs [(0, .ref x0), (1, .int x1)] [] 0 (f_X0_sameAs x0 x1) (FRet injI) := by
  unfold f_X0_sameAs
  refine J_aload_n dX0_sameAs_0 rfl 0 rfl ?_
  refine J_iload_n dX0_sameAs_1 rfl 1 rfl ?_
  refine J_callVI (c := 0) (as := [.int x1]) dX0_sameAs_2 (by decide) rfl (Nat.le_of_ble_eq_true rfl) (cw_X0_noShelf _ (by decide)) q1087 q1089 qs17 q1090 np_X0_noShelf (i_X0_noShelf x0 x1) jad_id rfl (fun v1 => ?_)
  refine J_istore_n (env' := [(2, .int v1), (0, .ref x0), (1, .int x1)]) dX0_sameAs_5 rfl (by decide) rfl ?_
  refine J_iload_n dX0_sameAs_6 rfl 0 rfl ?_
  refine J_if_le (tgt := 18) dX0_sameAs_7 rfl ?_ ?_
  · refine J_aload_n dX0_sameAs_18 rfl 1 rfl ?_
    refine J_aload_n dX0_sameAs_19 rfl 1 rfl ?_
    refine J_aload_n dX0_sameAs_20 rfl 1 rfl ?_
    refine J_getA dX0_sameAs_21 fl_X0_30 rfl (fun v2 => ?_)
    refine J_aload_n dX0_sameAs_24 rfl 1 rfl ?_
    refine J_getA dX0_sameAs_25 fl_X0_37 rfl (fun v3 => ?_)
    refine J_iload_n dX0_sameAs_28 rfl 2 rfl ?_
    refine J_aald dX0_sameAs_29 rfl (by decide) (fun v4 => ?_)
    refine J_iconst (v := 1) dX0_sameAs_30 (by decide) ?_
    refine J_callVI (c := 0) (as := [.ref v2, .ref v4, .int 1]) dX0_sameAs_31 (by decide) rfl (Nat.le_of_ble_eq_true rfl) (cw_X0_maps_2 _ (by decide)) q1316 q1318 qs45 q1319 np_X0_maps_2 (i_X0_maps_2 x0 v2 v4 1) jad_id rfl (fun v5 => ?_)
    refine J_callVI (c := 0) (as := [.int v5]) dX0_sameAs_34 (by decide) rfl (Nat.le_of_ble_eq_true rfl) (cw_X0_orSpent _ (by decide)) q1337 q1339 qs48 q1340 np_X0_orSpent (i_X0_orSpent x0 v5) jad_id rfl (fun v6 => ?_)
    exact J_ireturn dX0_sameAs_37 rfl
  refine J_aload_n dX0_sameAs_10 rfl 1 rfl ?_
  refine J_iload_n dX0_sameAs_11 rfl 0 rfl ?_
  refine J_callVI (c := 0) (as := [.int v1]) dX0_sameAs_12 (by decide) rfl (Nat.le_of_ble_eq_true rfl) (cw_X0_none _ (by decide)) q729 q731 qs3 q732 np_X0_none (i_X0_none x0 v1) jad_id rfl (fun v7 => ?_)
  refine J_goto (tgt := 37) dX0_sameAs_15 rfl ?_
  exact J_ireturn dX0_sameAs_37 rfl
theorem i_X0_sameAs (x0 : Nat) (x1 : Int32) : Impl (ws_ yX0_sameAs cX0_sameAs 3 (some .int)) yX0_sameAs 15 false 0 0 [.ref x0, .int x1] (f_X0_sameAs x0 x1) injI := impl_of (plainFor_of_name (by decide)) (Nat.le_of_ble_eq_true rfl) (fun D dA => j_X0_sameAs D dA x0 x1)
theorem cw_X0_sameAs (Y : JY) (h : 16 ≤ Y.2.2.2.1) : JCw Y (ws_ yX0_sameAs cX0_sameAs 3 (some .int)) yX0_sameAs cX0_sameAs 3 (some .int) 15 := ⟨h, by decide, lw_meth q1336, q187, by decide, by decide⟩
theorem np_X0_sameAs : JNp yX0_sameAs.desc 1 := by decide +kernel
-- BracketRoom.tries()I
abbrev Y_X0_tries : JY := (cX0_tries, yX0_tries.cls, 1, 2, yX0_tries.name, (some .int), [])
noncomputable def f_X0_tries (x0 : Nat) : JM Mem Int32 :=
  jb (jgetI 0 30 x0) fun v1 =>
  if v1 = (-1) then
    jb (jcall 0 x0 (f_X0_none x0 8)) fun v4 =>
    jp v4
  else
  jb (jgetI 0 30 x0) fun v2 =>
  jb (jcall 0 x0 (f_X0_gives x0 v2)) fun v3 =>
  jp v3
theorem j_X0_tries (D : va_G) (dA : Nat → ClassId) (x0 : Nat) : J (PM D dA false) Y_X0_tries [(0, .ref x0)] [] 0 (f_X0_tries x0) (FRet injI) := by
  unfold f_X0_tries
  refine J_aload_n dX0_tries_0 rfl 0 rfl ?_
  refine J_getI dX0_tries_1 fl_X0_112 rfl (fun v1 => ?_)
  refine J_iconst (v := (-1)) dX0_tries_4 (by decide) ?_
  refine J_icmp_ne (tgt := 17) dX0_tries_5 rfl ?_ ?_
  · refine J_aload_n dX0_tries_17 rfl 0 rfl ?_
    refine J_aload_n dX0_tries_18 rfl 0 rfl ?_
    refine J_getI dX0_tries_19 fl_X0_112 rfl (fun v2 => ?_)
    refine J_callVI (c := 0) (as := [.int v2]) dX0_tries_22 (by decide) rfl (Nat.le_of_ble_eq_true rfl) (cw_X0_gives _ (by decide)) q944 q946 qs9 q947 np_X0_gives (i_X0_gives x0 v2) jad_id rfl (fun v3 => ?_)
    exact J_ireturn dX0_tries_25 rfl
  refine J_aload_n dX0_tries_8 rfl 0 rfl ?_
  refine J_bipush (v := 8) dX0_tries_9 (by decide) ?_
  refine J_callVI (c := 0) (as := [.int 8]) dX0_tries_11 (by decide) rfl (Nat.le_of_ble_eq_true rfl) (cw_X0_none _ (by decide)) q729 q731 qs3 q732 np_X0_none (i_X0_none x0 8) jad_id rfl (fun v4 => ?_)
  refine J_goto (tgt := 25) dX0_tries_14 rfl ?_
  exact J_ireturn dX0_tries_25 rfl
theorem i_X0_tries (x0 : Nat) : Impl (ws_ yX0_tries cX0_tries 1 (some .int)) yX0_tries 2 false 0 0 [.ref x0] (f_X0_tries x0) injI := impl_of (plainFor_of_name (by decide)) (Nat.le_of_ble_eq_true rfl) (fun D dA => j_X0_tries D dA x0)
theorem cw_X0_tries (Y : JY) (h : 3 ≤ Y.2.2.2.1) : JCw Y (ws_ yX0_tries cX0_tries 1 (some .int)) yX0_tries cX0_tries 1 (some .int) 2 := ⟨h, by decide, lw_meth q1344, q187, by decide, by decide⟩
theorem np_X0_tries : JNp yX0_tries.desc 0 := by decide +kernel
-- BracketRoom.invariant(LBracketRoom$World;I)I
abbrev Y_X0_invariant : JY := (cX0_invariant, yX0_invariant.cls, 3, 8, yX0_invariant.name, (some .int), [])
noncomputable def f_X0_invariant (x0 : Nat) (x1 : Nat) (x2 : Int32) : JM Mem Int32 :=
  jsw x2 0 [
    jb (jgetI 3 1 x1) fun v2 =>
    jb (jgetI 3 2 x1) fun v3 =>
    jp ((10 * v2) + v3),
    jb (jcall 0 x0 (f_X0_derivedOf x0 x1 1)) fun v4 =>
    jp v4,
    jb (jcall 0 x0 (f_X0_derivedOf x0 x1 2)) fun v5 =>
    jp v5,
    jb (jcall 0 x0 (f_X0_lowerOf x0 x1 2)) fun v6 =>
    jp v6,
    jb (jcall 0 x0 (f_X0_centreOf x0 x1)) fun v7 =>
    jp v7,
    jb (jcall 0 x0 (f_X0_derivationsOf x0 x1)) fun v8 =>
    jp v8,
    jb (jcall 0 x0 (f_X0_formOf x0 x1)) fun v9 =>
    jp v9,
    jb (jcall 0 x0 (f_X0_classesOf x0 x1 2)) fun v10 =>
    jp v10] (
    jb (jcall 0 x0 (f_X0_commutingOf x0 x1)) fun v1 =>
    jp v1)
set_option maxHeartbeats 8000000 in
theorem j_X0_invariant (D : va_G) (dA : Nat → ClassId) (x0 : Nat) (x1 : Nat) (x2 : Int32) : J (PM D dA false) Y_X0_invariant [(0, .ref x0), (1, .ref x1), (2, .int x2)] [] 0 (f_X0_invariant x0 x1 x2) (FRet injI) := by
  unfold f_X0_invariant
  refine J_iload_n dX0_invariant_0 rfl 2 rfl ?_
  refine J_tswA [48, 61, 68, 75, 82, 88, 94, 100] dX0_invariant_1 (tgt := 107) rfl rfl rfl rfl ?_ ⟨?_, ?_, ?_, ?_, ?_, ?_, ?_, ?_, trivial⟩
  · refine J_aload_n dX0_invariant_107 rfl 0 rfl ?_
    refine J_aload_n dX0_invariant_108 rfl 1 rfl ?_
    refine J_callVI (c := 0) (as := [.ref x1]) dX0_invariant_109 (by decide) rfl (Nat.le_of_ble_eq_true rfl) (cw_X0_commutingOf _ (by decide)) q1308 q1310 qs44 q1311 np_X0_commutingOf (i_X0_commutingOf x0 x1) jad_id rfl (fun v1 => ?_)
    exact J_ireturn dX0_invariant_112 rfl
  · refine J_bipush (v := 10) dX0_invariant_48 (by decide) ?_
    refine J_aload_n dX0_invariant_50 rfl 1 rfl ?_
    refine J_getI dX0_invariant_51 fl_X0_253 rfl (fun v2 => ?_)
    refine J_imul dX0_invariant_54 ?_
    refine J_aload_n dX0_invariant_55 rfl 1 rfl ?_
    refine J_getI dX0_invariant_56 fl_X0_196 rfl (fun v3 => ?_)
    refine J_iadd dX0_invariant_59 ?_
    exact J_ireturn dX0_invariant_60 rfl
  · refine J_aload_n dX0_invariant_61 rfl 0 rfl ?_
    refine J_aload_n dX0_invariant_62 rfl 1 rfl ?_
    refine J_iconst (v := 1) dX0_invariant_63 (by decide) ?_
    refine J_callVI (c := 0) (as := [.ref x1, .int 1]) dX0_invariant_64 (by decide) rfl (Nat.le_of_ble_eq_true rfl) (cw_X0_derivedOf _ (by decide)) q1142 q1144 qs22 q1145 np_X0_derivedOf (i_X0_derivedOf x0 x1 1) jad_id rfl (fun v4 => ?_)
    exact J_ireturn dX0_invariant_67 rfl
  · refine J_aload_n dX0_invariant_68 rfl 0 rfl ?_
    refine J_aload_n dX0_invariant_69 rfl 1 rfl ?_
    refine J_iconst (v := 2) dX0_invariant_70 (by decide) ?_
    refine J_callVI (c := 0) (as := [.ref x1, .int 2]) dX0_invariant_71 (by decide) rfl (Nat.le_of_ble_eq_true rfl) (cw_X0_derivedOf _ (by decide)) q1142 q1144 qs22 q1145 np_X0_derivedOf (i_X0_derivedOf x0 x1 2) jad_id rfl (fun v5 => ?_)
    exact J_ireturn dX0_invariant_74 rfl
  · refine J_aload_n dX0_invariant_75 rfl 0 rfl ?_
    refine J_aload_n dX0_invariant_76 rfl 1 rfl ?_
    refine J_iconst (v := 2) dX0_invariant_77 (by decide) ?_
    refine J_callVI (c := 0) (as := [.ref x1, .int 2]) dX0_invariant_78 (by decide) rfl (Nat.le_of_ble_eq_true rfl) (cw_X0_lowerOf _ (by decide)) q1158 q1160 qs24 q1161 np_X0_lowerOf (i_X0_lowerOf x0 x1 2) jad_id rfl (fun v6 => ?_)
    exact J_ireturn dX0_invariant_81 rfl
  · refine J_aload_n dX0_invariant_82 rfl 0 rfl ?_
    refine J_aload_n dX0_invariant_83 rfl 1 rfl ?_
    refine J_callVI (c := 0) (as := [.ref x1]) dX0_invariant_84 (by decide) rfl (Nat.le_of_ble_eq_true rfl) (cw_X0_centreOf _ (by decide)) q1166 q1168 qs25 q1169 np_X0_centreOf (i_X0_centreOf x0 x1) jad_id rfl (fun v7 => ?_)
    exact J_ireturn dX0_invariant_87 rfl
  · refine J_aload_n dX0_invariant_88 rfl 0 rfl ?_
    refine J_aload_n dX0_invariant_89 rfl 1 rfl ?_
    refine J_callVI (c := 0) (as := [.ref x1]) dX0_invariant_90 (by decide) rfl (Nat.le_of_ble_eq_true rfl) (cw_X0_derivationsOf _ (by decide)) q1274 q1276 qs40 q1277 np_X0_derivationsOf (i_X0_derivationsOf x0 x1) jad_id rfl (fun v8 => ?_)
    exact J_ireturn dX0_invariant_93 rfl
  · refine J_aload_n dX0_invariant_94 rfl 0 rfl ?_
    refine J_aload_n dX0_invariant_95 rfl 1 rfl ?_
    refine J_callVI (c := 0) (as := [.ref x1]) dX0_invariant_96 (by decide) rfl (Nat.le_of_ble_eq_true rfl) (cw_X0_formOf _ (by decide)) q1282 q1284 qs41 q1285 np_X0_formOf (i_X0_formOf x0 x1) jad_id rfl (fun v9 => ?_)
    exact J_ireturn dX0_invariant_99 rfl
  · refine J_aload_n dX0_invariant_100 rfl 0 rfl ?_
    refine J_aload_n dX0_invariant_101 rfl 1 rfl ?_
    refine J_iconst (v := 2) dX0_invariant_102 (by decide) ?_
    refine J_callVI (c := 0) (as := [.ref x1, .int 2]) dX0_invariant_103 (by decide) rfl (Nat.le_of_ble_eq_true rfl) (cw_X0_classesOf _ (by decide)) q1290 q1292 qs42 q1293 np_X0_classesOf (i_X0_classesOf x0 x1 2) jad_id rfl (fun v10 => ?_)
    exact J_ireturn dX0_invariant_106 rfl
theorem i_X0_invariant (x0 : Nat) (x1 : Nat) (x2 : Int32) : Impl (ws_ yX0_invariant cX0_invariant 3 (some .int)) yX0_invariant 8 false 0 0 [.ref x0, .ref x1, .int x2] (f_X0_invariant x0 x1 x2) injI := impl_of (plainFor_of_name (by decide)) (Nat.le_of_ble_eq_true rfl) (fun D dA => j_X0_invariant D dA x0 x1 x2)
theorem cw_X0_invariant (Y : JY) (h : 9 ≤ Y.2.2.2.1) : JCw Y (ws_ yX0_invariant cX0_invariant 3 (some .int)) yX0_invariant cX0_invariant 3 (some .int) 8 := ⟨h, by decide, lw_meth q1352, q187, by decide, by decide⟩
theorem np_X0_invariant : JNp yX0_invariant.desc 2 := by decide +kernel
-- BracketRoom.parted(I)I
abbrev Y_X0_parted : JY := (cX0_parted, yX0_parted.cls, 4, 9, yX0_parted.name, (some .int), [])
noncomputable def X0_parted_b59 (x0 : Nat) : JM Mem Int32 :=
  jb (jcall 0 x0 (f_X0_none x0 8)) fun v2 =>
  jp v2
theorem j_X0_parted_b59 (D : va_G) (dA : Nat → ClassId) (x0 : Nat) : J (PM D dA false) Y_X0_parted [(0, .ref x0)] [] 59 (X0_parted_b59 x0) (FRet injI) := by
  unfold X0_parted_b59
  refine J_aload_n dX0_parted_59 rfl 0 rfl ?_
  refine J_bipush (v := 8) dX0_parted_60 (by decide) ?_
  refine J_callVI (c := 0) (as := [.int 8]) dX0_parted_62 (by decide) rfl (Nat.le_of_ble_eq_true rfl) (cw_X0_none _ (by decide)) q729 q731 qs3 q732 np_X0_none (i_X0_none x0 8) jad_id rfl (fun v2 => ?_)
  exact J_ireturn dX0_parted_65 rfl
noncomputable def X0_parted_b47 (x0 : Nat) (x3 : Int32) : JM Mem Int32 :=
  jb (jcall 0 x0 (f_X0_gives x0 x3)) fun v8 =>
  jp v8
theorem j_X0_parted_b47 (D : va_G) (dA : Nat → ClassId) (x0 : Nat) (x3 : Int32) : J (PM D dA false) Y_X0_parted [(0, .ref x0), (3, .int x3)] [] 47 (X0_parted_b47 x0 x3) (FRet injI) := by
  unfold X0_parted_b47
  refine J_aload_n dX0_parted_47 rfl 0 rfl ?_
  refine J_iload_n dX0_parted_48 rfl 1 rfl ?_
  refine J_callVI (c := 0) (as := [.int x3]) dX0_parted_49 (by decide) rfl (Nat.le_of_ble_eq_true rfl) (cw_X0_gives _ (by decide)) q944 q946 qs9 q947 np_X0_gives (i_X0_gives x0 x3) jad_id rfl (fun v8 => ?_)
  exact J_ireturn dX0_parted_52 rfl
noncomputable def X0_parted_L18 (x0 : Nat) (x1 : Int32) (x3 : Int32) : JM Mem (Int32 ⊕ (Int32)) :=
  if 9 ≤ x3 then
    jinl (X0_parted_b59 x0)
  else
  jb (jgetA 0 2 x0) fun v3 =>
  jb (jcall 0 x0 (f_X0_invariant x0 v3 x3)) fun v4 =>
  jb (jgetA 0 4 x0) fun v5 =>
  jb (jaldA 7 v5 x1) fun v6 =>
  jb (jcall 0 x0 (f_X0_invariant x0 v6 x3)) fun v7 =>
  if v4 = v7 then
    jcont (x3 + 1)
  else
    jinl (X0_parted_b47 x0 x3)
theorem j_X0_parted_L18 (D : va_G) (dA : Nat → ClassId) (x0 : Nat) (x1 : Int32) (x3 : Int32) : J (PM D dA false) Y_X0_parted [(0, .ref x0), (1, .int x1), (3, .int x3)] [] 18 (X0_parted_L18 x0 x1 x3) (FLoop (FRet injI) 18 (fun (t : Int32) => [(0, .ref x0), (1, .int x1), (3, .int t)])) := by
  unfold X0_parted_L18
  refine J_iload_n dX0_parted_18 rfl 2 rfl ?_
  refine J_bipush (v := 9) dX0_parted_19 (by decide) ?_
  refine J_icmp_ge (tgt := 59) dX0_parted_21 rfl ?_ ?_
  · refine J_inl ?_
    refine J_sub [0] rfl ?_
    exact j_X0_parted_b59 D dA x0
  refine J_aload_n dX0_parted_24 rfl 0 rfl ?_
  refine J_aload_n dX0_parted_25 rfl 0 rfl ?_
  refine J_getA dX0_parted_26 fl_X0_30 rfl (fun v3 => ?_)
  refine J_iload_n dX0_parted_29 rfl 2 rfl ?_
  refine J_callVI (c := 0) (as := [.ref v3, .int x3]) dX0_parted_30 (by decide) rfl (Nat.le_of_ble_eq_true rfl) (cw_X0_invariant _ (by decide)) q1349 q1351 qs49 q1352 np_X0_invariant (i_X0_invariant x0 v3 x3) jad_id rfl (fun v4 => ?_)
  refine J_aload_n dX0_parted_33 rfl 0 rfl ?_
  refine J_aload_n dX0_parted_34 rfl 0 rfl ?_
  refine J_getA dX0_parted_35 fl_X0_37 rfl (fun v5 => ?_)
  refine J_iload_n dX0_parted_38 rfl 1 rfl ?_
  refine J_aald dX0_parted_39 rfl (by decide) (fun v6 => ?_)
  refine J_iload_n dX0_parted_40 rfl 2 rfl ?_
  refine J_callVI (c := 0) (as := [.ref v6, .int x3]) dX0_parted_41 (by decide) rfl (Nat.le_of_ble_eq_true rfl) (cw_X0_invariant _ (by decide)) q1349 q1351 qs49 q1352 np_X0_invariant (i_X0_invariant x0 v6 x3) jad_id rfl (fun v7 => ?_)
  refine J_icmp_eq (tgt := 53) dX0_parted_44 rfl ?_ ?_
  · refine J_iinc (v := x3 + 1) (env' := [(3, .int (x3 + 1)), (0, .ref x0), (1, .int x1)]) dX0_parted_53 2 rfl rfl (by decide) rfl ?_
    refine J_goto (tgt := 18) dX0_parted_56 rfl ?_
    exact J_cont [1, 2, 0] rfl
  refine J_inl ?_
  refine J_sub [0, 2] rfl ?_
  exact j_X0_parted_b47 D dA x0 x3
noncomputable def f_X0_parted (x0 : Nat) (x1 : Int32) : JM Mem Int32 :=
  jb (jcall 0 x0 (f_X0_noShelf x0 x1)) fun v1 =>
  if v1 ≤ 0 then
    jloop (fun (t : Int32) => X0_parted_L18 x0 x1 t) 0
  else
  jb (jcall 0 x0 (f_X0_none x0 v1)) fun v9 =>
  jp v9
theorem j_X0_parted (D : va_G) (dA : Nat → ClassId) (x0 : Nat) (x1 : Int32) : J (PM D dA false) Y_X0_parted [(0, .ref x0), (1, .int x1)] [] 0 (f_X0_parted x0 x1) (FRet injI) := by
  unfold f_X0_parted
  refine J_aload_n dX0_parted_0 rfl 0 rfl ?_
  refine J_iload_n dX0_parted_1 rfl 1 rfl ?_
  refine J_callVI (c := 0) (as := [.int x1]) dX0_parted_2 (by decide) rfl (Nat.le_of_ble_eq_true rfl) (cw_X0_noShelf _ (by decide)) q1087 q1089 qs17 q1090 np_X0_noShelf (i_X0_noShelf x0 x1) jad_id rfl (fun v1 => ?_)
  refine J_istore_n (env' := [(2, .int v1), (0, .ref x0), (1, .int x1)]) dX0_parted_5 rfl (by decide) rfl ?_
  refine J_iload_n dX0_parted_6 rfl 0 rfl ?_
  refine J_if_le (tgt := 16) dX0_parted_7 rfl ?_ ?_
  · refine J_iconst (v := 0) dX0_parted_16 (by decide) ?_
    refine J_istore_n (env' := [(3, .int 0), (2, .int v1), (0, .ref x0), (1, .int x1)]) dX0_parted_17 rfl (by decide) rfl ?_
    refine J_loop (he := fun (t : Int32) => [(0, .ref x0), (1, .int x1), (3, .int t)]) [2, 3, 0] rfl (fun t => ?_)
    exact j_X0_parted_L18 D dA x0 x1 t
  refine J_aload_n dX0_parted_10 rfl 1 rfl ?_
  refine J_iload_n dX0_parted_11 rfl 0 rfl ?_
  refine J_callVI (c := 0) (as := [.int v1]) dX0_parted_12 (by decide) rfl (Nat.le_of_ble_eq_true rfl) (cw_X0_none _ (by decide)) q729 q731 qs3 q732 np_X0_none (i_X0_none x0 v1) jad_id rfl (fun v9 => ?_)
  exact J_ireturn dX0_parted_15 rfl
theorem i_X0_parted (x0 : Nat) (x1 : Int32) : Impl (ws_ yX0_parted cX0_parted 4 (some .int)) yX0_parted 9 false 0 0 [.ref x0, .int x1] (f_X0_parted x0 x1) injI := impl_of (plainFor_of_name (by decide)) (Nat.le_of_ble_eq_true rfl) (fun D dA => j_X0_parted D dA x0 x1)
theorem cw_X0_parted (Y : JY) (h : 10 ≤ Y.2.2.2.1) : JCw Y (ws_ yX0_parted cX0_parted 4 (some .int)) yX0_parted cX0_parted 4 (some .int) 9 := ⟨h, by decide, lw_meth q1348, q187, by decide, by decide⟩
theorem np_X0_parted : JNp yX0_parted.desc 1 := by decide +kernel
-- BracketRoom.wrongNumbers(IIII)I
abbrev Y_X0_wrongNumbers : JY := (cX0_wrongNumbers, yX0_wrongNumbers.cls, 7, 2, yX0_wrongNumbers.name, (some .int), [])
noncomputable def X0_wrongNumbers_L41 (x2 : Int32) (x3 : Int32) (x4 : Int32) (x5 : Nat) (x6 : Int32) : JM Mem (Int32 ⊕ (Int32)) :=
  if x2 ≤ x6 then
    jinl (jp 0)
  else
  jb (jcall 5 x5 (f_X6_get x5 x6)) fun v6 =>
  jb ((f_X0_isFrom v6 ((x3 : Int32).toInt64) ((x4 : Int32).toInt64))) fun v7 =>
  if v7 = 0 then
    jinl (jp 5)
  else
    jcont (x6 + 1)
theorem j_X0_wrongNumbers_L41 (D : va_G) (dA : Nat → ClassId) (x2 : Int32) (x3 : Int32) (x4 : Int32) (x5 : Nat) (x6 : Int32) : J (PM D dA false) Y_X0_wrongNumbers [(2, .int x2), (3, .int x3), (4, .int x4), (5, .ref x5), (6, .int x6)] [] 41 (X0_wrongNumbers_L41 x2 x3 x4 x5 x6) (FLoop (FRet injI) 41 (fun (t : Int32) => [(2, .int x2), (3, .int x3), (4, .int x4), (5, .ref x5), (6, .int t)])) := by
  unfold X0_wrongNumbers_L41
  refine J_iload dX0_wrongNumbers_41 4 rfl ?_
  refine J_iload_n dX0_wrongNumbers_43 rfl 0 rfl ?_
  refine J_icmp_ge (tgt := 73) dX0_wrongNumbers_44 rfl ?_ ?_
  · refine J_inl ?_
    refine J_iconst (v := 0) dX0_wrongNumbers_73 (by decide) ?_
    exact J_ireturn dX0_wrongNumbers_74 rfl
  refine J_aload dX0_wrongNumbers_47 3 rfl ?_
  refine J_iload dX0_wrongNumbers_49 4 rfl ?_
  refine J_callVL (c := 5) (as := [.int x6]) dX0_wrongNumbers_51 (by decide) rfl (Nat.le_of_ble_eq_true rfl) (cw_X6_get _ (by decide)) q733 q734 q735 q736 np_X6_get (i_X6_get x5 x6) jad_id rfl (fun v6 => ?_)
  refine J_iload_n dX0_wrongNumbers_54 rfl 1 rfl ?_
  refine J_i2l dX0_wrongNumbers_55 ?_
  refine J_iload dX0_wrongNumbers_56 2 rfl ?_
  refine J_i2l dX0_wrongNumbers_58 ?_
  refine J_callSI (host := "") (as := [.long v6, .long ((x3 : Int32).toInt64), .long ((x4 : Int32).toInt64)]) dX0_wrongNumbers_59 rfl (Nat.le_of_ble_eq_true rfl) (cw_X0_isFrom _ (by decide)) q1096 q1097 q1098 np_X0_isFrom (i_X0_isFrom v6 ((x3 : Int32).toInt64) ((x4 : Int32).toInt64)) jad_id rfl (fun v7 => ?_)
  refine J_if_ne (tgt := 67) dX0_wrongNumbers_62 rfl ?_ ?_
  · refine J_iinc (v := x6 + 1) (env' := [(6, .int (x6 + 1)), (2, .int x2), (3, .int x3), (4, .int x4), (5, .ref x5)]) dX0_wrongNumbers_67 4 rfl rfl (by decide) rfl ?_
    refine J_goto (tgt := 41) dX0_wrongNumbers_70 rfl ?_
    exact J_cont [1, 2, 3, 4, 0] rfl
  refine J_inl ?_
  refine J_iconst (v := 5) dX0_wrongNumbers_65 (by decide) ?_
  exact J_ireturn dX0_wrongNumbers_66 rfl
noncomputable def f_X0_wrongNumbers (x0 : Nat) (x1 : Int32) (x2 : Int32) (x3 : Int32) (x4 : Int32) : JM Mem Int32 :=
  jb ((f_X0_isTray x1)) fun v1 =>
  if v1 = 0 then
    jp 1
  else
  jb (jgetA 0 0 x0) fun v2 =>
  jb (jaldA 9 v2 x1) fun v3 =>
  jb (jgetO 5 0 v3) fun v4 =>
  if v4 = none then
    jp 3
  else
  jb (jcall 5 v3 (f_X6_many v3)) fun v5 =>
  if x2 ≤ v5 then
    jloop (fun (t : Int32) => X0_wrongNumbers_L41 x2 x3 x4 v3 t) 0
  else
    jp 4
theorem j_X0_wrongNumbers (D : va_G) (dA : Nat → ClassId) (x0 : Nat) (x1 : Int32) (x2 : Int32) (x3 : Int32) (x4 : Int32) : J (PM D dA false) Y_X0_wrongNumbers [(0, .ref x0), (1, .int x1), (2, .int x2), (3, .int x3), (4, .int x4)] [] 0 (f_X0_wrongNumbers x0 x1 x2 x3 x4) (FRet injI) := by
  unfold f_X0_wrongNumbers
  refine J_iload_n dX0_wrongNumbers_0 rfl 1 rfl ?_
  refine J_callSI (host := "") (as := [.int x1]) dX0_wrongNumbers_1 rfl (Nat.le_of_ble_eq_true rfl) (cw_X0_isTray _ (by decide)) q656 q657 q658 np_X0_isTray (i_X0_isTray x1) jad_id rfl (fun v1 => ?_)
  refine J_if_ne (tgt := 9) dX0_wrongNumbers_4 rfl ?_ ?_
  · refine J_aload_n dX0_wrongNumbers_9 rfl 0 rfl ?_
    refine J_getA dX0_wrongNumbers_10 fl_X0_11 rfl (fun v2 => ?_)
    refine J_iload_n dX0_wrongNumbers_13 rfl 1 rfl ?_
    refine J_aald dX0_wrongNumbers_14 rfl (by decide) (fun v3 => ?_)
    refine J_astore (env' := [(5, .ref v3), (0, .ref x0), (1, .int x1), (2, .int x2), (3, .int x3), (4, .int x4)]) dX0_wrongNumbers_15 (by decide) rfl ?_
    refine J_aload dX0_wrongNumbers_17 0 rfl ?_
    refine J_getO dX0_wrongNumbers_19 fl_X0_181 rfl (fun v4 => ?_)
    refine J_ifnonnull (x := v4) (tgt := 27) dX0_wrongNumbers_22 rfl ?_ ?_
    · refine J_aload dX0_wrongNumbers_27 0 rfl ?_
      refine J_callVI (c := 5) (as := []) dX0_wrongNumbers_29 (by decide) rfl (Nat.le_of_ble_eq_true rfl) (cw_X6_many _ (by decide)) q1103 q1104 q1105 q1106 np_X6_many (i_X6_many v3) jad_id rfl (fun v5 => ?_)
      refine J_iload_n dX0_wrongNumbers_32 rfl 3 rfl ?_
      refine J_icmp_ge (tgt := 38) dX0_wrongNumbers_33 rfl ?_ ?_
      · refine J_iconst (v := 0) dX0_wrongNumbers_38 (by decide) ?_
        refine J_istore (env' := [(6, .int 0), (5, .ref v3), (0, .ref x0), (1, .int x1), (2, .int x2), (3, .int x3), (4, .int x4)]) dX0_wrongNumbers_39 (by decide) rfl ?_
        refine J_loop (he := fun (t : Int32) => [(2, .int x2), (3, .int x3), (4, .int x4), (5, .ref v3), (6, .int t)]) [4, 5, 6, 1, 0] rfl (fun t => ?_)
        exact j_X0_wrongNumbers_L41 D dA x2 x3 x4 v3 t
      refine J_iconst (v := 4) dX0_wrongNumbers_36 (by decide) ?_
      exact J_ireturn dX0_wrongNumbers_37 rfl
    refine J_iconst (v := 3) dX0_wrongNumbers_25 (by decide) ?_
    exact J_ireturn dX0_wrongNumbers_26 rfl
  refine J_iconst (v := 1) dX0_wrongNumbers_7 (by decide) ?_
  exact J_ireturn dX0_wrongNumbers_8 rfl
theorem i_X0_wrongNumbers (x0 : Nat) (x1 : Int32) (x2 : Int32) (x3 : Int32) (x4 : Int32) : Impl (ws_ yX0_wrongNumbers cX0_wrongNumbers 7 (some .int)) yX0_wrongNumbers 2 false 0 0 [.ref x0, .int x1, .int x2, .int x3, .int x4] (f_X0_wrongNumbers x0 x1 x2 x3 x4) injI := impl_of (plainFor_of_name (by decide)) (Nat.le_of_ble_eq_true rfl) (fun D dA => j_X0_wrongNumbers D dA x0 x1 x2 x3 x4)
theorem cw_X0_wrongNumbers (Y : JY) (h : 3 ≤ Y.2.2.2.1) : JCw Y (ws_ yX0_wrongNumbers cX0_wrongNumbers 7 (some .int)) yX0_wrongNumbers cX0_wrongNumbers 7 (some .int) 2 := ⟨h, by decide, lw_meth q1360, q187, by decide, by decide⟩
theorem np_X0_wrongNumbers : JNp yX0_wrongNumbers.desc 4 := by decide +kernel
-- BracketRoom.same()V
abbrev Y_X0_same : JY := (cX0_same, yX0_same.cls, 3, 1, yX0_same.name, none, [])
noncomputable def X0_same_b38 (x0 : Nat) (x1 : Int32) : JM Mem (Unit ⊕ (Int32)) :=
  jcont (x1 + 1)
theorem j_X0_same_b38 (D : va_G) (dA : Nat → ClassId) (x0 : Nat) (x1 : Int32) : J (PM D dA false) Y_X0_same [(0, .ref x0), (1, .int x1)] [] 38 (X0_same_b38 x0 x1) (FLoop (FRet injU) 2 (fun (t : Int32) => [(0, .ref x0), (1, .int t)])) := by
  unfold X0_same_b38
  refine J_iinc (v := x1 + 1) (env' := [(1, .int (x1 + 1)), (0, .ref x0)]) dX0_same_38 1 rfl rfl (by decide) rfl ?_
  refine J_goto (tgt := 2) dX0_same_41 rfl ?_
  exact J_cont [1, 0] rfl
noncomputable def X0_same_b31 (x0 : Nat) (x1 : Int32) (x2 : Int32) (s0 : Nat) (s1 : Int32) (s2 : Int32) : JM Mem ((Unit ⊕ (Int32)) ⊕ (Int32)) :=
  jb (jast_i s0 s1 s2) fun _ =>
  jcont (x2 + 1)
theorem j_X0_same_b31 (D : va_G) (dA : Nat → ClassId) (x0 : Nat) (x1 : Int32) (x2 : Int32) (s0 : Nat) (s1 : Int32) (s2 : Int32) : J (PM D dA false) Y_X0_same [(0, .ref x0), (1, .int x1), (2, .int x2)] [.int s2, .int s1, .ref s0] 31 (X0_same_b31 x0 x1 x2 s0 s1 s2) (FLoop (FLoop (FRet injU) 2 (fun (t : Int32) => [(0, .ref x0), (1, .int t)])) 9 (fun (t : Int32) => [(0, .ref x0), (1, .int x1), (2, .int t)])) := by
  unfold X0_same_b31
  refine J_iast dX0_same_31 ?_
  refine J_iinc (v := x2 + 1) (env' := [(2, .int (x2 + 1)), (0, .ref x0), (1, .int x1)]) dX0_same_32 2 rfl rfl (by decide) rfl ?_
  refine J_goto (tgt := 9) dX0_same_35 rfl ?_
  exact J_cont [1, 2, 0] rfl
noncomputable def X0_same_L9 (x0 : Nat) (x1 : Int32) (x2 : Int32) : JM Mem ((Unit ⊕ (Int32)) ⊕ (Int32)) :=
  if 5 ≤ x2 then
    jinl (X0_same_b38 x0 x1)
  else
  jb (jgetA 0 33 x0) fun v1 =>
  jb (jaldA 5 v1 x1) fun v2 =>
  if x1 = x2 then
    X0_same_b31 x0 x1 x2 v2 x2 1
  else
    X0_same_b31 x0 x1 x2 v2 x2 0
theorem j_X0_same_L9 (D : va_G) (dA : Nat → ClassId) (x0 : Nat) (x1 : Int32) (x2 : Int32) : J (PM D dA false) Y_X0_same [(0, .ref x0), (1, .int x1), (2, .int x2)] [] 9 (X0_same_L9 x0 x1 x2) (FLoop (FLoop (FRet injU) 2 (fun (t : Int32) => [(0, .ref x0), (1, .int t)])) 9 (fun (t : Int32) => [(0, .ref x0), (1, .int x1), (2, .int t)])) := by
  unfold X0_same_L9
  refine J_iload_n dX0_same_9 rfl 2 rfl ?_
  refine J_iconst (v := 5) dX0_same_10 (by decide) ?_
  refine J_icmp_ge (tgt := 38) dX0_same_11 rfl ?_ ?_
  · refine J_inl ?_
    refine J_sub [0, 1] rfl ?_
    exact j_X0_same_b38 D dA x0 x1
  refine J_aload_n dX0_same_14 rfl 0 rfl ?_
  refine J_getA dX0_same_15 fl_X0_115 rfl (fun v1 => ?_)
  refine J_iload_n dX0_same_18 rfl 1 rfl ?_
  refine J_aald dX0_same_19 rfl (by decide) (fun v2 => ?_)
  refine J_iload_n dX0_same_20 rfl 2 rfl ?_
  refine J_iload_n dX0_same_21 rfl 1 rfl ?_
  refine J_iload_n dX0_same_22 rfl 2 rfl ?_
  refine J_icmp_ne (tgt := 30) dX0_same_23 rfl ?_ ?_
  · refine J_iconst (v := 0) dX0_same_30 (by decide) ?_
    refine J_sub [0, 1, 2] rfl ?_
    exact j_X0_same_b31 D dA x0 x1 x2 v2 x2 0
  refine J_iconst (v := 1) dX0_same_26 (by decide) ?_
  refine J_goto (tgt := 31) dX0_same_27 rfl ?_
  refine J_sub [0, 1, 2] rfl ?_
  exact j_X0_same_b31 D dA x0 x1 x2 v2 x2 1
noncomputable def X0_same_L2 (x0 : Nat) (x1 : Int32) : JM Mem (Unit ⊕ (Int32)) :=
  if 5 ≤ x1 then
    jinl (jp ())
  else
    jloop (fun (t : Int32) => X0_same_L9 x0 x1 t) 0
theorem j_X0_same_L2 (D : va_G) (dA : Nat → ClassId) (x0 : Nat) (x1 : Int32) : J (PM D dA false) Y_X0_same [(0, .ref x0), (1, .int x1)] [] 2 (X0_same_L2 x0 x1) (FLoop (FRet injU) 2 (fun (t : Int32) => [(0, .ref x0), (1, .int t)])) := by
  unfold X0_same_L2
  refine J_iload_n dX0_same_2 rfl 1 rfl ?_
  refine J_iconst (v := 5) dX0_same_3 (by decide) ?_
  refine J_icmp_ge (tgt := 44) dX0_same_4 rfl ?_ ?_
  · refine J_inl ?_
    exact J_return dX0_same_44 rfl
  refine J_iconst (v := 0) dX0_same_7 (by decide) ?_
  refine J_istore_n (env' := [(2, .int 0), (0, .ref x0), (1, .int x1)]) dX0_same_8 rfl (by decide) rfl ?_
  refine J_loop (he := fun (t : Int32) => [(0, .ref x0), (1, .int x1), (2, .int t)]) [1, 2, 0] rfl (fun t => ?_)
  exact j_X0_same_L9 D dA x0 x1 t
noncomputable def f_X0_same (x0 : Nat) : JM Mem Unit :=
  jloop (fun (t : Int32) => X0_same_L2 x0 t) 0
theorem j_X0_same (D : va_G) (dA : Nat → ClassId) (x0 : Nat) : J (PM D dA false) Y_X0_same [(0, .ref x0)] [] 0 (f_X0_same x0) (FRet injU) := by
  unfold f_X0_same
  refine J_iconst (v := 0) dX0_same_0 (by decide) ?_
  refine J_istore_n (env' := [(1, .int 0), (0, .ref x0)]) dX0_same_1 rfl (by decide) rfl ?_
  refine J_loop (he := fun (t : Int32) => [(0, .ref x0), (1, .int t)]) [1, 0] rfl (fun t => ?_)
  exact j_X0_same_L2 D dA x0 t
theorem i_X0_same (x0 : Nat) : Impl (ws_ yX0_same cX0_same 3 none) yX0_same 1 false 0 0 [.ref x0] (f_X0_same x0) injU := impl_of (plainFor_of_name (by decide)) (Nat.le_of_ble_eq_true rfl) (fun D dA => j_X0_same D dA x0)
theorem cw_X0_same (Y : JY) (h : 2 ≤ Y.2.2.2.1) : JCw Y (ws_ yX0_same cX0_same 3 none) yX0_same cX0_same 3 none 1 := ⟨h, by decide, lw_meth q1364, q187, by decide, by decide⟩
theorem np_X0_same : JNp yX0_same.desc 0 := by decide +kernel
-- BracketRoom.turnsBack(LBracketRoom$World;)Z
abbrev Y_X0_turnsBack : JY := (cX0_turnsBack, yX0_turnsBack.cls, 10, 3, yX0_turnsBack.name, (some .boolean), [])
noncomputable def X0_turnsBack_L289 (x0 : Nat) (x2 : Int32) (x3 : Int32) : JM Mem (Int32 ⊕ (Int32)) :=
  if x2 ≤ x3 then
    jinl (jp 1)
  else
  jb (jgetA 0 35 x0) fun v2 =>
  jb (jaldA 5 v2 x3) fun v3 =>
  jb (jgetA 0 34 x0) fun v4 =>
  jb (jaldA 5 v4 x3) fun v5 =>
  jb (jcopy 0 v3 x2 v5 0 x2) fun _ =>
  jcont (x3 + 1)
theorem j_X0_turnsBack_L289 (D : va_G) (dA : Nat → ClassId) (x0 : Nat) (x2 : Int32) (x3 : Int32) : J (PM D dA false) Y_X0_turnsBack [(0, .ref x0), (2, .int x2), (3, .int x3)] [] 289 (X0_turnsBack_L289 x0 x2 x3) (FLoop (FRet injI) 289 (fun (t : Int32) => [(0, .ref x0), (2, .int x2), (3, .int t)])) := by
  unfold X0_turnsBack_L289
  refine J_iload_n dX0_turnsBack_289 rfl 2 rfl ?_
  refine J_iload_n dX0_turnsBack_290 rfl 1 rfl ?_
  refine J_icmp_ge (tgt := 318) dX0_turnsBack_291 rfl ?_ ?_
  · refine J_inl ?_
    refine J_iconst (v := 1) dX0_turnsBack_318 (by decide) ?_
    exact J_zreturn1 dX0_turnsBack_319 rfl
  refine J_aload_n dX0_turnsBack_294 rfl 0 rfl ?_
  refine J_getA dX0_turnsBack_295 fl_X0_121 rfl (fun v2 => ?_)
  refine J_iload_n dX0_turnsBack_298 rfl 2 rfl ?_
  refine J_aald dX0_turnsBack_299 rfl (by decide) (fun v3 => ?_)
  refine J_iload_n dX0_turnsBack_300 rfl 1 rfl ?_
  refine J_aload_n dX0_turnsBack_301 rfl 0 rfl ?_
  refine J_getA dX0_turnsBack_302 fl_X0_118 rfl (fun v4 => ?_)
  refine J_iload_n dX0_turnsBack_305 rfl 2 rfl ?_
  refine J_aald dX0_turnsBack_306 rfl (by decide) (fun v5 => ?_)
  refine J_iconst (v := 0) dX0_turnsBack_307 (by decide) ?_
  refine J_iload_n dX0_turnsBack_308 rfl 1 rfl ?_
  refine J_copy (t := 0) dX0_turnsBack_309 (by decide) (Nat.le_of_ble_eq_true rfl) (by decide) q743 q745 q744 q204 ?_
  refine J_iinc (v := x3 + 1) (env' := [(3, .int (x3 + 1)), (0, .ref x0), (2, .int x2)]) dX0_turnsBack_312 2 rfl rfl (by decide) rfl ?_
  refine J_goto (tgt := 289) dX0_turnsBack_315 rfl ?_
  exact J_cont [1, 2, 0] rfl
noncomputable def X0_turnsBack_b287 (x0 : Nat) (x2 : Int32) : JM Mem Int32 :=
  jloop (fun (t : Int32) => X0_turnsBack_L289 x0 x2 t) 0
theorem j_X0_turnsBack_b287 (D : va_G) (dA : Nat → ClassId) (x0 : Nat) (x2 : Int32) : J (PM D dA false) Y_X0_turnsBack [(0, .ref x0), (2, .int x2)] [] 287 (X0_turnsBack_b287 x0 x2) (FRet injI) := by
  unfold X0_turnsBack_b287
  refine J_iconst (v := 0) dX0_turnsBack_287 (by decide) ?_
  refine J_istore_n (env' := [(3, .int 0), (0, .ref x0), (2, .int x2)]) dX0_turnsBack_288 rfl (by decide) rfl ?_
  refine J_loop (he := fun (t : Int32) => [(0, .ref x0), (2, .int x2), (3, .int t)]) [1, 2, 0] rfl (fun t => ?_)
  exact j_X0_turnsBack_L289 D dA x0 x2 t
noncomputable def X0_turnsBack_b281 (x0 : Nat) (x1 : Nat) (x2 : Int32) (x3 : Int32) : JM Mem (Int32 ⊕ (Int32)) :=
  jcont (x3 + 1)
theorem j_X0_turnsBack_b281 (D : va_G) (dA : Nat → ClassId) (x0 : Nat) (x1 : Nat) (x2 : Int32) (x3 : Int32) : J (PM D dA false) Y_X0_turnsBack [(0, .ref x0), (1, .ref x1), (2, .int x2), (3, .int x3)] [] 281 (X0_turnsBack_b281 x0 x1 x2 x3) (FLoop (FRet injI) 75 (fun (t : Int32) => [(0, .ref x0), (1, .ref x1), (2, .int x2), (3, .int t)])) := by
  unfold X0_turnsBack_b281
  refine J_iinc (v := x3 + 1) (env' := [(3, .int (x3 + 1)), (0, .ref x0), (1, .ref x1), (2, .int x2)]) dX0_turnsBack_281 3 rfl rfl (by decide) rfl ?_
  refine J_goto (tgt := 75) dX0_turnsBack_284 rfl ?_
  exact J_cont [1, 2, 3, 0] rfl
noncomputable def X0_turnsBack_b275 (x0 : Nat) (x1 : Nat) (x2 : Int32) (x3 : Int32) (x5 : Nat) (x7 : Int32) : JM Mem ((Int32 ⊕ (Int32)) ⊕ (Int32)) :=
  jcont (x7 + 1)
theorem j_X0_turnsBack_b275 (D : va_G) (dA : Nat → ClassId) (x0 : Nat) (x1 : Nat) (x2 : Int32) (x3 : Int32) (x5 : Nat) (x7 : Int32) : J (PM D dA false) Y_X0_turnsBack [(0, .ref x0), (1, .ref x1), (2, .int x2), (3, .int x3), (5, .ref x5), (7, .int x7)] [] 275 (X0_turnsBack_b275 x0 x1 x2 x3 x5 x7) (FLoop (FLoop (FRet injI) 75 (fun (t : Int32) => [(0, .ref x0), (1, .ref x1), (2, .int x2), (3, .int t)])) 193 (fun (t : Int32) => [(0, .ref x0), (1, .ref x1), (2, .int x2), (3, .int x3), (5, .ref x5), (7, .int t)])) := by
  unfold X0_turnsBack_b275
  refine J_iinc (v := x7 + 1) (env' := [(7, .int (x7 + 1)), (0, .ref x0), (1, .ref x1), (2, .int x2), (3, .int x3), (5, .ref x5)]) dX0_turnsBack_275 5 rfl rfl (by decide) rfl ?_
  refine J_goto (tgt := 193) dX0_turnsBack_278 rfl ?_
  exact J_cont [1, 2, 3, 4, 5, 0] rfl
noncomputable def X0_turnsBack_L223 (x0 : Nat) (x1 : Nat) (x2 : Int32) (x3 : Int32) (x5 : Nat) (x7 : Int32) (x8 : Int32) (x9 : Int32) : JM Mem (((Int32 ⊕ (Int32)) ⊕ (Int32)) ⊕ (Int32)) :=
  if 2 * x2 ≤ x9 then
    jinl (X0_turnsBack_b275 x0 x1 x2 x3 x5 x7)
  else
  if x8 = 0 then
    jinl (X0_turnsBack_b275 x0 x1 x2 x3 x5 x7)
  else
  jb (jgetA 0 35 x0) fun v17 =>
  jb (jaldA 5 v17 x7) fun v18 =>
  jb (jgetA 0 35 x0) fun v19 =>
  jb (jaldA 5 v19 x7) fun v20 =>
  jb (jald mI 0 v20 x9) fun v21 =>
  jb (jald mI 0 x5 x9) fun v22 =>
  jb (jcall 3 x1 (f_X4_by x1 (v21 - (x8 * v22)))) fun v23 =>
  jb (jast_i v18 x9 v23) fun _ =>
  jcont (x9 + 1)
theorem j_X0_turnsBack_L223 (D : va_G) (dA : Nat → ClassId) (x0 : Nat) (x1 : Nat) (x2 : Int32) (x3 : Int32) (x5 : Nat) (x7 : Int32) (x8 : Int32) (x9 : Int32) : J (PM D dA false) Y_X0_turnsBack [(0, .ref x0), (1, .ref x1), (2, .int x2), (3, .int x3), (5, .ref x5), (7, .int x7), (8, .int x8), (9, .int x9)] [] 223 (X0_turnsBack_L223 x0 x1 x2 x3 x5 x7 x8 x9) (FLoop (FLoop (FLoop (FRet injI) 75 (fun (t : Int32) => [(0, .ref x0), (1, .ref x1), (2, .int x2), (3, .int t)])) 193 (fun (t : Int32) => [(0, .ref x0), (1, .ref x1), (2, .int x2), (3, .int x3), (5, .ref x5), (7, .int t)])) 223 (fun (t : Int32) => [(0, .ref x0), (1, .ref x1), (2, .int x2), (3, .int x3), (5, .ref x5), (7, .int x7), (8, .int x8), (9, .int t)])) := by
  unfold X0_turnsBack_L223
  refine J_iload dX0_turnsBack_223 7 rfl ?_
  refine J_iconst (v := 2) dX0_turnsBack_225 (by decide) ?_
  refine J_iload_n dX0_turnsBack_226 rfl 2 rfl ?_
  refine J_imul dX0_turnsBack_227 ?_
  refine J_icmp_ge (tgt := 275) dX0_turnsBack_228 rfl ?_ ?_
  · refine J_inl ?_
    refine J_sub [0, 1, 2, 3, 4, 5] rfl ?_
    exact j_X0_turnsBack_b275 D dA x0 x1 x2 x3 x5 x7
  refine J_iload dX0_turnsBack_231 6 rfl ?_
  refine J_if_eq (tgt := 275) dX0_turnsBack_233 rfl ?_ ?_
  · refine J_inl ?_
    refine J_sub [0, 1, 2, 3, 4, 5] rfl ?_
    exact j_X0_turnsBack_b275 D dA x0 x1 x2 x3 x5 x7
  refine J_aload_n dX0_turnsBack_236 rfl 0 rfl ?_
  refine J_getA dX0_turnsBack_237 fl_X0_121 rfl (fun v17 => ?_)
  refine J_iload dX0_turnsBack_240 5 rfl ?_
  refine J_aald dX0_turnsBack_242 rfl (by decide) (fun v18 => ?_)
  refine J_iload dX0_turnsBack_243 7 rfl ?_
  refine J_aload_n dX0_turnsBack_245 rfl 1 rfl ?_
  refine J_aload_n dX0_turnsBack_246 rfl 0 rfl ?_
  refine J_getA dX0_turnsBack_247 fl_X0_121 rfl (fun v19 => ?_)
  refine J_iload dX0_turnsBack_250 5 rfl ?_
  refine J_aald dX0_turnsBack_252 rfl (by decide) (fun v20 => ?_)
  refine J_iload dX0_turnsBack_253 7 rfl ?_
  refine J_iald dX0_turnsBack_255 (fun v21 => ?_)
  refine J_iload dX0_turnsBack_256 6 rfl ?_
  refine J_aload dX0_turnsBack_258 4 rfl ?_
  refine J_iload dX0_turnsBack_260 7 rfl ?_
  refine J_iald dX0_turnsBack_262 (fun v22 => ?_)
  refine J_imul dX0_turnsBack_263 ?_
  refine J_isub dX0_turnsBack_264 ?_
  refine J_callVI (c := 3) (as := [.int (v21 - (x8 * v22))]) dX0_turnsBack_265 (by decide) rfl (Nat.le_of_ble_eq_true rfl) (cw_X4_by _ (by decide)) q1067 q929 q930 q931 np_X4_by (i_X4_by x1 (v21 - (x8 * v22))) jad_id rfl (fun v23 => ?_)
  refine J_iast dX0_turnsBack_268 ?_
  refine J_iinc (v := x9 + 1) (env' := [(9, .int (x9 + 1)), (0, .ref x0), (1, .ref x1), (2, .int x2), (3, .int x3), (5, .ref x5), (7, .int x7), (8, .int x8)]) dX0_turnsBack_269 7 rfl rfl (by decide) rfl ?_
  refine J_goto (tgt := 223) dX0_turnsBack_272 rfl ?_
  exact J_cont [1, 2, 3, 4, 5, 6, 7, 0] rfl
noncomputable def X0_turnsBack_b218 (x0 : Nat) (x1 : Nat) (x2 : Int32) (x3 : Int32) (x5 : Nat) (x7 : Int32) (s0 : Int32) : JM Mem ((Int32 ⊕ (Int32)) ⊕ (Int32)) :=
  jloop (fun (t : Int32) => X0_turnsBack_L223 x0 x1 x2 x3 x5 x7 s0 t) 0
theorem j_X0_turnsBack_b218 (D : va_G) (dA : Nat → ClassId) (x0 : Nat) (x1 : Nat) (x2 : Int32) (x3 : Int32) (x5 : Nat) (x7 : Int32) (s0 : Int32) : J (PM D dA false) Y_X0_turnsBack [(0, .ref x0), (1, .ref x1), (2, .int x2), (3, .int x3), (5, .ref x5), (7, .int x7)] [.int s0] 218 (X0_turnsBack_b218 x0 x1 x2 x3 x5 x7 s0) (FLoop (FLoop (FRet injI) 75 (fun (t : Int32) => [(0, .ref x0), (1, .ref x1), (2, .int x2), (3, .int t)])) 193 (fun (t : Int32) => [(0, .ref x0), (1, .ref x1), (2, .int x2), (3, .int x3), (5, .ref x5), (7, .int t)])) := by
  unfold X0_turnsBack_b218
  refine J_istore (env' := [(8, .int s0), (0, .ref x0), (1, .ref x1), (2, .int x2), (3, .int x3), (5, .ref x5), (7, .int x7)]) dX0_turnsBack_218 (by decide) rfl ?_
  refine J_iconst (v := 0) dX0_turnsBack_220 (by decide) ?_
  refine J_istore (env' := [(9, .int 0), (8, .int s0), (0, .ref x0), (1, .ref x1), (2, .int x2), (3, .int x3), (5, .ref x5), (7, .int x7)]) dX0_turnsBack_221 (by decide) rfl ?_
  refine J_loop (he := fun (t : Int32) => [(0, .ref x0), (1, .ref x1), (2, .int x2), (3, .int x3), (5, .ref x5), (7, .int x7), (8, .int s0), (9, .int t)]) [2, 3, 4, 5, 6, 7, 1, 0] rfl (fun t => ?_)
  exact j_X0_turnsBack_L223 D dA x0 x1 x2 x3 x5 x7 s0 t
noncomputable def X0_turnsBack_L193 (x0 : Nat) (x1 : Nat) (x2 : Int32) (x3 : Int32) (x5 : Nat) (x7 : Int32) : JM Mem ((Int32 ⊕ (Int32)) ⊕ (Int32)) :=
  if x2 ≤ x7 then
    jinl (X0_turnsBack_b281 x0 x1 x2 x3)
  else
  if x7 = x3 then
    X0_turnsBack_b218 x0 x1 x2 x3 x5 x7 0
  else
  jb (jgetA 0 35 x0) fun v14 =>
  jb (jaldA 5 v14 x7) fun v15 =>
  jb (jald mI 0 v15 x3) fun v16 =>
  X0_turnsBack_b218 x0 x1 x2 x3 x5 x7 v16
theorem j_X0_turnsBack_L193 (D : va_G) (dA : Nat → ClassId) (x0 : Nat) (x1 : Nat) (x2 : Int32) (x3 : Int32) (x5 : Nat) (x7 : Int32) : J (PM D dA false) Y_X0_turnsBack [(0, .ref x0), (1, .ref x1), (2, .int x2), (3, .int x3), (5, .ref x5), (7, .int x7)] [] 193 (X0_turnsBack_L193 x0 x1 x2 x3 x5 x7) (FLoop (FLoop (FRet injI) 75 (fun (t : Int32) => [(0, .ref x0), (1, .ref x1), (2, .int x2), (3, .int t)])) 193 (fun (t : Int32) => [(0, .ref x0), (1, .ref x1), (2, .int x2), (3, .int x3), (5, .ref x5), (7, .int t)])) := by
  unfold X0_turnsBack_L193
  refine J_iload dX0_turnsBack_193 5 rfl ?_
  refine J_iload_n dX0_turnsBack_195 rfl 2 rfl ?_
  refine J_icmp_ge (tgt := 281) dX0_turnsBack_196 rfl ?_ ?_
  · refine J_inl ?_
    refine J_sub [0, 1, 2, 3] rfl ?_
    exact j_X0_turnsBack_b281 D dA x0 x1 x2 x3
  refine J_iload dX0_turnsBack_199 5 rfl ?_
  refine J_iload_n dX0_turnsBack_201 rfl 3 rfl ?_
  refine J_icmp_ne (tgt := 209) dX0_turnsBack_202 rfl ?_ ?_
  · refine J_aload_n dX0_turnsBack_209 rfl 0 rfl ?_
    refine J_getA dX0_turnsBack_210 fl_X0_121 rfl (fun v14 => ?_)
    refine J_iload dX0_turnsBack_213 5 rfl ?_
    refine J_aald dX0_turnsBack_215 rfl (by decide) (fun v15 => ?_)
    refine J_iload_n dX0_turnsBack_216 rfl 3 rfl ?_
    refine J_iald dX0_turnsBack_217 (fun v16 => ?_)
    refine J_sub [0, 1, 2, 3, 4, 5] rfl ?_
    exact j_X0_turnsBack_b218 D dA x0 x1 x2 x3 x5 x7 v16
  refine J_iconst (v := 0) dX0_turnsBack_205 (by decide) ?_
  refine J_goto (tgt := 218) dX0_turnsBack_206 rfl ?_
  refine J_sub [0, 1, 2, 3, 4, 5] rfl ?_
  exact j_X0_turnsBack_b218 D dA x0 x1 x2 x3 x5 x7 0
noncomputable def X0_turnsBack_b190 (x0 : Nat) (x1 : Nat) (x2 : Int32) (x3 : Int32) (x5 : Nat) : JM Mem (Int32 ⊕ (Int32)) :=
  jloop (fun (t : Int32) => X0_turnsBack_L193 x0 x1 x2 x3 x5 t) 0
theorem j_X0_turnsBack_b190 (D : va_G) (dA : Nat → ClassId) (x0 : Nat) (x1 : Nat) (x2 : Int32) (x3 : Int32) (x5 : Nat) : J (PM D dA false) Y_X0_turnsBack [(0, .ref x0), (1, .ref x1), (2, .int x2), (3, .int x3), (5, .ref x5)] [] 190 (X0_turnsBack_b190 x0 x1 x2 x3 x5) (FLoop (FRet injI) 75 (fun (t : Int32) => [(0, .ref x0), (1, .ref x1), (2, .int x2), (3, .int t)])) := by
  unfold X0_turnsBack_b190
  refine J_iconst (v := 0) dX0_turnsBack_190 (by decide) ?_
  refine J_istore (env' := [(7, .int 0), (0, .ref x0), (1, .ref x1), (2, .int x2), (3, .int x3), (5, .ref x5)]) dX0_turnsBack_191 (by decide) rfl ?_
  refine J_loop (he := fun (t : Int32) => [(0, .ref x0), (1, .ref x1), (2, .int x2), (3, .int x3), (5, .ref x5), (7, .int t)]) [1, 2, 3, 4, 5, 0] rfl (fun t => ?_)
  exact j_X0_turnsBack_L193 D dA x0 x1 x2 x3 x5 t
noncomputable def X0_turnsBack_L158 (x0 : Nat) (x1 : Nat) (x2 : Int32) (x3 : Int32) (x5 : Nat) (x6 : Int32) (x7 : Int32) : JM Mem ((Int32 ⊕ (Int32)) ⊕ (Int32)) :=
  if 2 * x2 ≤ x7 then
    jinl (X0_turnsBack_b190 x0 x1 x2 x3 x5)
  else
  jb (jald mI 0 x5 x7) fun v24 =>
  jb (jgetI 3 1 x1) fun v25 =>
  jb (jrem (v24 * x6) v25) fun v26 =>
  jb (jast_i x5 x7 v26) fun _ =>
  jcont (x7 + 1)
theorem j_X0_turnsBack_L158 (D : va_G) (dA : Nat → ClassId) (x0 : Nat) (x1 : Nat) (x2 : Int32) (x3 : Int32) (x5 : Nat) (x6 : Int32) (x7 : Int32) : J (PM D dA false) Y_X0_turnsBack [(0, .ref x0), (1, .ref x1), (2, .int x2), (3, .int x3), (5, .ref x5), (6, .int x6), (7, .int x7)] [] 158 (X0_turnsBack_L158 x0 x1 x2 x3 x5 x6 x7) (FLoop (FLoop (FRet injI) 75 (fun (t : Int32) => [(0, .ref x0), (1, .ref x1), (2, .int x2), (3, .int t)])) 158 (fun (t : Int32) => [(0, .ref x0), (1, .ref x1), (2, .int x2), (3, .int x3), (5, .ref x5), (6, .int x6), (7, .int t)])) := by
  unfold X0_turnsBack_L158
  refine J_iload dX0_turnsBack_158 6 rfl ?_
  refine J_iconst (v := 2) dX0_turnsBack_160 (by decide) ?_
  refine J_iload_n dX0_turnsBack_161 rfl 2 rfl ?_
  refine J_imul dX0_turnsBack_162 ?_
  refine J_icmp_ge (tgt := 190) dX0_turnsBack_163 rfl ?_ ?_
  · refine J_inl ?_
    refine J_sub [0, 1, 2, 3, 4] rfl ?_
    exact j_X0_turnsBack_b190 D dA x0 x1 x2 x3 x5
  refine J_aload dX0_turnsBack_166 4 rfl ?_
  refine J_iload dX0_turnsBack_168 6 rfl ?_
  refine J_aload dX0_turnsBack_170 4 rfl ?_
  refine J_iload dX0_turnsBack_172 6 rfl ?_
  refine J_iald dX0_turnsBack_174 (fun v24 => ?_)
  refine J_iload dX0_turnsBack_175 5 rfl ?_
  refine J_imul dX0_turnsBack_177 ?_
  refine J_aload_n dX0_turnsBack_178 rfl 1 rfl ?_
  refine J_getI dX0_turnsBack_179 fl_X0_253 rfl (fun v25 => ?_)
  refine J_irem dX0_turnsBack_182 (fun v26 => ?_)
  refine J_iast dX0_turnsBack_183 ?_
  refine J_iinc (v := x7 + 1) (env' := [(7, .int (x7 + 1)), (0, .ref x0), (1, .ref x1), (2, .int x2), (3, .int x3), (5, .ref x5), (6, .int x6)]) dX0_turnsBack_184 6 rfl rfl (by decide) rfl ?_
  refine J_goto (tgt := 158) dX0_turnsBack_187 rfl ?_
  exact J_cont [1, 2, 3, 4, 5, 6, 0] rfl
noncomputable def X0_turnsBack_b107 (x0 : Nat) (x1 : Nat) (x2 : Int32) (x3 : Int32) (x4 : Int32) : JM Mem (Int32 ⊕ (Int32)) :=
  if x4 = x2 then
    jinl (jp 0)
  else
  jb (jgetA 0 35 x0) fun v6 =>
  jb (jaldA 5 v6 x4) fun v7 =>
  jb (jgetA 0 35 x0) fun v8 =>
  jb (jgetA 0 35 x0) fun v9 =>
  jb (jaldA 5 v9 x3) fun v10 =>
  jb (jast_r v8 x4 v10) fun _ =>
  jb (jgetA 0 35 x0) fun v11 =>
  jb (jast_r v11 x3 v7) fun _ =>
  jb (jald mI 0 v7 x3) fun v12 =>
  jb (jcall 3 x1 (f_X4_inverse x1 v12)) fun v13 =>
  jloop (fun (t : Int32) => X0_turnsBack_L158 x0 x1 x2 x3 v7 v13 t) 0
theorem j_X0_turnsBack_b107 (D : va_G) (dA : Nat → ClassId) (x0 : Nat) (x1 : Nat) (x2 : Int32) (x3 : Int32) (x4 : Int32) : J (PM D dA false) Y_X0_turnsBack [(0, .ref x0), (1, .ref x1), (2, .int x2), (3, .int x3), (4, .int x4)] [] 107 (X0_turnsBack_b107 x0 x1 x2 x3 x4) (FLoop (FRet injI) 75 (fun (t : Int32) => [(0, .ref x0), (1, .ref x1), (2, .int x2), (3, .int t)])) := by
  unfold X0_turnsBack_b107
  refine J_iload dX0_turnsBack_107 4 rfl ?_
  refine J_iload_n dX0_turnsBack_109 rfl 2 rfl ?_
  refine J_icmp_ne (tgt := 115) dX0_turnsBack_110 rfl ?_ ?_
  · refine J_aload_n dX0_turnsBack_115 rfl 0 rfl ?_
    refine J_getA dX0_turnsBack_116 fl_X0_121 rfl (fun v6 => ?_)
    refine J_iload dX0_turnsBack_119 4 rfl ?_
    refine J_aald dX0_turnsBack_121 rfl (by decide) (fun v7 => ?_)
    refine J_astore (env' := [(5, .ref v7), (0, .ref x0), (1, .ref x1), (2, .int x2), (3, .int x3), (4, .int x4)]) dX0_turnsBack_122 (by decide) rfl ?_
    refine J_aload_n dX0_turnsBack_124 rfl 1 rfl ?_
    refine J_getA dX0_turnsBack_125 fl_X0_121 rfl (fun v8 => ?_)
    refine J_iload dX0_turnsBack_128 5 rfl ?_
    refine J_aload_n dX0_turnsBack_130 rfl 1 rfl ?_
    refine J_getA dX0_turnsBack_131 fl_X0_121 rfl (fun v9 => ?_)
    refine J_iload_n dX0_turnsBack_134 rfl 4 rfl ?_
    refine J_aald dX0_turnsBack_135 rfl (by decide) (fun v10 => ?_)
    refine J_aastr dX0_turnsBack_136 ?_
    refine J_aload_n dX0_turnsBack_137 rfl 1 rfl ?_
    refine J_getA dX0_turnsBack_138 fl_X0_121 rfl (fun v11 => ?_)
    refine J_iload_n dX0_turnsBack_141 rfl 4 rfl ?_
    refine J_aload dX0_turnsBack_142 0 rfl ?_
    refine J_aastr dX0_turnsBack_144 ?_
    refine J_aload_n dX0_turnsBack_145 rfl 2 rfl ?_
    refine J_aload dX0_turnsBack_146 0 rfl ?_
    refine J_iload_n dX0_turnsBack_148 rfl 4 rfl ?_
    refine J_iald dX0_turnsBack_149 (fun v12 => ?_)
    refine J_callVI (c := 3) (as := [.int v12]) dX0_turnsBack_150 (by decide) rfl (Nat.le_of_ble_eq_true rfl) (cw_X4_inverse _ (by decide)) q1373 q1121 q1122 q1123 np_X4_inverse (i_X4_inverse x1 v12) jad_id rfl (fun v13 => ?_)
    refine J_istore (env' := [(6, .int v13), (5, .ref v7), (0, .ref x0), (1, .ref x1), (2, .int x2), (3, .int x3), (4, .int x4)]) dX0_turnsBack_153 (by decide) rfl ?_
    refine J_iconst (v := 0) dX0_turnsBack_155 (by decide) ?_
    refine J_istore (env' := [(7, .int 0), (6, .int v13), (5, .ref v7), (0, .ref x0), (1, .ref x1), (2, .int x2), (3, .int x3), (4, .int x4)]) dX0_turnsBack_156 (by decide) rfl ?_
    refine J_loop (he := fun (t : Int32) => [(0, .ref x0), (1, .ref x1), (2, .int x2), (3, .int x3), (5, .ref v7), (6, .int v13), (7, .int t)]) [3, 4, 5, 6, 2, 1, 0] rfl (fun t => ?_)
    exact j_X0_turnsBack_L158 D dA x0 x1 x2 x3 v7 v13 t
  refine J_inl ?_
  refine J_iconst (v := 0) dX0_turnsBack_113 (by decide) ?_
  exact J_zreturn0 dX0_turnsBack_114 rfl
noncomputable def X0_turnsBack_L83 (x0 : Nat) (x1 : Nat) (x2 : Int32) (x3 : Int32) (x4 : Int32) : JM Mem ((Int32 ⊕ (Int32)) ⊕ (Int32)) :=
  if x2 ≤ x4 then
    jinl (X0_turnsBack_b107 x0 x1 x2 x3 x4)
  else
  jb (jgetA 0 35 x0) fun v27 =>
  jb (jaldA 5 v27 x4) fun v28 =>
  jb (jald mI 0 v28 x3) fun v29 =>
  if v29 = 0 then
    jcont (x4 + 1)
  else
    jinl (X0_turnsBack_b107 x0 x1 x2 x3 x4)
theorem j_X0_turnsBack_L83 (D : va_G) (dA : Nat → ClassId) (x0 : Nat) (x1 : Nat) (x2 : Int32) (x3 : Int32) (x4 : Int32) : J (PM D dA false) Y_X0_turnsBack [(0, .ref x0), (1, .ref x1), (2, .int x2), (3, .int x3), (4, .int x4)] [] 83 (X0_turnsBack_L83 x0 x1 x2 x3 x4) (FLoop (FLoop (FRet injI) 75 (fun (t : Int32) => [(0, .ref x0), (1, .ref x1), (2, .int x2), (3, .int t)])) 83 (fun (t : Int32) => [(0, .ref x0), (1, .ref x1), (2, .int x2), (3, .int x3), (4, .int t)])) := by
  unfold X0_turnsBack_L83
  refine J_iload dX0_turnsBack_83 4 rfl ?_
  refine J_iload_n dX0_turnsBack_85 rfl 2 rfl ?_
  refine J_icmp_ge (tgt := 107) dX0_turnsBack_86 rfl ?_ ?_
  · refine J_inl ?_
    refine J_sub [0, 1, 2, 3, 4] rfl ?_
    exact j_X0_turnsBack_b107 D dA x0 x1 x2 x3 x4
  refine J_aload_n dX0_turnsBack_89 rfl 0 rfl ?_
  refine J_getA dX0_turnsBack_90 fl_X0_121 rfl (fun v27 => ?_)
  refine J_iload dX0_turnsBack_93 4 rfl ?_
  refine J_aald dX0_turnsBack_95 rfl (by decide) (fun v28 => ?_)
  refine J_iload_n dX0_turnsBack_96 rfl 3 rfl ?_
  refine J_iald dX0_turnsBack_97 (fun v29 => ?_)
  refine J_if_ne (tgt := 107) dX0_turnsBack_98 rfl ?_ ?_
  · refine J_inl ?_
    refine J_sub [0, 1, 2, 3, 4] rfl ?_
    exact j_X0_turnsBack_b107 D dA x0 x1 x2 x3 x4
  refine J_iinc (v := x4 + 1) (env' := [(4, .int (x4 + 1)), (0, .ref x0), (1, .ref x1), (2, .int x2), (3, .int x3)]) dX0_turnsBack_101 4 rfl rfl (by decide) rfl ?_
  refine J_goto (tgt := 83) dX0_turnsBack_104 rfl ?_
  exact J_cont [1, 2, 3, 4, 0] rfl
noncomputable def X0_turnsBack_L75 (x0 : Nat) (x1 : Nat) (x2 : Int32) (x3 : Int32) : JM Mem (Int32 ⊕ (Int32)) :=
  if x2 ≤ x3 then
    jinl (X0_turnsBack_b287 x0 x2)
  else
    jloop (fun (t : Int32) => X0_turnsBack_L83 x0 x1 x2 x3 t) x3
theorem j_X0_turnsBack_L75 (D : va_G) (dA : Nat → ClassId) (x0 : Nat) (x1 : Nat) (x2 : Int32) (x3 : Int32) : J (PM D dA false) Y_X0_turnsBack [(0, .ref x0), (1, .ref x1), (2, .int x2), (3, .int x3)] [] 75 (X0_turnsBack_L75 x0 x1 x2 x3) (FLoop (FRet injI) 75 (fun (t : Int32) => [(0, .ref x0), (1, .ref x1), (2, .int x2), (3, .int t)])) := by
  unfold X0_turnsBack_L75
  refine J_iload_n dX0_turnsBack_75 rfl 3 rfl ?_
  refine J_iload_n dX0_turnsBack_76 rfl 2 rfl ?_
  refine J_icmp_ge (tgt := 287) dX0_turnsBack_77 rfl ?_ ?_
  · refine J_inl ?_
    refine J_sub [0, 2] rfl ?_
    exact j_X0_turnsBack_b287 D dA x0 x2
  refine J_iload_n dX0_turnsBack_80 rfl 3 rfl ?_
  refine J_istore (env' := [(4, .int x3), (0, .ref x0), (1, .ref x1), (2, .int x2), (3, .int x3)]) dX0_turnsBack_81 (by decide) rfl ?_
  refine J_loop (he := fun (t : Int32) => [(0, .ref x0), (1, .ref x1), (2, .int x2), (3, .int x3), (4, .int t)]) [1, 2, 3, 4, 0] rfl (fun t => ?_)
  exact j_X0_turnsBack_L83 D dA x0 x1 x2 x3 t
noncomputable def X0_turnsBack_b73 (x0 : Nat) (x1 : Nat) (x2 : Int32) : JM Mem Int32 :=
  jloop (fun (t : Int32) => X0_turnsBack_L75 x0 x1 x2 t) 0
theorem j_X0_turnsBack_b73 (D : va_G) (dA : Nat → ClassId) (x0 : Nat) (x1 : Nat) (x2 : Int32) : J (PM D dA false) Y_X0_turnsBack [(0, .ref x0), (1, .ref x1), (2, .int x2)] [] 73 (X0_turnsBack_b73 x0 x1 x2) (FRet injI) := by
  unfold X0_turnsBack_b73
  refine J_iconst (v := 0) dX0_turnsBack_73 (by decide) ?_
  refine J_istore_n (env' := [(3, .int 0), (0, .ref x0), (1, .ref x1), (2, .int x2)]) dX0_turnsBack_74 rfl (by decide) rfl ?_
  refine J_loop (he := fun (t : Int32) => [(0, .ref x0), (1, .ref x1), (2, .int x2), (3, .int t)]) [1, 2, 3, 0] rfl (fun t => ?_)
  exact j_X0_turnsBack_L75 D dA x0 x1 x2 t
noncomputable def X0_turnsBack_b38 (x0 : Nat) (x1 : Nat) (x2 : Int32) (x3 : Int32) : JM Mem (Int32 ⊕ (Int32)) :=
  jb (jgetA 0 33 x0) fun v30 =>
  jb (jaldA 5 v30 x3) fun v31 =>
  jb (jgetA 0 35 x0) fun v32 =>
  jb (jaldA 5 v32 x3) fun v33 =>
  jb (jcopy 0 v31 0 v33 0 x2) fun _ =>
  jb (jgetA 0 35 x0) fun v34 =>
  jb (jaldA 5 v34 x3) fun v35 =>
  jb (jast_i v35 (x2 + x3) 1) fun _ =>
  jcont (x3 + 1)
theorem j_X0_turnsBack_b38 (D : va_G) (dA : Nat → ClassId) (x0 : Nat) (x1 : Nat) (x2 : Int32) (x3 : Int32) : J (PM D dA false) Y_X0_turnsBack [(0, .ref x0), (1, .ref x1), (2, .int x2), (3, .int x3)] [] 38 (X0_turnsBack_b38 x0 x1 x2 x3) (FLoop (FRet injI) 7 (fun (t : Int32) => [(0, .ref x0), (1, .ref x1), (2, .int x2), (3, .int t)])) := by
  unfold X0_turnsBack_b38
  refine J_aload_n dX0_turnsBack_38 rfl 0 rfl ?_
  refine J_getA dX0_turnsBack_39 fl_X0_115 rfl (fun v30 => ?_)
  refine J_iload_n dX0_turnsBack_42 rfl 3 rfl ?_
  refine J_aald dX0_turnsBack_43 rfl (by decide) (fun v31 => ?_)
  refine J_iconst (v := 0) dX0_turnsBack_44 (by decide) ?_
  refine J_aload_n dX0_turnsBack_45 rfl 0 rfl ?_
  refine J_getA dX0_turnsBack_46 fl_X0_121 rfl (fun v32 => ?_)
  refine J_iload_n dX0_turnsBack_49 rfl 3 rfl ?_
  refine J_aald dX0_turnsBack_50 rfl (by decide) (fun v33 => ?_)
  refine J_iconst (v := 0) dX0_turnsBack_51 (by decide) ?_
  refine J_iload_n dX0_turnsBack_52 rfl 2 rfl ?_
  refine J_copy (t := 0) dX0_turnsBack_53 (by decide) (Nat.le_of_ble_eq_true rfl) (by decide) q743 q745 q744 q204 ?_
  refine J_aload_n dX0_turnsBack_56 rfl 0 rfl ?_
  refine J_getA dX0_turnsBack_57 fl_X0_121 rfl (fun v34 => ?_)
  refine J_iload_n dX0_turnsBack_60 rfl 3 rfl ?_
  refine J_aald dX0_turnsBack_61 rfl (by decide) (fun v35 => ?_)
  refine J_iload_n dX0_turnsBack_62 rfl 2 rfl ?_
  refine J_iload_n dX0_turnsBack_63 rfl 3 rfl ?_
  refine J_iadd dX0_turnsBack_64 ?_
  refine J_iconst (v := 1) dX0_turnsBack_65 (by decide) ?_
  refine J_iast dX0_turnsBack_66 ?_
  refine J_iinc (v := x3 + 1) (env' := [(3, .int (x3 + 1)), (0, .ref x0), (1, .ref x1), (2, .int x2)]) dX0_turnsBack_67 3 rfl rfl (by decide) rfl ?_
  refine J_goto (tgt := 7) dX0_turnsBack_70 rfl ?_
  exact J_cont [1, 2, 3, 0] rfl
noncomputable def X0_turnsBack_L15 (x0 : Nat) (x1 : Nat) (x2 : Int32) (x3 : Int32) (x4 : Int32) : JM Mem ((Int32 ⊕ (Int32)) ⊕ (Int32)) :=
  if 10 ≤ x4 then
    jinl (X0_turnsBack_b38 x0 x1 x2 x3)
  else
  jb (jgetA 0 35 x0) fun v36 =>
  jb (jaldA 5 v36 x3) fun v37 =>
  jb (jast_i v37 x4 0) fun _ =>
  jcont (x4 + 1)
theorem j_X0_turnsBack_L15 (D : va_G) (dA : Nat → ClassId) (x0 : Nat) (x1 : Nat) (x2 : Int32) (x3 : Int32) (x4 : Int32) : J (PM D dA false) Y_X0_turnsBack [(0, .ref x0), (1, .ref x1), (2, .int x2), (3, .int x3), (4, .int x4)] [] 15 (X0_turnsBack_L15 x0 x1 x2 x3 x4) (FLoop (FLoop (FRet injI) 7 (fun (t : Int32) => [(0, .ref x0), (1, .ref x1), (2, .int x2), (3, .int t)])) 15 (fun (t : Int32) => [(0, .ref x0), (1, .ref x1), (2, .int x2), (3, .int x3), (4, .int t)])) := by
  unfold X0_turnsBack_L15
  refine J_iload dX0_turnsBack_15 4 rfl ?_
  refine J_bipush (v := 10) dX0_turnsBack_17 (by decide) ?_
  refine J_icmp_ge (tgt := 38) dX0_turnsBack_19 rfl ?_ ?_
  · refine J_inl ?_
    refine J_sub [0, 1, 2, 3] rfl ?_
    exact j_X0_turnsBack_b38 D dA x0 x1 x2 x3
  refine J_aload_n dX0_turnsBack_22 rfl 0 rfl ?_
  refine J_getA dX0_turnsBack_23 fl_X0_121 rfl (fun v36 => ?_)
  refine J_iload_n dX0_turnsBack_26 rfl 3 rfl ?_
  refine J_aald dX0_turnsBack_27 rfl (by decide) (fun v37 => ?_)
  refine J_iload dX0_turnsBack_28 4 rfl ?_
  refine J_iconst (v := 0) dX0_turnsBack_30 (by decide) ?_
  refine J_iast dX0_turnsBack_31 ?_
  refine J_iinc (v := x4 + 1) (env' := [(4, .int (x4 + 1)), (0, .ref x0), (1, .ref x1), (2, .int x2), (3, .int x3)]) dX0_turnsBack_32 4 rfl rfl (by decide) rfl ?_
  refine J_goto (tgt := 15) dX0_turnsBack_35 rfl ?_
  exact J_cont [1, 2, 3, 4, 0] rfl
noncomputable def X0_turnsBack_L7 (x0 : Nat) (x1 : Nat) (x2 : Int32) (x3 : Int32) : JM Mem (Int32 ⊕ (Int32)) :=
  if x2 ≤ x3 then
    jinl (X0_turnsBack_b73 x0 x1 x2)
  else
    jloop (fun (t : Int32) => X0_turnsBack_L15 x0 x1 x2 x3 t) 0
theorem j_X0_turnsBack_L7 (D : va_G) (dA : Nat → ClassId) (x0 : Nat) (x1 : Nat) (x2 : Int32) (x3 : Int32) : J (PM D dA false) Y_X0_turnsBack [(0, .ref x0), (1, .ref x1), (2, .int x2), (3, .int x3)] [] 7 (X0_turnsBack_L7 x0 x1 x2 x3) (FLoop (FRet injI) 7 (fun (t : Int32) => [(0, .ref x0), (1, .ref x1), (2, .int x2), (3, .int t)])) := by
  unfold X0_turnsBack_L7
  refine J_iload_n dX0_turnsBack_7 rfl 3 rfl ?_
  refine J_iload_n dX0_turnsBack_8 rfl 2 rfl ?_
  refine J_icmp_ge (tgt := 73) dX0_turnsBack_9 rfl ?_ ?_
  · refine J_inl ?_
    refine J_sub [0, 1, 2] rfl ?_
    exact j_X0_turnsBack_b73 D dA x0 x1 x2
  refine J_iconst (v := 0) dX0_turnsBack_12 (by decide) ?_
  refine J_istore (env' := [(4, .int 0), (0, .ref x0), (1, .ref x1), (2, .int x2), (3, .int x3)]) dX0_turnsBack_13 (by decide) rfl ?_
  refine J_loop (he := fun (t : Int32) => [(0, .ref x0), (1, .ref x1), (2, .int x2), (3, .int x3), (4, .int t)]) [1, 2, 3, 4, 0] rfl (fun t => ?_)
  exact j_X0_turnsBack_L15 D dA x0 x1 x2 x3 t
noncomputable def f_X0_turnsBack (x0 : Nat) (x1 : Nat) : JM Mem Int32 :=
  jb (jgetI 3 2 x1) fun v1 =>
  jloop (fun (t : Int32) => X0_turnsBack_L7 x0 x1 v1 t) 0
theorem j_X0_turnsBack (D : va_G) (dA : Nat → ClassId) (x0 : Nat) (x1 : Nat) : J (PM D dA false) Y_X0_turnsBack [(0, .ref x0), (1, .ref x1)] [] 0 (f_X0_turnsBack x0 x1) (FRet injI) := by
  unfold f_X0_turnsBack
  refine J_aload_n dX0_turnsBack_0 rfl 1 rfl ?_
  refine J_getI dX0_turnsBack_1 fl_X0_196 rfl (fun v1 => ?_)
  refine J_istore_n (env' := [(2, .int v1), (0, .ref x0), (1, .ref x1)]) dX0_turnsBack_4 rfl (by decide) rfl ?_
  refine J_iconst (v := 0) dX0_turnsBack_5 (by decide) ?_
  refine J_istore_n (env' := [(3, .int 0), (2, .int v1), (0, .ref x0), (1, .ref x1)]) dX0_turnsBack_6 rfl (by decide) rfl ?_
  refine J_loop (he := fun (t : Int32) => [(0, .ref x0), (1, .ref x1), (2, .int v1), (3, .int t)]) [2, 3, 1, 0] rfl (fun t => ?_)
  exact j_X0_turnsBack_L7 D dA x0 x1 v1 t
theorem i_X0_turnsBack (x0 : Nat) (x1 : Nat) : Impl (ws_ yX0_turnsBack cX0_turnsBack 10 (some .boolean)) yX0_turnsBack 3 false 0 0 [.ref x0, .ref x1] (f_X0_turnsBack x0 x1) injI := impl_of (plainFor_of_name (by decide)) (Nat.le_of_ble_eq_true rfl) (fun D dA => j_X0_turnsBack D dA x0 x1)
theorem cw_X0_turnsBack (Y : JY) (h : 4 ≤ Y.2.2.2.1) : JCw Y (ws_ yX0_turnsBack cX0_turnsBack 10 (some .boolean)) yX0_turnsBack cX0_turnsBack 10 (some .boolean) 3 := ⟨h, by decide, lw_meth q1372, q187, by decide, by decide⟩
theorem np_X0_turnsBack : JNp yX0_turnsBack.desc 1 := by decide +kernel
-- BracketRoom.changes(LBracketRoom$World;)Z
abbrev Y_X0_changes : JY := (cX0_changes, yX0_changes.cls, 8, 4, yX0_changes.name, (some .boolean), [])
noncomputable def X0_changes_b138 (x0 : Nat) (x1 : Nat) (x2 : Int32) (x3 : Int32) : JM Mem (Int32 ⊕ (Int32)) :=
  jcont (x3 + 1)
theorem j_X0_changes_b138 (D : va_G) (dA : Nat → ClassId) (x0 : Nat) (x1 : Nat) (x2 : Int32) (x3 : Int32) : J (PM D dA false) Y_X0_changes [(0, .ref x0), (1, .ref x1), (2, .int x2), (3, .int x3)] [] 138 (X0_changes_b138 x0 x1 x2 x3) (FLoop (FRet injI) 25 (fun (t : Int32) => [(0, .ref x0), (1, .ref x1), (2, .int x2), (3, .int t)])) := by
  unfold X0_changes_b138
  refine J_iinc (v := x3 + 1) (env' := [(3, .int (x3 + 1)), (0, .ref x0), (1, .ref x1), (2, .int x2)]) dX0_changes_138 3 rfl rfl (by decide) rfl ?_
  refine J_goto (tgt := 25) dX0_changes_141 rfl ?_
  exact J_cont [1, 2, 3, 0] rfl
noncomputable def X0_changes_b132 (x0 : Nat) (x1 : Nat) (x2 : Int32) (x3 : Int32) (x4 : Int32) : JM Mem ((Int32 ⊕ (Int32)) ⊕ (Int32)) :=
  jcont (x4 + 1)
theorem j_X0_changes_b132 (D : va_G) (dA : Nat → ClassId) (x0 : Nat) (x1 : Nat) (x2 : Int32) (x3 : Int32) (x4 : Int32) : J (PM D dA false) Y_X0_changes [(0, .ref x0), (1, .ref x1), (2, .int x2), (3, .int x3), (4, .int x4)] [] 132 (X0_changes_b132 x0 x1 x2 x3 x4) (FLoop (FLoop (FRet injI) 25 (fun (t : Int32) => [(0, .ref x0), (1, .ref x1), (2, .int x2), (3, .int t)])) 35 (fun (t : Int32) => [(0, .ref x0), (1, .ref x1), (2, .int x2), (3, .int x3), (4, .int t)])) := by
  unfold X0_changes_b132
  refine J_iinc (v := x4 + 1) (env' := [(4, .int (x4 + 1)), (0, .ref x0), (1, .ref x1), (2, .int x2), (3, .int x3)]) dX0_changes_132 4 rfl rfl (by decide) rfl ?_
  refine J_goto (tgt := 35) dX0_changes_135 rfl ?_
  exact J_cont [1, 2, 3, 4, 0] rfl
noncomputable def X0_changes_b115 (x0 : Nat) (x1 : Nat) (x2 : Int32) (x3 : Int32) (x4 : Int32) (x5 : Int32) (x6 : Int32) : JM Mem (((Int32 ⊕ (Int32)) ⊕ (Int32)) ⊕ (Int32)) :=
  jb (jcall 3 x1 (f_X4_set x1 x3 x4 x5 x6)) fun _ =>
  jcont (x5 + 1)
theorem j_X0_changes_b115 (D : va_G) (dA : Nat → ClassId) (x0 : Nat) (x1 : Nat) (x2 : Int32) (x3 : Int32) (x4 : Int32) (x5 : Int32) (x6 : Int32) : J (PM D dA false) Y_X0_changes [(0, .ref x0), (1, .ref x1), (2, .int x2), (3, .int x3), (4, .int x4), (5, .int x5), (6, .int x6)] [] 115 (X0_changes_b115 x0 x1 x2 x3 x4 x5 x6) (FLoop (FLoop (FLoop (FRet injI) 25 (fun (t : Int32) => [(0, .ref x0), (1, .ref x1), (2, .int x2), (3, .int t)])) 35 (fun (t : Int32) => [(0, .ref x0), (1, .ref x1), (2, .int x2), (3, .int x3), (4, .int t)])) 68 (fun (t : Int32) => [(0, .ref x0), (1, .ref x1), (2, .int x2), (3, .int x3), (4, .int x4), (5, .int t)])) := by
  unfold X0_changes_b115
  refine J_aload_n dX0_changes_115 rfl 1 rfl ?_
  refine J_iload_n dX0_changes_116 rfl 3 rfl ?_
  refine J_iload dX0_changes_117 4 rfl ?_
  refine J_iload dX0_changes_119 5 rfl ?_
  refine J_iload dX0_changes_121 6 rfl ?_
  refine J_callVV (c := 3) (as := [.int x3, .int x4, .int x5, .int x6]) dX0_changes_123 (by decide) rfl (Nat.le_of_ble_eq_true rfl) (cw_X4_set _ (by decide)) q1031 q925 q926 q927 np_X4_set (i_X4_set x1 x3 x4 x5 x6) jad_id rfl ?_
  refine J_iinc (v := x5 + 1) (env' := [(5, .int (x5 + 1)), (0, .ref x0), (1, .ref x1), (2, .int x2), (3, .int x3), (4, .int x4), (6, .int x6)]) dX0_changes_126 5 rfl rfl (by decide) rfl ?_
  refine J_goto (tgt := 68) dX0_changes_129 rfl ?_
  exact J_cont [1, 2, 3, 4, 5, 0] rfl
noncomputable def X0_changes_L80 (x0 : Nat) (x1 : Nat) (x2 : Int32) (x3 : Int32) (x4 : Int32) (x5 : Int32) (x6 : Int32) (x7 : Int32) : JM Mem ((((Int32 ⊕ (Int32)) ⊕ (Int32)) ⊕ (Int32)) ⊕ (Int32 × Int32)) :=
  if x2 ≤ x7 then
    jinl (X0_changes_b115 x0 x1 x2 x3 x4 x5 x6)
  else
  jb (jgetA 0 15 x0) fun v11 =>
  jb (jald mI 0 v11 x7) fun v12 =>
  jb (jgetA 0 34 x0) fun v13 =>
  jb (jaldA 5 v13 x7) fun v14 =>
  jb (jald mI 0 v14 x5) fun v15 =>
  jlet (x6 + (v12 * v15)) fun y16 =>
  jcont (y16, x7 + 1)
theorem j_X0_changes_L80 (D : va_G) (dA : Nat → ClassId) (x0 : Nat) (x1 : Nat) (x2 : Int32) (x3 : Int32) (x4 : Int32) (x5 : Int32) (x6 : Int32) (x7 : Int32) : J (PM D dA false) Y_X0_changes [(0, .ref x0), (1, .ref x1), (2, .int x2), (3, .int x3), (4, .int x4), (5, .int x5), (6, .int x6), (7, .int x7)] [] 80 (X0_changes_L80 x0 x1 x2 x3 x4 x5 x6 x7) (FLoop (FLoop (FLoop (FLoop (FRet injI) 25 (fun (t : Int32) => [(0, .ref x0), (1, .ref x1), (2, .int x2), (3, .int t)])) 35 (fun (t : Int32) => [(0, .ref x0), (1, .ref x1), (2, .int x2), (3, .int x3), (4, .int t)])) 68 (fun (t : Int32) => [(0, .ref x0), (1, .ref x1), (2, .int x2), (3, .int x3), (4, .int x4), (5, .int t)])) 80 (fun (t : Int32 × Int32) => [(0, .ref x0), (1, .ref x1), (2, .int x2), (3, .int x3), (4, .int x4), (5, .int x5), (6, .int t.1), (7, .int t.2)])) := by
  unfold X0_changes_L80
  refine J_iload dX0_changes_80 7 rfl ?_
  refine J_iload_n dX0_changes_82 rfl 2 rfl ?_
  refine J_icmp_ge (tgt := 115) dX0_changes_83 rfl ?_ ?_
  · refine J_inl ?_
    refine J_sub [0, 1, 2, 3, 4, 5, 6] rfl ?_
    exact j_X0_changes_b115 D dA x0 x1 x2 x3 x4 x5 x6
  refine J_iload dX0_changes_86 6 rfl ?_
  refine J_aload_n dX0_changes_88 rfl 0 rfl ?_
  refine J_getA dX0_changes_89 fl_X0_63 rfl (fun v11 => ?_)
  refine J_iload dX0_changes_92 7 rfl ?_
  refine J_iald dX0_changes_94 (fun v12 => ?_)
  refine J_aload_n dX0_changes_95 rfl 0 rfl ?_
  refine J_getA dX0_changes_96 fl_X0_118 rfl (fun v13 => ?_)
  refine J_iload dX0_changes_99 7 rfl ?_
  refine J_aald dX0_changes_101 rfl (by decide) (fun v14 => ?_)
  refine J_iload dX0_changes_102 5 rfl ?_
  refine J_iald dX0_changes_104 (fun v15 => ?_)
  refine J_imul dX0_changes_105 ?_
  refine J_iadd dX0_changes_106 ?_
  refine J_letI (fun y16 => ?_)
  refine J_istore (env' := [(6, .int y16), (0, .ref x0), (1, .ref x1), (2, .int x2), (3, .int x3), (4, .int x4), (5, .int x5), (7, .int x7)]) dX0_changes_107 (by decide) rfl ?_
  refine J_iinc (v := x7 + 1) (env' := [(7, .int (x7 + 1)), (6, .int y16), (0, .ref x0), (1, .ref x1), (2, .int x2), (3, .int x3), (4, .int x4), (5, .int x5)]) dX0_changes_109 7 rfl rfl (by decide) rfl ?_
  refine J_goto (tgt := 80) dX0_changes_112 rfl ?_
  exact J_cont [2, 3, 4, 5, 6, 7, 1, 0] rfl
noncomputable def X0_changes_L68 (x0 : Nat) (x1 : Nat) (x2 : Int32) (x3 : Int32) (x4 : Int32) (x5 : Int32) : JM Mem (((Int32 ⊕ (Int32)) ⊕ (Int32)) ⊕ (Int32)) :=
  if x2 ≤ x5 then
    jinl (X0_changes_b132 x0 x1 x2 x3 x4)
  else
    jloop (fun (t : Int32 × Int32) => X0_changes_L80 x0 x1 x2 x3 x4 x5 t.1 t.2) (0, 0)
theorem j_X0_changes_L68 (D : va_G) (dA : Nat → ClassId) (x0 : Nat) (x1 : Nat) (x2 : Int32) (x3 : Int32) (x4 : Int32) (x5 : Int32) : J (PM D dA false) Y_X0_changes [(0, .ref x0), (1, .ref x1), (2, .int x2), (3, .int x3), (4, .int x4), (5, .int x5)] [] 68 (X0_changes_L68 x0 x1 x2 x3 x4 x5) (FLoop (FLoop (FLoop (FRet injI) 25 (fun (t : Int32) => [(0, .ref x0), (1, .ref x1), (2, .int x2), (3, .int t)])) 35 (fun (t : Int32) => [(0, .ref x0), (1, .ref x1), (2, .int x2), (3, .int x3), (4, .int t)])) 68 (fun (t : Int32) => [(0, .ref x0), (1, .ref x1), (2, .int x2), (3, .int x3), (4, .int x4), (5, .int t)])) := by
  unfold X0_changes_L68
  refine J_iload dX0_changes_68 5 rfl ?_
  refine J_iload_n dX0_changes_70 rfl 2 rfl ?_
  refine J_icmp_ge (tgt := 132) dX0_changes_71 rfl ?_ ?_
  · refine J_inl ?_
    refine J_sub [0, 1, 2, 3, 4] rfl ?_
    exact j_X0_changes_b132 D dA x0 x1 x2 x3 x4
  refine J_iconst (v := 0) dX0_changes_74 (by decide) ?_
  refine J_istore (env' := [(6, .int 0), (0, .ref x0), (1, .ref x1), (2, .int x2), (3, .int x3), (4, .int x4), (5, .int x5)]) dX0_changes_75 (by decide) rfl ?_
  refine J_iconst (v := 0) dX0_changes_77 (by decide) ?_
  refine J_istore (env' := [(7, .int 0), (6, .int 0), (0, .ref x0), (1, .ref x1), (2, .int x2), (3, .int x3), (4, .int x4), (5, .int x5)]) dX0_changes_78 (by decide) rfl ?_
  refine J_loop (he := fun (t : Int32 × Int32) => [(0, .ref x0), (1, .ref x1), (2, .int x2), (3, .int x3), (4, .int x4), (5, .int x5), (6, .int t.1), (7, .int t.2)]) [2, 3, 4, 5, 6, 7, 1, 0] rfl (fun t => ?_)
  exact j_X0_changes_L80 D dA x0 x1 x2 x3 x4 x5 t.1 t.2
noncomputable def X0_changes_L35 (x0 : Nat) (x1 : Nat) (x2 : Int32) (x3 : Int32) (x4 : Int32) : JM Mem ((Int32 ⊕ (Int32)) ⊕ (Int32)) :=
  if x2 ≤ x4 then
    jinl (X0_changes_b138 x0 x1 x2 x3)
  else
  jb (jgetA 0 3 x0) fun v5 =>
  jb (jgetA 0 33 x0) fun v6 =>
  jb (jaldA 5 v6 x3) fun v7 =>
  jb (jgetA 0 33 x0) fun v8 =>
  jb (jaldA 5 v8 x4) fun v9 =>
  jb (jgetA 0 15 x0) fun v10 =>
  jb (jcall 3 v5 (f_X4_bracket v5 v7 v9 v10)) fun _ =>
  jloop (fun (t : Int32) => X0_changes_L68 x0 x1 x2 x3 x4 t) 0
theorem j_X0_changes_L35 (D : va_G) (dA : Nat → ClassId) (x0 : Nat) (x1 : Nat) (x2 : Int32) (x3 : Int32) (x4 : Int32) : J (PM D dA false) Y_X0_changes [(0, .ref x0), (1, .ref x1), (2, .int x2), (3, .int x3), (4, .int x4)] [] 35 (X0_changes_L35 x0 x1 x2 x3 x4) (FLoop (FLoop (FRet injI) 25 (fun (t : Int32) => [(0, .ref x0), (1, .ref x1), (2, .int x2), (3, .int t)])) 35 (fun (t : Int32) => [(0, .ref x0), (1, .ref x1), (2, .int x2), (3, .int x3), (4, .int t)])) := by
  unfold X0_changes_L35
  refine J_iload dX0_changes_35 4 rfl ?_
  refine J_iload_n dX0_changes_37 rfl 2 rfl ?_
  refine J_icmp_ge (tgt := 138) dX0_changes_38 rfl ?_ ?_
  · refine J_inl ?_
    refine J_sub [0, 1, 2, 3] rfl ?_
    exact j_X0_changes_b138 D dA x0 x1 x2 x3
  refine J_aload_n dX0_changes_41 rfl 0 rfl ?_
  refine J_getA dX0_changes_42 fl_X0_34 rfl (fun v5 => ?_)
  refine J_aload_n dX0_changes_45 rfl 0 rfl ?_
  refine J_getA dX0_changes_46 fl_X0_115 rfl (fun v6 => ?_)
  refine J_iload_n dX0_changes_49 rfl 3 rfl ?_
  refine J_aald dX0_changes_50 rfl (by decide) (fun v7 => ?_)
  refine J_aload_n dX0_changes_51 rfl 0 rfl ?_
  refine J_getA dX0_changes_52 fl_X0_115 rfl (fun v8 => ?_)
  refine J_iload dX0_changes_55 4 rfl ?_
  refine J_aald dX0_changes_57 rfl (by decide) (fun v9 => ?_)
  refine J_aload_n dX0_changes_58 rfl 0 rfl ?_
  refine J_getA dX0_changes_59 fl_X0_63 rfl (fun v10 => ?_)
  refine J_callVV (c := 3) (as := [.ref v7, .ref v9, .ref v10]) dX0_changes_62 (by decide) rfl (Nat.le_of_ble_eq_true rfl) (cw_X4_bracket _ (by decide)) q1048 q1049 q1050 q1051 np_X4_bracket (i_X4_bracket v5 v7 v9 v10) jad_id rfl ?_
  refine J_iconst (v := 0) dX0_changes_65 (by decide) ?_
  refine J_istore (env' := [(5, .int 0), (0, .ref x0), (1, .ref x1), (2, .int x2), (3, .int x3), (4, .int x4)]) dX0_changes_66 (by decide) rfl ?_
  refine J_loop (he := fun (t : Int32) => [(0, .ref x0), (1, .ref x1), (2, .int x2), (3, .int x3), (4, .int x4), (5, .int t)]) [1, 2, 3, 4, 5, 0] rfl (fun t => ?_)
  exact j_X0_changes_L68 D dA x0 x1 x2 x3 x4 t
noncomputable def X0_changes_L25 (x0 : Nat) (x1 : Nat) (x2 : Int32) (x3 : Int32) : JM Mem (Int32 ⊕ (Int32)) :=
  if x2 ≤ x3 then
    jinl (jp 1)
  else
  jlet (x3 + 1) fun y4 =>
  jloop (fun (t : Int32) => X0_changes_L35 x0 x1 x2 x3 t) y4
theorem j_X0_changes_L25 (D : va_G) (dA : Nat → ClassId) (x0 : Nat) (x1 : Nat) (x2 : Int32) (x3 : Int32) : J (PM D dA false) Y_X0_changes [(0, .ref x0), (1, .ref x1), (2, .int x2), (3, .int x3)] [] 25 (X0_changes_L25 x0 x1 x2 x3) (FLoop (FRet injI) 25 (fun (t : Int32) => [(0, .ref x0), (1, .ref x1), (2, .int x2), (3, .int t)])) := by
  unfold X0_changes_L25
  refine J_iload_n dX0_changes_25 rfl 3 rfl ?_
  refine J_iload_n dX0_changes_26 rfl 2 rfl ?_
  refine J_icmp_ge (tgt := 144) dX0_changes_27 rfl ?_ ?_
  · refine J_inl ?_
    refine J_iconst (v := 1) dX0_changes_144 (by decide) ?_
    exact J_zreturn1 dX0_changes_145 rfl
  refine J_iload_n dX0_changes_30 rfl 3 rfl ?_
  refine J_iconst (v := 1) dX0_changes_31 (by decide) ?_
  refine J_iadd dX0_changes_32 ?_
  refine J_letI (fun y4 => ?_)
  refine J_istore (env' := [(4, .int y4), (0, .ref x0), (1, .ref x1), (2, .int x2), (3, .int x3)]) dX0_changes_33 (by decide) rfl ?_
  refine J_loop (he := fun (t : Int32) => [(0, .ref x0), (1, .ref x1), (2, .int x2), (3, .int x3), (4, .int t)]) [1, 2, 3, 4, 0] rfl (fun t => ?_)
  exact j_X0_changes_L35 D dA x0 x1 x2 x3 t
noncomputable def f_X0_changes (x0 : Nat) (x1 : Nat) : JM Mem Int32 :=
  jb (jcall 0 x0 (f_X0_turnsBack x0 x1)) fun v1 =>
  if v1 = 0 then
    jp 0
  else
  jb (jgetI 3 2 x1) fun v2 =>
  jb (jgetA 0 3 x0) fun v3 =>
  jb (jcall 3 v3 (f_X4_copy v3 x1)) fun _ =>
  jloop (fun (t : Int32) => X0_changes_L25 x0 x1 v2 t) 0
theorem j_X0_changes (D : va_G) (dA : Nat → ClassId) (x0 : Nat) (x1 : Nat) : J (PM D dA false) Y_X0_changes [(0, .ref x0), (1, .ref x1)] [] 0 (f_X0_changes x0 x1) (FRet injI) := by
  unfold f_X0_changes
  refine J_aload_n dX0_changes_0 rfl 0 rfl ?_
  refine J_aload_n dX0_changes_1 rfl 1 rfl ?_
  refine J_callVI (c := 0) (as := [.ref x1]) dX0_changes_2 (by decide) rfl (Nat.le_of_ble_eq_true rfl) (cw_X0_turnsBack _ (by decide)) q1369 q1371 qs53 q1372 np_X0_turnsBack (i_X0_turnsBack x0 x1) jad_id rfl (fun v1 => ?_)
  refine J_if_ne (tgt := 10) dX0_changes_5 rfl ?_ ?_
  · refine J_aload_n dX0_changes_10 rfl 1 rfl ?_
    refine J_getI dX0_changes_11 fl_X0_196 rfl (fun v2 => ?_)
    refine J_istore_n (env' := [(2, .int v2), (0, .ref x0), (1, .ref x1)]) dX0_changes_14 rfl (by decide) rfl ?_
    refine J_aload_n dX0_changes_15 rfl 1 rfl ?_
    refine J_getA dX0_changes_16 fl_X0_34 rfl (fun v3 => ?_)
    refine J_aload_n dX0_changes_19 rfl 2 rfl ?_
    refine J_callVV (c := 3) (as := [.ref x1]) dX0_changes_20 (by decide) rfl (Nat.le_of_ble_eq_true rfl) (cw_X4_copy _ (by decide)) q939 q940 q941 q942 np_X4_copy (i_X4_copy v3 x1) jad_id rfl ?_
    refine J_iconst (v := 0) dX0_changes_23 (by decide) ?_
    refine J_istore_n (env' := [(3, .int 0), (2, .int v2), (0, .ref x0), (1, .ref x1)]) dX0_changes_24 rfl (by decide) rfl ?_
    refine J_loop (he := fun (t : Int32) => [(0, .ref x0), (1, .ref x1), (2, .int v2), (3, .int t)]) [2, 3, 1, 0] rfl (fun t => ?_)
    exact j_X0_changes_L25 D dA x0 x1 v2 t
  refine J_iconst (v := 0) dX0_changes_8 (by decide) ?_
  exact J_zreturn0 dX0_changes_9 rfl
theorem i_X0_changes (x0 : Nat) (x1 : Nat) : Impl (ws_ yX0_changes cX0_changes 8 (some .boolean)) yX0_changes 4 false 0 0 [.ref x0, .ref x1] (f_X0_changes x0 x1) injI := impl_of (plainFor_of_name (by decide)) (Nat.le_of_ble_eq_true rfl) (fun D dA => j_X0_changes D dA x0 x1)
theorem cw_X0_changes (Y : JY) (h : 5 ≤ Y.2.2.2.1) : JCw Y (ws_ yX0_changes cX0_changes 8 (some .boolean)) yX0_changes cX0_changes 8 (some .boolean) 4 := ⟨h, by decide, lw_meth q1368, q187, by decide, by decide⟩
theorem np_X0_changes : JNp yX0_changes.desc 1 := by decide +kernel
-- BracketRoom.change(I)Z
abbrev Y_X0_change : JY := (cX0_change, yX0_change.cls, 6, 5, yX0_change.name, (some .boolean), [])
noncomputable def X0_change_b116 (s0 : Nat) (s1 : Int32) : JM Mem Int32 :=
  jb (jcall 0 s0 (f_X0_is0 s0 s1)) fun v8 =>
  jrz v8
theorem j_X0_change_b116 (D : va_G) (dA : Nat → ClassId) (s0 : Nat) (s1 : Int32) : J (PM D dA false) Y_X0_change [] [.int s1, .ref s0] 116 (X0_change_b116 s0 s1) (FRet injI) := by
  unfold X0_change_b116
  refine J_callVI (c := 0) (as := [.int s1]) dX0_change_116 (by decide) rfl (Nat.le_of_ble_eq_true rfl) (cw_X0_is0 _ (by decide)) q659 q661 qs2 q662 np_X0_is0 (i_X0_is0 s0 s1) jad_id rfl (fun v8 => ?_)
  exact J_zreturn dX0_change_119 rfl
noncomputable def X0_change_b98 (x0 : Nat) : JM Mem Int32 :=
  jb (jgetA 0 2 x0) fun v6 =>
  jb (jcall 0 x0 (f_X0_changes x0 v6)) fun v7 =>
  if v7 = 0 then
    X0_change_b116 x0 9
  else
    X0_change_b116 x0 0
theorem j_X0_change_b98 (D : va_G) (dA : Nat → ClassId) (x0 : Nat) : J (PM D dA false) Y_X0_change [(0, .ref x0)] [] 98 (X0_change_b98 x0) (FRet injI) := by
  unfold X0_change_b98
  refine J_aload_n dX0_change_98 rfl 0 rfl ?_
  refine J_aload_n dX0_change_99 rfl 0 rfl ?_
  refine J_aload_n dX0_change_100 rfl 0 rfl ?_
  refine J_getA dX0_change_101 fl_X0_30 rfl (fun v6 => ?_)
  refine J_callVI (c := 0) (as := [.ref v6]) dX0_change_104 (by decide) rfl (Nat.le_of_ble_eq_true rfl) (cw_X0_changes _ (by decide)) q1365 q1367 qs52 q1368 np_X0_changes (i_X0_changes x0 v6) jad_id rfl (fun v7 => ?_)
  refine J_if_eq (tgt := 114) dX0_change_107 rfl ?_ ?_
  · refine J_bipush (v := 9) dX0_change_114 (by decide) ?_
    refine J_sub [] rfl ?_
    exact j_X0_change_b116 D dA x0 9
  refine J_iconst (v := 0) dX0_change_110 (by decide) ?_
  refine J_goto (tgt := 116) dX0_change_111 rfl ?_
  refine J_sub [] rfl ?_
  exact j_X0_change_b116 D dA x0 0
noncomputable def X0_change_b92 (x0 : Nat) (x1 : Int32) (x2 : Int32) (x4 : Int32) : JM Mem (Int32 ⊕ (Int32)) :=
  jcont (x4 + 1)
theorem j_X0_change_b92 (D : va_G) (dA : Nat → ClassId) (x0 : Nat) (x1 : Int32) (x2 : Int32) (x4 : Int32) : J (PM D dA false) Y_X0_change [(0, .ref x0), (1, .int x1), (2, .int x2), (4, .int x4)] [] 92 (X0_change_b92 x0 x1 x2 x4) (FLoop (FRet injI) 44 (fun (t : Int32) => [(0, .ref x0), (1, .int x1), (2, .int x2), (4, .int t)])) := by
  unfold X0_change_b92
  refine J_iinc (v := x4 + 1) (env' := [(4, .int (x4 + 1)), (0, .ref x0), (1, .int x1), (2, .int x2)]) dX0_change_92 3 rfl rfl (by decide) rfl ?_
  refine J_goto (tgt := 44) dX0_change_95 rfl ?_
  exact J_cont [1, 2, 3, 0] rfl
noncomputable def X0_change_L53 (x0 : Nat) (x1 : Int32) (x2 : Int32) (x4 : Int32) (x5 : Int32) : JM Mem ((Int32 ⊕ (Int32)) ⊕ (Int32)) :=
  if x2 ≤ x5 then
    jinl (X0_change_b92 x0 x1 x2 x4)
  else
  jb (jgetA 0 33 x0) fun v9 =>
  jb (jaldA 5 v9 x4) fun v10 =>
  jb (jgetA 0 0 x0) fun v11 =>
  jb (jaldA 9 v11 x1) fun v12 =>
  jb (jcall 5 v12 (f_X6_get v12 ((x2 * x4) + x5))) fun v13 =>
  jb (jast_i v10 x5 ((v13 : Int64).toInt32)) fun _ =>
  jcont (x5 + 1)
theorem j_X0_change_L53 (D : va_G) (dA : Nat → ClassId) (x0 : Nat) (x1 : Int32) (x2 : Int32) (x4 : Int32) (x5 : Int32) : J (PM D dA false) Y_X0_change [(0, .ref x0), (1, .int x1), (2, .int x2), (4, .int x4), (5, .int x5)] [] 53 (X0_change_L53 x0 x1 x2 x4 x5) (FLoop (FLoop (FRet injI) 44 (fun (t : Int32) => [(0, .ref x0), (1, .int x1), (2, .int x2), (4, .int t)])) 53 (fun (t : Int32) => [(0, .ref x0), (1, .int x1), (2, .int x2), (4, .int x4), (5, .int t)])) := by
  unfold X0_change_L53
  refine J_iload dX0_change_53 4 rfl ?_
  refine J_iload_n dX0_change_55 rfl 2 rfl ?_
  refine J_icmp_ge (tgt := 92) dX0_change_56 rfl ?_ ?_
  · refine J_inl ?_
    refine J_sub [0, 1, 2, 3] rfl ?_
    exact j_X0_change_b92 D dA x0 x1 x2 x4
  refine J_aload_n dX0_change_59 rfl 0 rfl ?_
  refine J_getA dX0_change_60 fl_X0_115 rfl (fun v9 => ?_)
  refine J_iload dX0_change_63 3 rfl ?_
  refine J_aald dX0_change_65 rfl (by decide) (fun v10 => ?_)
  refine J_iload dX0_change_66 4 rfl ?_
  refine J_aload_n dX0_change_68 rfl 0 rfl ?_
  refine J_getA dX0_change_69 fl_X0_11 rfl (fun v11 => ?_)
  refine J_iload_n dX0_change_72 rfl 1 rfl ?_
  refine J_aald dX0_change_73 rfl (by decide) (fun v12 => ?_)
  refine J_iload_n dX0_change_74 rfl 2 rfl ?_
  refine J_iload dX0_change_75 3 rfl ?_
  refine J_imul dX0_change_77 ?_
  refine J_iload dX0_change_78 4 rfl ?_
  refine J_iadd dX0_change_80 ?_
  refine J_callVL (c := 5) (as := [.int ((x2 * x4) + x5)]) dX0_change_81 (by decide) rfl (Nat.le_of_ble_eq_true rfl) (cw_X6_get _ (by decide)) q733 q734 q735 q736 np_X6_get (i_X6_get v12 ((x2 * x4) + x5)) jad_id rfl (fun v13 => ?_)
  refine J_l2i dX0_change_84 ?_
  refine J_iast dX0_change_85 ?_
  refine J_iinc (v := x5 + 1) (env' := [(5, .int (x5 + 1)), (0, .ref x0), (1, .int x1), (2, .int x2), (4, .int x4)]) dX0_change_86 4 rfl rfl (by decide) rfl ?_
  refine J_goto (tgt := 53) dX0_change_89 rfl ?_
  exact J_cont [1, 2, 3, 4, 0] rfl
noncomputable def X0_change_L44 (x0 : Nat) (x1 : Int32) (x2 : Int32) (x4 : Int32) : JM Mem (Int32 ⊕ (Int32)) :=
  if x2 ≤ x4 then
    jinl (X0_change_b98 x0)
  else
    jloop (fun (t : Int32) => X0_change_L53 x0 x1 x2 x4 t) 0
theorem j_X0_change_L44 (D : va_G) (dA : Nat → ClassId) (x0 : Nat) (x1 : Int32) (x2 : Int32) (x4 : Int32) : J (PM D dA false) Y_X0_change [(0, .ref x0), (1, .int x1), (2, .int x2), (4, .int x4)] [] 44 (X0_change_L44 x0 x1 x2 x4) (FLoop (FRet injI) 44 (fun (t : Int32) => [(0, .ref x0), (1, .int x1), (2, .int x2), (4, .int t)])) := by
  unfold X0_change_L44
  refine J_iload dX0_change_44 3 rfl ?_
  refine J_iload_n dX0_change_46 rfl 2 rfl ?_
  refine J_icmp_ge (tgt := 98) dX0_change_47 rfl ?_ ?_
  · refine J_inl ?_
    refine J_sub [0] rfl ?_
    exact j_X0_change_b98 D dA x0
  refine J_iconst (v := 0) dX0_change_50 (by decide) ?_
  refine J_istore (env' := [(5, .int 0), (0, .ref x0), (1, .int x1), (2, .int x2), (4, .int x4)]) dX0_change_51 (by decide) rfl ?_
  refine J_loop (he := fun (t : Int32) => [(0, .ref x0), (1, .int x1), (2, .int x2), (4, .int x4), (5, .int t)]) [1, 2, 3, 4, 0] rfl (fun t => ?_)
  exact j_X0_change_L53 D dA x0 x1 x2 x4 t
noncomputable def f_X0_change (x0 : Nat) (x1 : Int32) : JM Mem Int32 :=
  jb (jgetA 0 2 x0) fun v1 =>
  jb (jgetI 3 2 v1) fun v2 =>
  jb (jgetA 0 2 x0) fun v3 =>
  jb (jgetI 3 1 v3) fun v4 =>
  jb (jcall 0 x0 (f_X0_wrongNumbers x0 x1 (v2 * v2) 0 (v4 - 1))) fun v5 =>
  if v5 ≤ 0 then
    jb (jcall 0 x0 (f_X0_same x0)) fun _ =>
    jloop (fun (t : Int32) => X0_change_L44 x0 x1 v2 t) 0
  else
  jb (jcall 0 x0 (f_X0_is0 x0 v5)) fun v14 =>
  jrz v14
theorem j_X0_change (D : va_G) (dA : Nat → ClassId) (x0 : Nat) (x1 : Int32) : J (PM D dA false) Y_X0_change [(0, .ref x0), (1, .int x1)] [] 0 (f_X0_change x0 x1) (FRet injI) := by
  unfold f_X0_change
  refine J_aload_n dX0_change_0 rfl 0 rfl ?_
  refine J_getA dX0_change_1 fl_X0_30 rfl (fun v1 => ?_)
  refine J_getI dX0_change_4 fl_X0_196 rfl (fun v2 => ?_)
  refine J_istore_n (env' := [(2, .int v2), (0, .ref x0), (1, .int x1)]) dX0_change_7 rfl (by decide) rfl ?_
  refine J_aload_n dX0_change_8 rfl 1 rfl ?_
  refine J_iload_n dX0_change_9 rfl 2 rfl ?_
  refine J_iload_n dX0_change_10 rfl 0 rfl ?_
  refine J_iload_n dX0_change_11 rfl 0 rfl ?_
  refine J_imul dX0_change_12 ?_
  refine J_iconst (v := 0) dX0_change_13 (by decide) ?_
  refine J_aload_n dX0_change_14 rfl 1 rfl ?_
  refine J_getA dX0_change_15 fl_X0_30 rfl (fun v3 => ?_)
  refine J_getI dX0_change_18 fl_X0_253 rfl (fun v4 => ?_)
  refine J_iconst (v := 1) dX0_change_21 (by decide) ?_
  refine J_isub dX0_change_22 ?_
  refine J_callVI (c := 0) (as := [.int x1, .int (v2 * v2), .int 0, .int (v4 - 1)]) dX0_change_23 (by decide) rfl (Nat.le_of_ble_eq_true rfl) (cw_X0_wrongNumbers _ (by decide)) q1357 q1359 qs50 q1360 np_X0_wrongNumbers (i_X0_wrongNumbers x0 x1 (v2 * v2) 0 (v4 - 1)) jad_id rfl (fun v5 => ?_)
  refine J_istore_n (env' := [(3, .int v5), (2, .int v2), (0, .ref x0), (1, .int x1)]) dX0_change_26 rfl (by decide) rfl ?_
  refine J_iload_n dX0_change_27 rfl 0 rfl ?_
  refine J_if_le (tgt := 37) dX0_change_28 rfl ?_ ?_
  · refine J_aload_n dX0_change_37 rfl 2 rfl ?_
    refine J_callVV (c := 0) (as := []) dX0_change_38 (by decide) rfl (Nat.le_of_ble_eq_true rfl) (cw_X0_same _ (by decide)) q1361 q1363 qs51 q1364 np_X0_same (i_X0_same x0) jad_id rfl ?_
    refine J_iconst (v := 0) dX0_change_41 (by decide) ?_
    refine J_istore (env' := [(4, .int 0), (3, .int v5), (2, .int v2), (0, .ref x0), (1, .int x1)]) dX0_change_42 (by decide) rfl ?_
    refine J_loop (he := fun (t : Int32) => [(0, .ref x0), (1, .int x1), (2, .int v2), (4, .int t)]) [3, 4, 2, 0] rfl (fun t => ?_)
    exact j_X0_change_L44 D dA x0 x1 v2 t
  refine J_aload_n dX0_change_31 rfl 2 rfl ?_
  refine J_iload_n dX0_change_32 rfl 0 rfl ?_
  refine J_callVI (c := 0) (as := [.int v5]) dX0_change_33 (by decide) rfl (Nat.le_of_ble_eq_true rfl) (cw_X0_is0 _ (by decide)) q659 q661 qs2 q662 np_X0_is0 (i_X0_is0 x0 v5) jad_id rfl (fun v14 => ?_)
  exact J_zreturn dX0_change_36 rfl
theorem i_X0_change (x0 : Nat) (x1 : Int32) : Impl (ws_ yX0_change cX0_change 6 (some .boolean)) yX0_change 5 false 0 0 [.ref x0, .int x1] (f_X0_change x0 x1) injI := impl_of (plainFor_of_name (by decide)) (Nat.le_of_ble_eq_true rfl) (fun D dA => j_X0_change D dA x0 x1)
theorem cw_X0_change (Y : JY) (h : 6 ≤ Y.2.2.2.1) : JCw Y (ws_ yX0_change cX0_change 6 (some .boolean)) yX0_change cX0_change 6 (some .boolean) 5 := ⟨h, by decide, lw_meth q1356, q187, by decide, by decide⟩
theorem np_X0_change : JNp yX0_change.desc 1 := by decide +kernel
-- BracketRoom.squeeze(I)Z
abbrev Y_X0_squeeze : JY := (cX0_squeeze, yX0_squeeze.cls, 8, 4, yX0_squeeze.name, (some .boolean), [])
noncomputable def X0_squeeze_b225 (x0 : Nat) : JM Mem Int32 :=
  jb (jcall 0 x0 (f_X0_is0 x0 0)) fun v6 =>
  jrz v6
theorem j_X0_squeeze_b225 (D : va_G) (dA : Nat → ClassId) (x0 : Nat) : J (PM D dA false) Y_X0_squeeze [(0, .ref x0)] [] 225 (X0_squeeze_b225 x0) (FRet injI) := by
  unfold X0_squeeze_b225
  refine J_aload_n dX0_squeeze_225 rfl 0 rfl ?_
  refine J_iconst (v := 0) dX0_squeeze_226 (by decide) ?_
  refine J_callVI (c := 0) (as := [.int 0]) dX0_squeeze_227 (by decide) rfl (Nat.le_of_ble_eq_true rfl) (cw_X0_is0 _ (by decide)) q659 q661 qs2 q662 np_X0_is0 (i_X0_is0 x0 0) jad_id rfl (fun v6 => ?_)
  exact J_zreturn dX0_squeeze_230 rfl
noncomputable def X0_squeeze_b219 (x0 : Nat) (x2 : Int32) (x4 : Nat) (x5 : Int32) : JM Mem (Int32 ⊕ (Int32)) :=
  jcont (x5 + 1)
theorem j_X0_squeeze_b219 (D : va_G) (dA : Nat → ClassId) (x0 : Nat) (x2 : Int32) (x4 : Nat) (x5 : Int32) : J (PM D dA false) Y_X0_squeeze [(0, .ref x0), (2, .int x2), (4, .ref x4), (5, .int x5)] [] 219 (X0_squeeze_b219 x0 x2 x4 x5) (FLoop (FRet injI) 140 (fun (t : Int32) => [(0, .ref x0), (2, .int x2), (4, .ref x4), (5, .int t)])) := by
  unfold X0_squeeze_b219
  refine J_iinc (v := x5 + 1) (env' := [(5, .int (x5 + 1)), (0, .ref x0), (2, .int x2), (4, .ref x4)]) dX0_squeeze_219 3 rfl rfl (by decide) rfl ?_
  refine J_goto (tgt := 140) dX0_squeeze_222 rfl ?_
  exact J_cont [1, 2, 3, 0] rfl
noncomputable def X0_squeeze_b213 (x0 : Nat) (x2 : Int32) (x4 : Nat) (x5 : Int32) (x6 : Int32) : JM Mem ((Int32 ⊕ (Int32)) ⊕ (Int32)) :=
  jcont (x6 + 1)
theorem j_X0_squeeze_b213 (D : va_G) (dA : Nat → ClassId) (x0 : Nat) (x2 : Int32) (x4 : Nat) (x5 : Int32) (x6 : Int32) : J (PM D dA false) Y_X0_squeeze [(0, .ref x0), (2, .int x2), (4, .ref x4), (5, .int x5), (6, .int x6)] [] 213 (X0_squeeze_b213 x0 x2 x4 x5 x6) (FLoop (FLoop (FRet injI) 140 (fun (t : Int32) => [(0, .ref x0), (2, .int x2), (4, .ref x4), (5, .int t)])) 152 (fun (t : Int32) => [(0, .ref x0), (2, .int x2), (4, .ref x4), (5, .int x5), (6, .int t)])) := by
  unfold X0_squeeze_b213
  refine J_iinc (v := x6 + 1) (env' := [(6, .int (x6 + 1)), (0, .ref x0), (2, .int x2), (4, .ref x4), (5, .int x5)]) dX0_squeeze_213 4 rfl rfl (by decide) rfl ?_
  refine J_goto (tgt := 152) dX0_squeeze_216 rfl ?_
  exact J_cont [1, 2, 3, 4, 0] rfl
noncomputable def X0_squeeze_b207 (x0 : Nat) (x2 : Int32) (x4 : Nat) (x5 : Int32) (x6 : Int32) (x7 : Int32) : JM Mem (((Int32 ⊕ (Int32)) ⊕ (Int32)) ⊕ (Int32)) :=
  jcont (x7 + 1)
theorem j_X0_squeeze_b207 (D : va_G) (dA : Nat → ClassId) (x0 : Nat) (x2 : Int32) (x4 : Nat) (x5 : Int32) (x6 : Int32) (x7 : Int32) : J (PM D dA false) Y_X0_squeeze [(0, .ref x0), (2, .int x2), (4, .ref x4), (5, .int x5), (6, .int x6), (7, .int x7)] [] 207 (X0_squeeze_b207 x0 x2 x4 x5 x6 x7) (FLoop (FLoop (FLoop (FRet injI) 140 (fun (t : Int32) => [(0, .ref x0), (2, .int x2), (4, .ref x4), (5, .int t)])) 152 (fun (t : Int32) => [(0, .ref x0), (2, .int x2), (4, .ref x4), (5, .int x5), (6, .int t)])) 161 (fun (t : Int32) => [(0, .ref x0), (2, .int x2), (4, .ref x4), (5, .int x5), (6, .int x6), (7, .int t)])) := by
  unfold X0_squeeze_b207
  refine J_iinc (v := x7 + 1) (env' := [(7, .int (x7 + 1)), (0, .ref x0), (2, .int x2), (4, .ref x4), (5, .int x5), (6, .int x6)]) dX0_squeeze_207 5 rfl rfl (by decide) rfl ?_
  refine J_goto (tgt := 161) dX0_squeeze_210 rfl ?_
  exact J_cont [1, 2, 3, 4, 5, 0] rfl
noncomputable def X0_squeeze_L161 (x0 : Nat) (x2 : Int32) (x4 : Nat) (x5 : Int32) (x6 : Int32) (x7 : Int32) : JM Mem (((Int32 ⊕ (Int32)) ⊕ (Int32)) ⊕ (Int32)) :=
  if x2 ≤ x7 then
    jinl (X0_squeeze_b213 x0 x2 x4 x5 x6)
  else
  jb (jcall 5 x4 (f_X6_get x4 x5)) fun v8 =>
  jb (jcall 5 x4 (f_X6_get x4 x6)) fun v9 =>
  jb (jcall 5 x4 (f_X6_get x4 x7)) fun v10 =>
  if v8 + v9 ≤ v10 then
    X0_squeeze_b207 x0 x2 x4 x5 x6 x7
  else
  jb (jgetA 0 2 x0) fun v11 =>
  jb (jcall 3 v11 (f_X4_set v11 x5 x6 x7 0)) fun _ =>
  X0_squeeze_b207 x0 x2 x4 x5 x6 x7
theorem j_X0_squeeze_L161 (D : va_G) (dA : Nat → ClassId) (x0 : Nat) (x2 : Int32) (x4 : Nat) (x5 : Int32) (x6 : Int32) (x7 : Int32) : J (PM D dA false) Y_X0_squeeze [(0, .ref x0), (2, .int x2), (4, .ref x4), (5, .int x5), (6, .int x6), (7, .int x7)] [] 161 (X0_squeeze_L161 x0 x2 x4 x5 x6 x7) (FLoop (FLoop (FLoop (FRet injI) 140 (fun (t : Int32) => [(0, .ref x0), (2, .int x2), (4, .ref x4), (5, .int t)])) 152 (fun (t : Int32) => [(0, .ref x0), (2, .int x2), (4, .ref x4), (5, .int x5), (6, .int t)])) 161 (fun (t : Int32) => [(0, .ref x0), (2, .int x2), (4, .ref x4), (5, .int x5), (6, .int x6), (7, .int t)])) := by
  unfold X0_squeeze_L161
  refine J_iload dX0_squeeze_161 5 rfl ?_
  refine J_iload_n dX0_squeeze_163 rfl 1 rfl ?_
  refine J_icmp_ge (tgt := 213) dX0_squeeze_164 rfl ?_ ?_
  · refine J_inl ?_
    refine J_sub [0, 1, 2, 3, 4] rfl ?_
    exact j_X0_squeeze_b213 D dA x0 x2 x4 x5 x6
  refine J_aload dX0_squeeze_167 2 rfl ?_
  refine J_iload dX0_squeeze_169 3 rfl ?_
  refine J_callVL (c := 5) (as := [.int x5]) dX0_squeeze_171 (by decide) rfl (Nat.le_of_ble_eq_true rfl) (cw_X6_get _ (by decide)) q733 q734 q735 q736 np_X6_get (i_X6_get x4 x5) jad_id rfl (fun v8 => ?_)
  refine J_aload dX0_squeeze_174 2 rfl ?_
  refine J_iload dX0_squeeze_176 4 rfl ?_
  refine J_callVL (c := 5) (as := [.int x6]) dX0_squeeze_178 (by decide) rfl (Nat.le_of_ble_eq_true rfl) (cw_X6_get _ (by decide)) q733 q734 q735 q736 np_X6_get (i_X6_get x4 x6) jad_id rfl (fun v9 => ?_)
  refine J_ladd dX0_squeeze_181 ?_
  refine J_aload dX0_squeeze_182 2 rfl ?_
  refine J_iload dX0_squeeze_184 5 rfl ?_
  refine J_callVL (c := 5) (as := [.int x7]) dX0_squeeze_186 (by decide) rfl (Nat.le_of_ble_eq_true rfl) (cw_X6_get _ (by decide)) q733 q734 q735 q736 np_X6_get (i_X6_get x4 x7) jad_id rfl (fun v10 => ?_)
  refine J_lcmp_le (tgt := 207) dX0_squeeze_189 dX0_squeeze_190 rfl ?_ ?_
  · refine J_sub [0, 1, 2, 3, 4, 5] rfl ?_
    exact j_X0_squeeze_b207 D dA x0 x2 x4 x5 x6 x7
  refine J_aload_n dX0_squeeze_193 rfl 0 rfl ?_
  refine J_getA dX0_squeeze_194 fl_X0_30 rfl (fun v11 => ?_)
  refine J_iload dX0_squeeze_197 3 rfl ?_
  refine J_iload dX0_squeeze_199 4 rfl ?_
  refine J_iload dX0_squeeze_201 5 rfl ?_
  refine J_iconst (v := 0) dX0_squeeze_203 (by decide) ?_
  refine J_callVV (c := 3) (as := [.int x5, .int x6, .int x7, .int 0]) dX0_squeeze_204 (by decide) rfl (Nat.le_of_ble_eq_true rfl) (cw_X4_set _ (by decide)) q1031 q925 q926 q927 np_X4_set (i_X4_set v11 x5 x6 x7 0) jad_id rfl ?_
  refine J_sub [0, 1, 2, 3, 4, 5] rfl ?_
  exact j_X0_squeeze_b207 D dA x0 x2 x4 x5 x6 x7
noncomputable def X0_squeeze_L152 (x0 : Nat) (x2 : Int32) (x4 : Nat) (x5 : Int32) (x6 : Int32) : JM Mem ((Int32 ⊕ (Int32)) ⊕ (Int32)) :=
  if x2 ≤ x6 then
    jinl (X0_squeeze_b219 x0 x2 x4 x5)
  else
    jloop (fun (t : Int32) => X0_squeeze_L161 x0 x2 x4 x5 x6 t) 0
theorem j_X0_squeeze_L152 (D : va_G) (dA : Nat → ClassId) (x0 : Nat) (x2 : Int32) (x4 : Nat) (x5 : Int32) (x6 : Int32) : J (PM D dA false) Y_X0_squeeze [(0, .ref x0), (2, .int x2), (4, .ref x4), (5, .int x5), (6, .int x6)] [] 152 (X0_squeeze_L152 x0 x2 x4 x5 x6) (FLoop (FLoop (FRet injI) 140 (fun (t : Int32) => [(0, .ref x0), (2, .int x2), (4, .ref x4), (5, .int t)])) 152 (fun (t : Int32) => [(0, .ref x0), (2, .int x2), (4, .ref x4), (5, .int x5), (6, .int t)])) := by
  unfold X0_squeeze_L152
  refine J_iload dX0_squeeze_152 4 rfl ?_
  refine J_iload_n dX0_squeeze_154 rfl 1 rfl ?_
  refine J_icmp_ge (tgt := 219) dX0_squeeze_155 rfl ?_ ?_
  · refine J_inl ?_
    refine J_sub [0, 1, 2, 3] rfl ?_
    exact j_X0_squeeze_b219 D dA x0 x2 x4 x5
  refine J_iconst (v := 0) dX0_squeeze_158 (by decide) ?_
  refine J_istore (env' := [(7, .int 0), (0, .ref x0), (2, .int x2), (4, .ref x4), (5, .int x5), (6, .int x6)]) dX0_squeeze_159 (by decide) rfl ?_
  refine J_loop (he := fun (t : Int32) => [(0, .ref x0), (2, .int x2), (4, .ref x4), (5, .int x5), (6, .int x6), (7, .int t)]) [1, 2, 3, 4, 5, 0] rfl (fun t => ?_)
  exact j_X0_squeeze_L161 D dA x0 x2 x4 x5 x6 t
noncomputable def X0_squeeze_L140 (x0 : Nat) (x2 : Int32) (x4 : Nat) (x5 : Int32) : JM Mem (Int32 ⊕ (Int32)) :=
  if x2 ≤ x5 then
    jinl (X0_squeeze_b225 x0)
  else
  jlet (x5 + 1) fun y7 =>
  jloop (fun (t : Int32) => X0_squeeze_L152 x0 x2 x4 x5 t) y7
theorem j_X0_squeeze_L140 (D : va_G) (dA : Nat → ClassId) (x0 : Nat) (x2 : Int32) (x4 : Nat) (x5 : Int32) : J (PM D dA false) Y_X0_squeeze [(0, .ref x0), (2, .int x2), (4, .ref x4), (5, .int x5)] [] 140 (X0_squeeze_L140 x0 x2 x4 x5) (FLoop (FRet injI) 140 (fun (t : Int32) => [(0, .ref x0), (2, .int x2), (4, .ref x4), (5, .int t)])) := by
  unfold X0_squeeze_L140
  refine J_iload dX0_squeeze_140 3 rfl ?_
  refine J_iload_n dX0_squeeze_142 rfl 1 rfl ?_
  refine J_icmp_ge (tgt := 225) dX0_squeeze_143 rfl ?_ ?_
  · refine J_inl ?_
    refine J_sub [0] rfl ?_
    exact j_X0_squeeze_b225 D dA x0
  refine J_iload dX0_squeeze_146 3 rfl ?_
  refine J_iconst (v := 1) dX0_squeeze_148 (by decide) ?_
  refine J_iadd dX0_squeeze_149 ?_
  refine J_letI (fun y7 => ?_)
  refine J_istore (env' := [(6, .int y7), (0, .ref x0), (2, .int x2), (4, .ref x4), (5, .int x5)]) dX0_squeeze_150 (by decide) rfl ?_
  refine J_loop (he := fun (t : Int32) => [(0, .ref x0), (2, .int x2), (4, .ref x4), (5, .int x5), (6, .int t)]) [1, 2, 3, 4, 0] rfl (fun t => ?_)
  exact j_X0_squeeze_L152 D dA x0 x2 x4 x5 t
noncomputable def X0_squeeze_b137 (x0 : Nat) (x2 : Int32) (x4 : Nat) : JM Mem Int32 :=
  jloop (fun (t : Int32) => X0_squeeze_L140 x0 x2 x4 t) 0
theorem j_X0_squeeze_b137 (D : va_G) (dA : Nat → ClassId) (x0 : Nat) (x2 : Int32) (x4 : Nat) : J (PM D dA false) Y_X0_squeeze [(0, .ref x0), (2, .int x2), (4, .ref x4)] [] 137 (X0_squeeze_b137 x0 x2 x4) (FRet injI) := by
  unfold X0_squeeze_b137
  refine J_iconst (v := 0) dX0_squeeze_137 (by decide) ?_
  refine J_istore (env' := [(5, .int 0), (0, .ref x0), (2, .int x2), (4, .ref x4)]) dX0_squeeze_138 (by decide) rfl ?_
  refine J_loop (he := fun (t : Int32) => [(0, .ref x0), (2, .int x2), (4, .ref x4), (5, .int t)]) [1, 2, 3, 0] rfl (fun t => ?_)
  exact j_X0_squeeze_L140 D dA x0 x2 x4 t
noncomputable def X0_squeeze_b131 (x0 : Nat) (x2 : Int32) (x4 : Nat) (x5 : Int32) : JM Mem (Int32 ⊕ (Int32)) :=
  jcont (x5 + 1)
theorem j_X0_squeeze_b131 (D : va_G) (dA : Nat → ClassId) (x0 : Nat) (x2 : Int32) (x4 : Nat) (x5 : Int32) : J (PM D dA false) Y_X0_squeeze [(0, .ref x0), (2, .int x2), (4, .ref x4), (5, .int x5)] [] 131 (X0_squeeze_b131 x0 x2 x4 x5) (FLoop (FRet injI) 40 (fun (t : Int32) => [(0, .ref x0), (2, .int x2), (4, .ref x4), (5, .int t)])) := by
  unfold X0_squeeze_b131
  refine J_iinc (v := x5 + 1) (env' := [(5, .int (x5 + 1)), (0, .ref x0), (2, .int x2), (4, .ref x4)]) dX0_squeeze_131 3 rfl rfl (by decide) rfl ?_
  refine J_goto (tgt := 40) dX0_squeeze_134 rfl ?_
  exact J_cont [1, 2, 3, 0] rfl
noncomputable def X0_squeeze_b125 (x0 : Nat) (x2 : Int32) (x4 : Nat) (x5 : Int32) (x6 : Int32) : JM Mem ((Int32 ⊕ (Int32)) ⊕ (Int32)) :=
  jcont (x6 + 1)
theorem j_X0_squeeze_b125 (D : va_G) (dA : Nat → ClassId) (x0 : Nat) (x2 : Int32) (x4 : Nat) (x5 : Int32) (x6 : Int32) : J (PM D dA false) Y_X0_squeeze [(0, .ref x0), (2, .int x2), (4, .ref x4), (5, .int x5), (6, .int x6)] [] 125 (X0_squeeze_b125 x0 x2 x4 x5 x6) (FLoop (FLoop (FRet injI) 40 (fun (t : Int32) => [(0, .ref x0), (2, .int x2), (4, .ref x4), (5, .int t)])) 52 (fun (t : Int32) => [(0, .ref x0), (2, .int x2), (4, .ref x4), (5, .int x5), (6, .int t)])) := by
  unfold X0_squeeze_b125
  refine J_iinc (v := x6 + 1) (env' := [(6, .int (x6 + 1)), (0, .ref x0), (2, .int x2), (4, .ref x4), (5, .int x5)]) dX0_squeeze_125 4 rfl rfl (by decide) rfl ?_
  refine J_goto (tgt := 52) dX0_squeeze_128 rfl ?_
  exact J_cont [1, 2, 3, 4, 0] rfl
noncomputable def X0_squeeze_b119 (x0 : Nat) (x2 : Int32) (x4 : Nat) (x5 : Int32) (x6 : Int32) (x7 : Int32) : JM Mem (((Int32 ⊕ (Int32)) ⊕ (Int32)) ⊕ (Int32)) :=
  jcont (x7 + 1)
theorem j_X0_squeeze_b119 (D : va_G) (dA : Nat → ClassId) (x0 : Nat) (x2 : Int32) (x4 : Nat) (x5 : Int32) (x6 : Int32) (x7 : Int32) : J (PM D dA false) Y_X0_squeeze [(0, .ref x0), (2, .int x2), (4, .ref x4), (5, .int x5), (6, .int x6), (7, .int x7)] [] 119 (X0_squeeze_b119 x0 x2 x4 x5 x6 x7) (FLoop (FLoop (FLoop (FRet injI) 40 (fun (t : Int32) => [(0, .ref x0), (2, .int x2), (4, .ref x4), (5, .int t)])) 52 (fun (t : Int32) => [(0, .ref x0), (2, .int x2), (4, .ref x4), (5, .int x5), (6, .int t)])) 61 (fun (t : Int32) => [(0, .ref x0), (2, .int x2), (4, .ref x4), (5, .int x5), (6, .int x6), (7, .int t)])) := by
  unfold X0_squeeze_b119
  refine J_iinc (v := x7 + 1) (env' := [(7, .int (x7 + 1)), (0, .ref x0), (2, .int x2), (4, .ref x4), (5, .int x5), (6, .int x6)]) dX0_squeeze_119 5 rfl rfl (by decide) rfl ?_
  refine J_goto (tgt := 61) dX0_squeeze_122 rfl ?_
  exact J_cont [1, 2, 3, 4, 5, 0] rfl
noncomputable def X0_squeeze_b112 (x0 : Nat) : JM Mem Int32 :=
  jb (jcall 0 x0 (f_X0_is0 x0 9)) fun v21 =>
  jrz v21
theorem j_X0_squeeze_b112 (D : va_G) (dA : Nat → ClassId) (x0 : Nat) : J (PM D dA false) Y_X0_squeeze [(0, .ref x0)] [] 112 (X0_squeeze_b112 x0) (FRet injI) := by
  unfold X0_squeeze_b112
  refine J_aload_n dX0_squeeze_112 rfl 0 rfl ?_
  refine J_bipush (v := 9) dX0_squeeze_113 (by decide) ?_
  refine J_callVI (c := 0) (as := [.int 9]) dX0_squeeze_115 (by decide) rfl (Nat.le_of_ble_eq_true rfl) (cw_X0_is0 _ (by decide)) q659 q661 qs2 q662 np_X0_is0 (i_X0_is0 x0 9) jad_id rfl (fun v21 => ?_)
  exact J_zreturn dX0_squeeze_118 rfl
noncomputable def X0_squeeze_L61 (x0 : Nat) (x2 : Int32) (x4 : Nat) (x5 : Int32) (x6 : Int32) (x7 : Int32) : JM Mem (((Int32 ⊕ (Int32)) ⊕ (Int32)) ⊕ (Int32)) :=
  if x2 ≤ x7 then
    jinl (X0_squeeze_b125 x0 x2 x4 x5 x6)
  else
  jb (jgetA 0 2 x0) fun v13 =>
  jb (jgetA 3 0 v13) fun v14 =>
  jb (jaldA 6 v14 x5) fun v15 =>
  jb (jaldA 5 v15 x6) fun v16 =>
  jb (jald mI 0 v16 x7) fun v17 =>
  if v17 = 0 then
    X0_squeeze_b119 x0 x2 x4 x5 x6 x7
  else
  jb (jcall 5 x4 (f_X6_get x4 x5)) fun v18 =>
  jb (jcall 5 x4 (f_X6_get x4 x6)) fun v19 =>
  jb (jcall 5 x4 (f_X6_get x4 x7)) fun v20 =>
  if v20 ≤ v18 + v19 then
    X0_squeeze_b119 x0 x2 x4 x5 x6 x7
  else
    jinl (jinl (jinl (X0_squeeze_b112 x0)))
theorem j_X0_squeeze_L61 (D : va_G) (dA : Nat → ClassId) (x0 : Nat) (x2 : Int32) (x4 : Nat) (x5 : Int32) (x6 : Int32) (x7 : Int32) : J (PM D dA false) Y_X0_squeeze [(0, .ref x0), (2, .int x2), (4, .ref x4), (5, .int x5), (6, .int x6), (7, .int x7)] [] 61 (X0_squeeze_L61 x0 x2 x4 x5 x6 x7) (FLoop (FLoop (FLoop (FRet injI) 40 (fun (t : Int32) => [(0, .ref x0), (2, .int x2), (4, .ref x4), (5, .int t)])) 52 (fun (t : Int32) => [(0, .ref x0), (2, .int x2), (4, .ref x4), (5, .int x5), (6, .int t)])) 61 (fun (t : Int32) => [(0, .ref x0), (2, .int x2), (4, .ref x4), (5, .int x5), (6, .int x6), (7, .int t)])) := by
  unfold X0_squeeze_L61
  refine J_iload dX0_squeeze_61 5 rfl ?_
  refine J_iload_n dX0_squeeze_63 rfl 1 rfl ?_
  refine J_icmp_ge (tgt := 125) dX0_squeeze_64 rfl ?_ ?_
  · refine J_inl ?_
    refine J_sub [0, 1, 2, 3, 4] rfl ?_
    exact j_X0_squeeze_b125 D dA x0 x2 x4 x5 x6
  refine J_aload_n dX0_squeeze_67 rfl 0 rfl ?_
  refine J_getA dX0_squeeze_68 fl_X0_30 rfl (fun v13 => ?_)
  refine J_getA dX0_squeeze_71 fl_X0_256 rfl (fun v14 => ?_)
  refine J_iload dX0_squeeze_74 3 rfl ?_
  refine J_aald dX0_squeeze_76 rfl (by decide) (fun v15 => ?_)
  refine J_iload dX0_squeeze_77 4 rfl ?_
  refine J_aald dX0_squeeze_79 rfl (by decide) (fun v16 => ?_)
  refine J_iload dX0_squeeze_80 5 rfl ?_
  refine J_iald dX0_squeeze_82 (fun v17 => ?_)
  refine J_if_eq (tgt := 119) dX0_squeeze_83 rfl ?_ ?_
  · refine J_sub [0, 1, 2, 3, 4, 5] rfl ?_
    exact j_X0_squeeze_b119 D dA x0 x2 x4 x5 x6 x7
  refine J_aload dX0_squeeze_86 2 rfl ?_
  refine J_iload dX0_squeeze_88 3 rfl ?_
  refine J_callVL (c := 5) (as := [.int x5]) dX0_squeeze_90 (by decide) rfl (Nat.le_of_ble_eq_true rfl) (cw_X6_get _ (by decide)) q733 q734 q735 q736 np_X6_get (i_X6_get x4 x5) jad_id rfl (fun v18 => ?_)
  refine J_aload dX0_squeeze_93 2 rfl ?_
  refine J_iload dX0_squeeze_95 4 rfl ?_
  refine J_callVL (c := 5) (as := [.int x6]) dX0_squeeze_97 (by decide) rfl (Nat.le_of_ble_eq_true rfl) (cw_X6_get _ (by decide)) q733 q734 q735 q736 np_X6_get (i_X6_get x4 x6) jad_id rfl (fun v19 => ?_)
  refine J_ladd dX0_squeeze_100 ?_
  refine J_aload dX0_squeeze_101 2 rfl ?_
  refine J_iload dX0_squeeze_103 5 rfl ?_
  refine J_callVL (c := 5) (as := [.int x7]) dX0_squeeze_105 (by decide) rfl (Nat.le_of_ble_eq_true rfl) (cw_X6_get _ (by decide)) q733 q734 q735 q736 np_X6_get (i_X6_get x4 x7) jad_id rfl (fun v20 => ?_)
  refine J_lcmp_ge (tgt := 119) dX0_squeeze_108 dX0_squeeze_109 rfl ?_ ?_
  · refine J_sub [0, 1, 2, 3, 4, 5] rfl ?_
    exact j_X0_squeeze_b119 D dA x0 x2 x4 x5 x6 x7
  refine J_inl ?_
  refine J_inl ?_
  refine J_inl ?_
  refine J_sub [0] rfl ?_
  exact j_X0_squeeze_b112 D dA x0
noncomputable def X0_squeeze_L52 (x0 : Nat) (x2 : Int32) (x4 : Nat) (x5 : Int32) (x6 : Int32) : JM Mem ((Int32 ⊕ (Int32)) ⊕ (Int32)) :=
  if x2 ≤ x6 then
    jinl (X0_squeeze_b131 x0 x2 x4 x5)
  else
    jloop (fun (t : Int32) => X0_squeeze_L61 x0 x2 x4 x5 x6 t) 0
theorem j_X0_squeeze_L52 (D : va_G) (dA : Nat → ClassId) (x0 : Nat) (x2 : Int32) (x4 : Nat) (x5 : Int32) (x6 : Int32) : J (PM D dA false) Y_X0_squeeze [(0, .ref x0), (2, .int x2), (4, .ref x4), (5, .int x5), (6, .int x6)] [] 52 (X0_squeeze_L52 x0 x2 x4 x5 x6) (FLoop (FLoop (FRet injI) 40 (fun (t : Int32) => [(0, .ref x0), (2, .int x2), (4, .ref x4), (5, .int t)])) 52 (fun (t : Int32) => [(0, .ref x0), (2, .int x2), (4, .ref x4), (5, .int x5), (6, .int t)])) := by
  unfold X0_squeeze_L52
  refine J_iload dX0_squeeze_52 4 rfl ?_
  refine J_iload_n dX0_squeeze_54 rfl 1 rfl ?_
  refine J_icmp_ge (tgt := 131) dX0_squeeze_55 rfl ?_ ?_
  · refine J_inl ?_
    refine J_sub [0, 1, 2, 3] rfl ?_
    exact j_X0_squeeze_b131 D dA x0 x2 x4 x5
  refine J_iconst (v := 0) dX0_squeeze_58 (by decide) ?_
  refine J_istore (env' := [(7, .int 0), (0, .ref x0), (2, .int x2), (4, .ref x4), (5, .int x5), (6, .int x6)]) dX0_squeeze_59 (by decide) rfl ?_
  refine J_loop (he := fun (t : Int32) => [(0, .ref x0), (2, .int x2), (4, .ref x4), (5, .int x5), (6, .int x6), (7, .int t)]) [1, 2, 3, 4, 5, 0] rfl (fun t => ?_)
  exact j_X0_squeeze_L61 D dA x0 x2 x4 x5 x6 t
noncomputable def X0_squeeze_L40 (x0 : Nat) (x2 : Int32) (x4 : Nat) (x5 : Int32) : JM Mem (Int32 ⊕ (Int32)) :=
  if x2 ≤ x5 then
    jinl (X0_squeeze_b137 x0 x2 x4)
  else
  jlet (x5 + 1) fun y12 =>
  jloop (fun (t : Int32) => X0_squeeze_L52 x0 x2 x4 x5 t) y12
theorem j_X0_squeeze_L40 (D : va_G) (dA : Nat → ClassId) (x0 : Nat) (x2 : Int32) (x4 : Nat) (x5 : Int32) : J (PM D dA false) Y_X0_squeeze [(0, .ref x0), (2, .int x2), (4, .ref x4), (5, .int x5)] [] 40 (X0_squeeze_L40 x0 x2 x4 x5) (FLoop (FRet injI) 40 (fun (t : Int32) => [(0, .ref x0), (2, .int x2), (4, .ref x4), (5, .int t)])) := by
  unfold X0_squeeze_L40
  refine J_iload dX0_squeeze_40 3 rfl ?_
  refine J_iload_n dX0_squeeze_42 rfl 1 rfl ?_
  refine J_icmp_ge (tgt := 137) dX0_squeeze_43 rfl ?_ ?_
  · refine J_inl ?_
    refine J_sub [0, 1, 2] rfl ?_
    exact j_X0_squeeze_b137 D dA x0 x2 x4
  refine J_iload dX0_squeeze_46 3 rfl ?_
  refine J_iconst (v := 1) dX0_squeeze_48 (by decide) ?_
  refine J_iadd dX0_squeeze_49 ?_
  refine J_letI (fun y12 => ?_)
  refine J_istore (env' := [(6, .int y12), (0, .ref x0), (2, .int x2), (4, .ref x4), (5, .int x5)]) dX0_squeeze_50 (by decide) rfl ?_
  refine J_loop (he := fun (t : Int32) => [(0, .ref x0), (2, .int x2), (4, .ref x4), (5, .int x5), (6, .int t)]) [1, 2, 3, 4, 0] rfl (fun t => ?_)
  exact j_X0_squeeze_L52 D dA x0 x2 x4 x5 t
noncomputable def f_X0_squeeze (x0 : Nat) (x1 : Int32) : JM Mem Int32 :=
  jb (jgetA 0 2 x0) fun v1 =>
  jb (jgetI 3 2 v1) fun v2 =>
  jb (jcall 0 x0 (f_X0_wrongNumbers x0 x1 v2 (-20) 20)) fun v3 =>
  if v3 ≤ 0 then
    jb (jgetA 0 0 x0) fun v4 =>
    jb (jaldA 9 v4 x1) fun v5 =>
    jloop (fun (t : Int32) => X0_squeeze_L40 x0 v2 v5 t) 0
  else
  jb (jcall 0 x0 (f_X0_is0 x0 v3)) fun v22 =>
  jrz v22
theorem j_X0_squeeze (D : va_G) (dA : Nat → ClassId) (x0 : Nat) (x1 : Int32) : J (PM D dA false) Y_X0_squeeze [(0, .ref x0), (1, .int x1)] [] 0 (f_X0_squeeze x0 x1) (FRet injI) := by
  unfold f_X0_squeeze
  refine J_aload_n dX0_squeeze_0 rfl 0 rfl ?_
  refine J_getA dX0_squeeze_1 fl_X0_30 rfl (fun v1 => ?_)
  refine J_getI dX0_squeeze_4 fl_X0_196 rfl (fun v2 => ?_)
  refine J_istore_n (env' := [(2, .int v2), (0, .ref x0), (1, .int x1)]) dX0_squeeze_7 rfl (by decide) rfl ?_
  refine J_aload_n dX0_squeeze_8 rfl 1 rfl ?_
  refine J_iload_n dX0_squeeze_9 rfl 2 rfl ?_
  refine J_iload_n dX0_squeeze_10 rfl 0 rfl ?_
  refine J_bipush (v := (-20)) dX0_squeeze_11 (by decide) ?_
  refine J_bipush (v := 20) dX0_squeeze_13 (by decide) ?_
  refine J_callVI (c := 0) (as := [.int x1, .int v2, .int ((-20)), .int 20]) dX0_squeeze_15 (by decide) rfl (Nat.le_of_ble_eq_true rfl) (cw_X0_wrongNumbers _ (by decide)) q1357 q1359 qs50 q1360 np_X0_wrongNumbers (i_X0_wrongNumbers x0 x1 v2 (-20) 20) jad_id rfl (fun v3 => ?_)
  refine J_istore_n (env' := [(3, .int v3), (2, .int v2), (0, .ref x0), (1, .int x1)]) dX0_squeeze_18 rfl (by decide) rfl ?_
  refine J_iload_n dX0_squeeze_19 rfl 0 rfl ?_
  refine J_if_le (tgt := 29) dX0_squeeze_20 rfl ?_ ?_
  · refine J_aload_n dX0_squeeze_29 rfl 2 rfl ?_
    refine J_getA dX0_squeeze_30 fl_X0_11 rfl (fun v4 => ?_)
    refine J_iload_n dX0_squeeze_33 rfl 3 rfl ?_
    refine J_aald dX0_squeeze_34 rfl (by decide) (fun v5 => ?_)
    refine J_astore (env' := [(4, .ref v5), (3, .int v3), (2, .int v2), (0, .ref x0), (1, .int x1)]) dX0_squeeze_35 (by decide) rfl ?_
    refine J_iconst (v := 0) dX0_squeeze_37 (by decide) ?_
    refine J_istore (env' := [(5, .int 0), (4, .ref v5), (3, .int v3), (2, .int v2), (0, .ref x0), (1, .int x1)]) dX0_squeeze_38 (by decide) rfl ?_
    refine J_loop (he := fun (t : Int32) => [(0, .ref x0), (2, .int v2), (4, .ref v5), (5, .int t)]) [4, 3, 1, 0] rfl (fun t => ?_)
    exact j_X0_squeeze_L40 D dA x0 v2 v5 t
  refine J_aload_n dX0_squeeze_23 rfl 2 rfl ?_
  refine J_iload_n dX0_squeeze_24 rfl 0 rfl ?_
  refine J_callVI (c := 0) (as := [.int v3]) dX0_squeeze_25 (by decide) rfl (Nat.le_of_ble_eq_true rfl) (cw_X0_is0 _ (by decide)) q659 q661 qs2 q662 np_X0_is0 (i_X0_is0 x0 v3) jad_id rfl (fun v22 => ?_)
  exact J_zreturn dX0_squeeze_28 rfl
theorem i_X0_squeeze (x0 : Nat) (x1 : Int32) : Impl (ws_ yX0_squeeze cX0_squeeze 8 (some .boolean)) yX0_squeeze 4 false 0 0 [.ref x0, .int x1] (f_X0_squeeze x0 x1) injI := impl_of (plainFor_of_name (by decide)) (Nat.le_of_ble_eq_true rfl) (fun D dA => j_X0_squeeze D dA x0 x1)
theorem cw_X0_squeeze (Y : JY) (h : 5 ≤ Y.2.2.2.1) : JCw Y (ws_ yX0_squeeze cX0_squeeze 8 (some .boolean)) yX0_squeeze cX0_squeeze 8 (some .boolean) 4 := ⟨h, by decide, lw_meth q1377, q187, by decide, by decide⟩
theorem np_X0_squeeze : JNp yX0_squeeze.desc 1 := by decide +kernel
-- BracketRoom.barred(I)I
abbrev Y_X0_barred : JY := (cX0_barred, yX0_barred.cls, 4, 8, yX0_barred.name, (some .int), [])
noncomputable def X0_barred_b113 (s0 : Nat) (s1 : Int32) : JM Mem Int32 :=
  jb (jcall 0 s0 (f_X0_gives s0 s1)) fun v13 =>
  jp v13
theorem j_X0_barred_b113 (D : va_G) (dA : Nat → ClassId) (s0 : Nat) (s1 : Int32) : J (PM D dA false) Y_X0_barred [] [.int s1, .ref s0] 113 (X0_barred_b113 s0 s1) (FRet injI) := by
  unfold X0_barred_b113
  refine J_callVI (c := 0) (as := [.int s1]) dX0_barred_113 (by decide) rfl (Nat.le_of_ble_eq_true rfl) (cw_X0_gives _ (by decide)) q944 q946 qs9 q947 np_X0_gives (i_X0_gives s0 s1) jad_id rfl (fun v13 => ?_)
  exact J_ireturn dX0_barred_116 rfl
noncomputable def X0_barred_b28 (x0 : Nat) (x1 : Int32) (x2 : Int32) : JM Mem Int32 :=
  if x2 ≤ 0 then
    jb (jgetA 0 4 x0) fun v2 =>
    jb (jaldA 7 v2 x1) fun v3 =>
    jb (jcall 0 x0 (f_X0_derivationsOf x0 v3)) fun v4 =>
    jb (jgetA 0 2 x0) fun v5 =>
    jb (jcall 0 x0 (f_X0_derivationsOf x0 v5)) fun v6 =>
    if v6 ≤ v4 then
      jb (jcall 0 x0 (f_X0_derivedOf x0 v3 1)) fun v7 =>
      jb (jgetA 0 2 x0) fun v8 =>
      jb (jcall 0 x0 (f_X0_derivedOf x0 v8 1)) fun v9 =>
      if v7 ≤ v9 then
        jb (jcall 0 x0 (f_X0_centreOf x0 v3)) fun v10 =>
        jb (jgetA 0 2 x0) fun v11 =>
        jb (jcall 0 x0 (f_X0_centreOf x0 v11)) fun v12 =>
        if v12 ≤ v10 then
          X0_barred_b113 x0 0
        else
          X0_barred_b113 x0 3
      else
      jb (jcall 0 x0 (f_X0_gives x0 2)) fun v14 =>
      jp v14
    else
    jb (jcall 0 x0 (f_X0_gives x0 1)) fun v15 =>
    jp v15
  else
  jb (jcall 0 x0 (f_X0_none x0 x2)) fun v16 =>
  jp v16
theorem j_X0_barred_b28 (D : va_G) (dA : Nat → ClassId) (x0 : Nat) (x1 : Int32) (x2 : Int32) : J (PM D dA false) Y_X0_barred [(0, .ref x0), (1, .int x1), (2, .int x2)] [] 28 (X0_barred_b28 x0 x1 x2) (FRet injI) := by
  unfold X0_barred_b28
  refine J_iload_n dX0_barred_28 rfl 2 rfl ?_
  refine J_if_le (tgt := 38) dX0_barred_29 rfl ?_ ?_
  · refine J_aload_n dX0_barred_38 rfl 0 rfl ?_
    refine J_getA dX0_barred_39 fl_X0_37 rfl (fun v2 => ?_)
    refine J_iload_n dX0_barred_42 rfl 1 rfl ?_
    refine J_aald dX0_barred_43 rfl (by decide) (fun v3 => ?_)
    refine J_astore_n (env' := [(3, .ref v3), (0, .ref x0), (1, .int x1), (2, .int x2)]) dX0_barred_44 rfl (by decide) rfl ?_
    refine J_aload_n dX0_barred_45 rfl 1 rfl ?_
    refine J_aload_n dX0_barred_46 rfl 0 rfl ?_
    refine J_callVI (c := 0) (as := [.ref v3]) dX0_barred_47 (by decide) rfl (Nat.le_of_ble_eq_true rfl) (cw_X0_derivationsOf _ (by decide)) q1274 q1276 qs40 q1277 np_X0_derivationsOf (i_X0_derivationsOf x0 v3) jad_id rfl (fun v4 => ?_)
    refine J_aload_n dX0_barred_50 rfl 1 rfl ?_
    refine J_aload_n dX0_barred_51 rfl 1 rfl ?_
    refine J_getA dX0_barred_52 fl_X0_30 rfl (fun v5 => ?_)
    refine J_callVI (c := 0) (as := [.ref v5]) dX0_barred_55 (by decide) rfl (Nat.le_of_ble_eq_true rfl) (cw_X0_derivationsOf _ (by decide)) q1274 q1276 qs40 q1277 np_X0_derivationsOf (i_X0_derivationsOf x0 v5) jad_id rfl (fun v6 => ?_)
    refine J_icmp_ge (tgt := 67) dX0_barred_58 rfl ?_ ?_
    · refine J_aload_n dX0_barred_67 rfl 1 rfl ?_
      refine J_aload_n dX0_barred_68 rfl 0 rfl ?_
      refine J_iconst (v := 1) dX0_barred_69 (by decide) ?_
      refine J_callVI (c := 0) (as := [.ref v3, .int 1]) dX0_barred_70 (by decide) rfl (Nat.le_of_ble_eq_true rfl) (cw_X0_derivedOf _ (by decide)) q1142 q1144 qs22 q1145 np_X0_derivedOf (i_X0_derivedOf x0 v3 1) jad_id rfl (fun v7 => ?_)
      refine J_aload_n dX0_barred_73 rfl 1 rfl ?_
      refine J_aload_n dX0_barred_74 rfl 1 rfl ?_
      refine J_getA dX0_barred_75 fl_X0_30 rfl (fun v8 => ?_)
      refine J_iconst (v := 1) dX0_barred_78 (by decide) ?_
      refine J_callVI (c := 0) (as := [.ref v8, .int 1]) dX0_barred_79 (by decide) rfl (Nat.le_of_ble_eq_true rfl) (cw_X0_derivedOf _ (by decide)) q1142 q1144 qs22 q1145 np_X0_derivedOf (i_X0_derivedOf x0 v8 1) jad_id rfl (fun v9 => ?_)
      refine J_icmp_le (tgt := 91) dX0_barred_82 rfl ?_ ?_
      · refine J_aload_n dX0_barred_91 rfl 1 rfl ?_
        refine J_aload_n dX0_barred_92 rfl 1 rfl ?_
        refine J_aload_n dX0_barred_93 rfl 0 rfl ?_
        refine J_callVI (c := 0) (as := [.ref v3]) dX0_barred_94 (by decide) rfl (Nat.le_of_ble_eq_true rfl) (cw_X0_centreOf _ (by decide)) q1166 q1168 qs25 q1169 np_X0_centreOf (i_X0_centreOf x0 v3) jad_id rfl (fun v10 => ?_)
        refine J_aload_n dX0_barred_97 rfl 1 rfl ?_
        refine J_aload_n dX0_barred_98 rfl 1 rfl ?_
        refine J_getA dX0_barred_99 fl_X0_30 rfl (fun v11 => ?_)
        refine J_callVI (c := 0) (as := [.ref v11]) dX0_barred_102 (by decide) rfl (Nat.le_of_ble_eq_true rfl) (cw_X0_centreOf _ (by decide)) q1166 q1168 qs25 q1169 np_X0_centreOf (i_X0_centreOf x0 v11) jad_id rfl (fun v12 => ?_)
        refine J_icmp_ge (tgt := 112) dX0_barred_105 rfl ?_ ?_
        · refine J_iconst (v := 0) dX0_barred_112 (by decide) ?_
          refine J_sub [] rfl ?_
          exact j_X0_barred_b113 D dA x0 0
        refine J_iconst (v := 3) dX0_barred_108 (by decide) ?_
        refine J_goto (tgt := 113) dX0_barred_109 rfl ?_
        refine J_sub [] rfl ?_
        exact j_X0_barred_b113 D dA x0 3
      refine J_aload_n dX0_barred_85 rfl 1 rfl ?_
      refine J_iconst (v := 2) dX0_barred_86 (by decide) ?_
      refine J_callVI (c := 0) (as := [.int 2]) dX0_barred_87 (by decide) rfl (Nat.le_of_ble_eq_true rfl) (cw_X0_gives _ (by decide)) q944 q946 qs9 q947 np_X0_gives (i_X0_gives x0 2) jad_id rfl (fun v14 => ?_)
      exact J_ireturn dX0_barred_90 rfl
    refine J_aload_n dX0_barred_61 rfl 1 rfl ?_
    refine J_iconst (v := 1) dX0_barred_62 (by decide) ?_
    refine J_callVI (c := 0) (as := [.int 1]) dX0_barred_63 (by decide) rfl (Nat.le_of_ble_eq_true rfl) (cw_X0_gives _ (by decide)) q944 q946 qs9 q947 np_X0_gives (i_X0_gives x0 1) jad_id rfl (fun v15 => ?_)
    exact J_ireturn dX0_barred_66 rfl
  refine J_aload_n dX0_barred_32 rfl 0 rfl ?_
  refine J_iload_n dX0_barred_33 rfl 2 rfl ?_
  refine J_callVI (c := 0) (as := [.int x2]) dX0_barred_34 (by decide) rfl (Nat.le_of_ble_eq_true rfl) (cw_X0_none _ (by decide)) q729 q731 qs3 q732 np_X0_none (i_X0_none x0 x2) jad_id rfl (fun v16 => ?_)
  exact J_ireturn dX0_barred_37 rfl
noncomputable def f_X0_barred (x0 : Nat) (x1 : Int32) : JM Mem Int32 :=
  jb (jcall 0 x0 (f_X0_noShelf x0 x1)) fun v1 =>
  if v1 = 0 then
    jb (jgetA 0 2 x0) fun v17 =>
    jb (jgetA 0 4 x0) fun v18 =>
    jb (jaldA 7 v18 x1) fun v19 =>
    jb (jcall 3 v17 (f_X4_isLike v17 v19)) fun v20 =>
    if v20 = 0 then
      X0_barred_b28 x0 x1 5
    else
      X0_barred_b28 x0 x1 v1
  else
    X0_barred_b28 x0 x1 v1
theorem j_X0_barred (D : va_G) (dA : Nat → ClassId) (x0 : Nat) (x1 : Int32) : J (PM D dA false) Y_X0_barred [(0, .ref x0), (1, .int x1)] [] 0 (f_X0_barred x0 x1) (FRet injI) := by
  unfold f_X0_barred
  refine J_aload_n dX0_barred_0 rfl 0 rfl ?_
  refine J_iload_n dX0_barred_1 rfl 1 rfl ?_
  refine J_callVI (c := 0) (as := [.int x1]) dX0_barred_2 (by decide) rfl (Nat.le_of_ble_eq_true rfl) (cw_X0_noShelf _ (by decide)) q1087 q1089 qs17 q1090 np_X0_noShelf (i_X0_noShelf x0 x1) jad_id rfl (fun v1 => ?_)
  refine J_istore_n (env' := [(2, .int v1), (0, .ref x0), (1, .int x1)]) dX0_barred_5 rfl (by decide) rfl ?_
  refine J_iload_n dX0_barred_6 rfl 0 rfl ?_
  refine J_if_ne (tgt := 28) dX0_barred_7 rfl ?_ ?_
  · refine J_sub [1, 2, 0] rfl ?_
    exact j_X0_barred_b28 D dA x0 x1 v1
  refine J_aload_n dX0_barred_10 rfl 1 rfl ?_
  refine J_getA dX0_barred_11 fl_X0_30 rfl (fun v17 => ?_)
  refine J_aload_n dX0_barred_14 rfl 1 rfl ?_
  refine J_getA dX0_barred_15 fl_X0_37 rfl (fun v18 => ?_)
  refine J_iload_n dX0_barred_18 rfl 2 rfl ?_
  refine J_aald dX0_barred_19 rfl (by decide) (fun v19 => ?_)
  refine J_callVI (c := 3) (as := [.ref v19]) dX0_barred_20 (by decide) rfl (Nat.le_of_ble_eq_true rfl) (cw_X4_isLike _ (by decide)) q1320 q1321 q1322 q1323 np_X4_isLike (i_X4_isLike v17 v19) jad_id rfl (fun v20 => ?_)
  refine J_if_ne (tgt := 28) dX0_barred_23 rfl ?_ ?_
  · refine J_sub [1, 2, 0] rfl ?_
    exact j_X0_barred_b28 D dA x0 x1 v1
  refine J_iconst (v := 5) dX0_barred_26 (by decide) ?_
  refine J_istore_n (env' := [(2, .int 5), (0, .ref x0), (1, .int x1)]) dX0_barred_27 rfl (by decide) rfl ?_
  refine J_sub [1, 2, 0] rfl ?_
  exact j_X0_barred_b28 D dA x0 x1 5
theorem i_X0_barred (x0 : Nat) (x1 : Int32) : Impl (ws_ yX0_barred cX0_barred 4 (some .int)) yX0_barred 8 false 0 0 [.ref x0, .int x1] (f_X0_barred x0 x1) injI := impl_of (plainFor_of_name (by decide)) (Nat.le_of_ble_eq_true rfl) (fun D dA => j_X0_barred D dA x0 x1)
theorem cw_X0_barred (Y : JY) (h : 9 ≤ Y.2.2.2.1) : JCw Y (ws_ yX0_barred cX0_barred 4 (some .int)) yX0_barred cX0_barred 4 (some .int) 8 := ⟨h, by decide, lw_meth q1381, q187, by decide, by decide⟩
theorem np_X0_barred : JNp yX0_barred.desc 1 := by decide +kernel
-- BracketRoom.couples()I
abbrev Y_X0_couples : JY := (cX0_couples, yX0_couples.cls, 1, 1, yX0_couples.name, (some .int), [])
noncomputable def f_X0_couples (x0 : Nat) : JM Mem Int32 :=
  jb (jgetA 0 2 x0) fun v1 =>
  jb (jgetI 3 2 v1) fun v2 =>
  jb (jgetA 0 2 x0) fun v3 =>
  jb (jgetI 3 2 v3) fun v4 =>
  jb (jdiv (v2 * (v4 - 1)) 2) fun v5 =>
  jp v5
theorem j_X0_couples (D : va_G) (dA : Nat → ClassId) (x0 : Nat) : J (PM D dA false) Y_X0_couples [(0, .ref x0)] [] 0 (f_X0_couples x0) (FRet injI) := by
  unfold f_X0_couples
  refine J_aload_n dX0_couples_0 rfl 0 rfl ?_
  refine J_getA dX0_couples_1 fl_X0_30 rfl (fun v1 => ?_)
  refine J_getI dX0_couples_4 fl_X0_196 rfl (fun v2 => ?_)
  refine J_aload_n dX0_couples_7 rfl 0 rfl ?_
  refine J_getA dX0_couples_8 fl_X0_30 rfl (fun v3 => ?_)
  refine J_getI dX0_couples_11 fl_X0_196 rfl (fun v4 => ?_)
  refine J_iconst (v := 1) dX0_couples_14 (by decide) ?_
  refine J_isub dX0_couples_15 ?_
  refine J_imul dX0_couples_16 ?_
  refine J_iconst (v := 2) dX0_couples_17 (by decide) ?_
  refine J_idiv dX0_couples_18 (fun v5 => ?_)
  exact J_ireturn dX0_couples_19 rfl
theorem i_X0_couples (x0 : Nat) : Impl (ws_ yX0_couples cX0_couples 1 (some .int)) yX0_couples 1 false 0 0 [.ref x0] (f_X0_couples x0) injI := impl_of (plainFor_of_name (by decide)) (Nat.le_of_ble_eq_true rfl) (fun D dA => j_X0_couples D dA x0)
theorem cw_X0_couples (Y : JY) (h : 2 ≤ Y.2.2.2.1) : JCw Y (ws_ yX0_couples cX0_couples 1 (some .int)) yX0_couples cX0_couples 1 (some .int) 1 := ⟨h, by decide, lw_meth q1389, q187, by decide, by decide⟩
theorem np_X0_couples : JNp yX0_couples.desc 0 := by decide +kernel
-- BracketRoom.reads(I)V
abbrev Y_X0_reads : JY := (cX0_reads, yX0_reads.cls, 5, 3, yX0_reads.name, none, [])
noncomputable def X0_reads_b87 (x0 : Nat) (x1 : Int32) (x2 : Int32) (x3 : Int32) : JM Mem (Unit ⊕ (Int32 × Int32)) :=
  jb (jgetA 0 36 x0) fun v6 =>
  jb (jaldA 5 v6 x3) fun v7 =>
  jb (jast_i v7 x3 0) fun _ =>
  jcont (x2, x3 + 1)
theorem j_X0_reads_b87 (D : va_G) (dA : Nat → ClassId) (x0 : Nat) (x1 : Int32) (x2 : Int32) (x3 : Int32) : J (PM D dA false) Y_X0_reads [(0, .ref x0), (1, .int x1), (2, .int x2), (3, .int x3)] [] 87 (X0_reads_b87 x0 x1 x2 x3) (FLoop (FRet injU) 4 (fun (t : Int32 × Int32) => [(0, .ref x0), (1, .int x1), (2, .int t.1), (3, .int t.2)])) := by
  unfold X0_reads_b87
  refine J_aload_n dX0_reads_87 rfl 0 rfl ?_
  refine J_getA dX0_reads_88 fl_X0_124 rfl (fun v6 => ?_)
  refine J_iload_n dX0_reads_91 rfl 3 rfl ?_
  refine J_aald dX0_reads_92 rfl (by decide) (fun v7 => ?_)
  refine J_iload_n dX0_reads_93 rfl 3 rfl ?_
  refine J_iconst (v := 0) dX0_reads_94 (by decide) ?_
  refine J_iast dX0_reads_95 ?_
  refine J_iinc (v := x3 + 1) (env' := [(3, .int (x3 + 1)), (0, .ref x0), (1, .int x1), (2, .int x2)]) dX0_reads_96 3 rfl rfl (by decide) rfl ?_
  refine J_goto (tgt := 4) dX0_reads_99 rfl ?_
  exact J_cont [1, 2, 3, 0] rfl
noncomputable def X0_reads_L20 (x0 : Nat) (x1 : Int32) (x3 : Int32) (x2 : Int32) (x4 : Int32) : JM Mem ((Unit ⊕ (Int32 × Int32)) ⊕ (Int32 × Int32)) :=
  jb (jgetA 0 2 x0) fun v4 =>
  jb (jgetI 3 2 v4) fun v5 =>
  if v5 ≤ x4 then
    jinl (X0_reads_b87 x0 x1 x2 x3)
  else
  jb (jgetA 0 36 x0) fun v8 =>
  jb (jaldA 5 v8 x3) fun v9 =>
  jb (jgetA 0 0 x0) fun v10 =>
  jb (jaldA 9 v10 x1) fun v11 =>
  jb (jcall 5 v11 (f_X6_get v11 x2)) fun v12 =>
  jb (jast_i v9 x4 ((v12 : Int64).toInt32)) fun _ =>
  jb (jgetA 0 36 x0) fun v13 =>
  jb (jaldA 5 v13 x4) fun v14 =>
  jb (jgetA 0 2 x0) fun v15 =>
  jb (jgetA 0 36 x0) fun v16 =>
  jb (jaldA 5 v16 x3) fun v17 =>
  jb (jald mI 0 v17 x4) fun v18 =>
  jb (jcall 3 v15 (f_X4_by v15 (-v18))) fun v19 =>
  jb (jast_i v14 x3 v19) fun _ =>
  jcont (x2 + 1, x4 + 1)
theorem j_X0_reads_L20 (D : va_G) (dA : Nat → ClassId) (x0 : Nat) (x1 : Int32) (x3 : Int32) (x2 : Int32) (x4 : Int32) : J (PM D dA false) Y_X0_reads [(0, .ref x0), (1, .int x1), (2, .int x2), (3, .int x3), (4, .int x4)] [] 20 (X0_reads_L20 x0 x1 x3 x2 x4) (FLoop (FLoop (FRet injU) 4 (fun (t : Int32 × Int32) => [(0, .ref x0), (1, .int x1), (2, .int t.1), (3, .int t.2)])) 20 (fun (t : Int32 × Int32) => [(0, .ref x0), (1, .int x1), (2, .int t.1), (3, .int x3), (4, .int t.2)])) := by
  unfold X0_reads_L20
  refine J_iload dX0_reads_20 4 rfl ?_
  refine J_aload_n dX0_reads_22 rfl 0 rfl ?_
  refine J_getA dX0_reads_23 fl_X0_30 rfl (fun v4 => ?_)
  refine J_getI dX0_reads_26 fl_X0_196 rfl (fun v5 => ?_)
  refine J_icmp_ge (tgt := 87) dX0_reads_29 rfl ?_ ?_
  · refine J_inl ?_
    refine J_sub [0, 1, 2, 3] rfl ?_
    exact j_X0_reads_b87 D dA x0 x1 x2 x3
  refine J_aload_n dX0_reads_32 rfl 0 rfl ?_
  refine J_getA dX0_reads_33 fl_X0_124 rfl (fun v8 => ?_)
  refine J_iload_n dX0_reads_36 rfl 3 rfl ?_
  refine J_aald dX0_reads_37 rfl (by decide) (fun v9 => ?_)
  refine J_iload dX0_reads_38 4 rfl ?_
  refine J_aload_n dX0_reads_40 rfl 0 rfl ?_
  refine J_getA dX0_reads_41 fl_X0_11 rfl (fun v10 => ?_)
  refine J_iload_n dX0_reads_44 rfl 1 rfl ?_
  refine J_aald dX0_reads_45 rfl (by decide) (fun v11 => ?_)
  refine J_iload_n dX0_reads_46 rfl 2 rfl ?_
  refine J_callVL (c := 5) (as := [.int x2]) dX0_reads_47 (by decide) rfl (Nat.le_of_ble_eq_true rfl) (cw_X6_get _ (by decide)) q733 q734 q735 q736 np_X6_get (i_X6_get v11 x2) jad_id rfl (fun v12 => ?_)
  refine J_l2i dX0_reads_50 ?_
  refine J_iast dX0_reads_51 ?_
  refine J_aload_n dX0_reads_52 rfl 0 rfl ?_
  refine J_getA dX0_reads_53 fl_X0_124 rfl (fun v13 => ?_)
  refine J_iload dX0_reads_56 4 rfl ?_
  refine J_aald dX0_reads_58 rfl (by decide) (fun v14 => ?_)
  refine J_iload_n dX0_reads_59 rfl 3 rfl ?_
  refine J_aload_n dX0_reads_60 rfl 0 rfl ?_
  refine J_getA dX0_reads_61 fl_X0_30 rfl (fun v15 => ?_)
  refine J_aload_n dX0_reads_64 rfl 0 rfl ?_
  refine J_getA dX0_reads_65 fl_X0_124 rfl (fun v16 => ?_)
  refine J_iload_n dX0_reads_68 rfl 3 rfl ?_
  refine J_aald dX0_reads_69 rfl (by decide) (fun v17 => ?_)
  refine J_iload dX0_reads_70 4 rfl ?_
  refine J_iald dX0_reads_72 (fun v18 => ?_)
  refine J_ineg dX0_reads_73 ?_
  refine J_callVI (c := 3) (as := [.int (-v18)]) dX0_reads_74 (by decide) rfl (Nat.le_of_ble_eq_true rfl) (cw_X4_by _ (by decide)) q1067 q929 q930 q931 np_X4_by (i_X4_by v15 (-v18)) jad_id rfl (fun v19 => ?_)
  refine J_iast dX0_reads_77 ?_
  refine J_iinc (v := x2 + 1) (env' := [(2, .int (x2 + 1)), (0, .ref x0), (1, .int x1), (3, .int x3), (4, .int x4)]) dX0_reads_78 2 rfl rfl (by decide) rfl ?_
  refine J_iinc (v := x4 + 1) (env' := [(4, .int (x4 + 1)), (2, .int (x2 + 1)), (0, .ref x0), (1, .int x1), (3, .int x3)]) dX0_reads_81 4 rfl rfl (by decide) rfl ?_
  refine J_goto (tgt := 20) dX0_reads_84 rfl ?_
  exact J_cont [2, 3, 1, 4, 0] rfl
noncomputable def X0_reads_L4 (x0 : Nat) (x1 : Int32) (x2 : Int32) (x3 : Int32) : JM Mem (Unit ⊕ (Int32 × Int32)) :=
  jb (jgetA 0 2 x0) fun v1 =>
  jb (jgetI 3 2 v1) fun v2 =>
  if v2 ≤ x3 then
    jinl (jp ())
  else
  jlet (x3 + 1) fun y3 =>
  jloop (fun (t : Int32 × Int32) => X0_reads_L20 x0 x1 x3 t.1 t.2) (x2, y3)
theorem j_X0_reads_L4 (D : va_G) (dA : Nat → ClassId) (x0 : Nat) (x1 : Int32) (x2 : Int32) (x3 : Int32) : J (PM D dA false) Y_X0_reads [(0, .ref x0), (1, .int x1), (2, .int x2), (3, .int x3)] [] 4 (X0_reads_L4 x0 x1 x2 x3) (FLoop (FRet injU) 4 (fun (t : Int32 × Int32) => [(0, .ref x0), (1, .int x1), (2, .int t.1), (3, .int t.2)])) := by
  unfold X0_reads_L4
  refine J_iload_n dX0_reads_4 rfl 3 rfl ?_
  refine J_aload_n dX0_reads_5 rfl 0 rfl ?_
  refine J_getA dX0_reads_6 fl_X0_30 rfl (fun v1 => ?_)
  refine J_getI dX0_reads_9 fl_X0_196 rfl (fun v2 => ?_)
  refine J_icmp_ge (tgt := 102) dX0_reads_12 rfl ?_ ?_
  · refine J_inl ?_
    exact J_return dX0_reads_102 rfl
  refine J_iload_n dX0_reads_15 rfl 3 rfl ?_
  refine J_iconst (v := 1) dX0_reads_16 (by decide) ?_
  refine J_iadd dX0_reads_17 ?_
  refine J_letI (fun y3 => ?_)
  refine J_istore (env' := [(4, .int y3), (0, .ref x0), (1, .int x1), (2, .int x2), (3, .int x3)]) dX0_reads_18 (by decide) rfl ?_
  refine J_loop (he := fun (t : Int32 × Int32) => [(0, .ref x0), (1, .int x1), (2, .int t.1), (3, .int x3), (4, .int t.2)]) [1, 2, 3, 4, 0] rfl (fun t => ?_)
  exact j_X0_reads_L20 D dA x0 x1 x3 t.1 t.2
noncomputable def f_X0_reads (x0 : Nat) (x1 : Int32) : JM Mem Unit :=
  jloop (fun (t : Int32 × Int32) => X0_reads_L4 x0 x1 t.1 t.2) (0, 0)
theorem j_X0_reads (D : va_G) (dA : Nat → ClassId) (x0 : Nat) (x1 : Int32) : J (PM D dA false) Y_X0_reads [(0, .ref x0), (1, .int x1)] [] 0 (f_X0_reads x0 x1) (FRet injU) := by
  unfold f_X0_reads
  refine J_iconst (v := 0) dX0_reads_0 (by decide) ?_
  refine J_istore_n (env' := [(2, .int 0), (0, .ref x0), (1, .int x1)]) dX0_reads_1 rfl (by decide) rfl ?_
  refine J_iconst (v := 0) dX0_reads_2 (by decide) ?_
  refine J_istore_n (env' := [(3, .int 0), (2, .int 0), (0, .ref x0), (1, .int x1)]) dX0_reads_3 rfl (by decide) rfl ?_
  refine J_loop (he := fun (t : Int32 × Int32) => [(0, .ref x0), (1, .int x1), (2, .int t.1), (3, .int t.2)]) [2, 3, 1, 0] rfl (fun t => ?_)
  exact j_X0_reads_L4 D dA x0 x1 t.1 t.2
theorem i_X0_reads (x0 : Nat) (x1 : Int32) : Impl (ws_ yX0_reads cX0_reads 5 none) yX0_reads 3 false 0 0 [.ref x0, .int x1] (f_X0_reads x0 x1) injU := impl_of (plainFor_of_name (by decide)) (Nat.le_of_ble_eq_true rfl) (fun D dA => j_X0_reads D dA x0 x1)
theorem cw_X0_reads (Y : JY) (h : 4 ≤ Y.2.2.2.1) : JCw Y (ws_ yX0_reads cX0_reads 5 none) yX0_reads cX0_reads 5 none 3 := ⟨h, by decide, lw_meth q1393, q187, by decide, by decide⟩
theorem np_X0_reads : JNp yX0_reads.desc 1 := by decide +kernel
-- BracketRoom.isClosed()Z
abbrev Y_X0_isClosed : JY := (cX0_isClosed, yX0_isClosed.cls, 7, 3, yX0_isClosed.name, (some .boolean), [])
noncomputable def X0_isClosed_b161 (x0 : Nat) (x1 : Int32) (x2 : Int32) : JM Mem (Int32 ⊕ (Int32)) :=
  jcont (x2 + 1)
theorem j_X0_isClosed_b161 (D : va_G) (dA : Nat → ClassId) (x0 : Nat) (x1 : Int32) (x2 : Int32) : J (PM D dA false) Y_X0_isClosed [(0, .ref x0), (1, .int x1), (2, .int x2)] [] 161 (X0_isClosed_b161 x0 x1 x2) (FLoop (FRet injI) 10 (fun (t : Int32) => [(0, .ref x0), (1, .int x1), (2, .int t)])) := by
  unfold X0_isClosed_b161
  refine J_iinc (v := x2 + 1) (env' := [(2, .int (x2 + 1)), (0, .ref x0), (1, .int x1)]) dX0_isClosed_161 2 rfl rfl (by decide) rfl ?_
  refine J_goto (tgt := 10) dX0_isClosed_164 rfl ?_
  exact J_cont [1, 2, 0] rfl
noncomputable def X0_isClosed_b155 (x0 : Nat) (x1 : Int32) (x2 : Int32) (x3 : Int32) : JM Mem ((Int32 ⊕ (Int32)) ⊕ (Int32)) :=
  jcont (x3 + 1)
theorem j_X0_isClosed_b155 (D : va_G) (dA : Nat → ClassId) (x0 : Nat) (x1 : Int32) (x2 : Int32) (x3 : Int32) : J (PM D dA false) Y_X0_isClosed [(0, .ref x0), (1, .int x1), (2, .int x2), (3, .int x3)] [] 155 (X0_isClosed_b155 x0 x1 x2 x3) (FLoop (FLoop (FRet injI) 10 (fun (t : Int32) => [(0, .ref x0), (1, .int x1), (2, .int t)])) 19 (fun (t : Int32) => [(0, .ref x0), (1, .int x1), (2, .int x2), (3, .int t)])) := by
  unfold X0_isClosed_b155
  refine J_iinc (v := x3 + 1) (env' := [(3, .int (x3 + 1)), (0, .ref x0), (1, .int x1), (2, .int x2)]) dX0_isClosed_155 3 rfl rfl (by decide) rfl ?_
  refine J_goto (tgt := 19) dX0_isClosed_158 rfl ?_
  exact J_cont [1, 2, 3, 0] rfl
noncomputable def X0_isClosed_b135 (x0 : Nat) (x1 : Int32) (x2 : Int32) (x3 : Int32) (x4 : Int32) (x5 : Int32) : JM Mem (((Int32 ⊕ (Int32)) ⊕ (Int32)) ⊕ (Int32)) :=
  jb (jgetA 0 2 x0) fun v5 =>
  jb (jcall 3 v5 (f_X4_by v5 x5)) fun v6 =>
  if v6 = 0 then
    jcont (x4 + 1)
  else
    jinl (jinl (jinl (jp 0)))
theorem j_X0_isClosed_b135 (D : va_G) (dA : Nat → ClassId) (x0 : Nat) (x1 : Int32) (x2 : Int32) (x3 : Int32) (x4 : Int32) (x5 : Int32) : J (PM D dA false) Y_X0_isClosed [(0, .ref x0), (1, .int x1), (2, .int x2), (3, .int x3), (4, .int x4), (5, .int x5)] [] 135 (X0_isClosed_b135 x0 x1 x2 x3 x4 x5) (FLoop (FLoop (FLoop (FRet injI) 10 (fun (t : Int32) => [(0, .ref x0), (1, .int x1), (2, .int t)])) 19 (fun (t : Int32) => [(0, .ref x0), (1, .int x1), (2, .int x2), (3, .int t)])) 29 (fun (t : Int32) => [(0, .ref x0), (1, .int x1), (2, .int x2), (3, .int x3), (4, .int t)])) := by
  unfold X0_isClosed_b135
  refine J_aload_n dX0_isClosed_135 rfl 0 rfl ?_
  refine J_getA dX0_isClosed_136 fl_X0_30 rfl (fun v5 => ?_)
  refine J_iload dX0_isClosed_139 5 rfl ?_
  refine J_callVI (c := 3) (as := [.int x5]) dX0_isClosed_141 (by decide) rfl (Nat.le_of_ble_eq_true rfl) (cw_X4_by _ (by decide)) q1067 q929 q930 q931 np_X4_by (i_X4_by v5 x5) jad_id rfl (fun v6 => ?_)
  refine J_if_eq (tgt := 149) dX0_isClosed_144 rfl ?_ ?_
  · refine J_iinc (v := x4 + 1) (env' := [(4, .int (x4 + 1)), (0, .ref x0), (1, .int x1), (2, .int x2), (3, .int x3), (5, .int x5)]) dX0_isClosed_149 4 rfl rfl (by decide) rfl ?_
    refine J_goto (tgt := 29) dX0_isClosed_152 rfl ?_
    exact J_cont [1, 2, 3, 4, 0] rfl
  refine J_inl ?_
  refine J_inl ?_
  refine J_inl ?_
  refine J_iconst (v := 0) dX0_isClosed_147 (by decide) ?_
  exact J_zreturn0 dX0_isClosed_148 rfl
noncomputable def X0_isClosed_L41 (x0 : Nat) (x1 : Int32) (x2 : Int32) (x3 : Int32) (x4 : Int32) (x5 : Int32) (x6 : Int32) : JM Mem ((((Int32 ⊕ (Int32)) ⊕ (Int32)) ⊕ (Int32)) ⊕ (Int32 × Int32)) :=
  if x1 ≤ x6 then
    jinl (X0_isClosed_b135 x0 x1 x2 x3 x4 x5)
  else
  jb (jgetA 0 2 x0) fun v7 =>
  jb (jgetA 3 0 v7) fun v8 =>
  jb (jaldA 6 v8 x2) fun v9 =>
  jb (jaldA 5 v9 x4) fun v10 =>
  jb (jald mI 0 v10 x6) fun v11 =>
  jb (jgetA 0 36 x0) fun v12 =>
  jb (jaldA 5 v12 x6) fun v13 =>
  jb (jald mI 0 v13 x3) fun v14 =>
  jb (jgetA 0 2 x0) fun v15 =>
  jb (jgetA 3 0 v15) fun v16 =>
  jb (jaldA 6 v16 x2) fun v17 =>
  jb (jaldA 5 v17 x3) fun v18 =>
  jb (jald mI 0 v18 x6) fun v19 =>
  jb (jgetA 0 36 x0) fun v20 =>
  jb (jaldA 5 v20 x6) fun v21 =>
  jb (jald mI 0 v21 x4) fun v22 =>
  jb (jgetA 0 2 x0) fun v23 =>
  jb (jgetA 3 0 v23) fun v24 =>
  jb (jaldA 6 v24 x3) fun v25 =>
  jb (jaldA 5 v25 x4) fun v26 =>
  jb (jald mI 0 v26 x6) fun v27 =>
  jb (jgetA 0 36 x0) fun v28 =>
  jb (jaldA 5 v28 x6) fun v29 =>
  jb (jald mI 0 v29 x2) fun v30 =>
  jlet (x5 + (((v11 * v14) - (v19 * v22)) - (v27 * v30))) fun y31 =>
  jcont (y31, x6 + 1)
theorem j_X0_isClosed_L41 (D : va_G) (dA : Nat → ClassId) (x0 : Nat) (x1 : Int32) (x2 : Int32) (x3 : Int32) (x4 : Int32) (x5 : Int32) (x6 : Int32) : J (PM D dA false) Y_X0_isClosed [(0, .ref x0), (1, .int x1), (2, .int x2), (3, .int x3), (4, .int x4), (5, .int x5), (6, .int x6)] [] 41 (X0_isClosed_L41 x0 x1 x2 x3 x4 x5 x6) (FLoop (FLoop (FLoop (FLoop (FRet injI) 10 (fun (t : Int32) => [(0, .ref x0), (1, .int x1), (2, .int t)])) 19 (fun (t : Int32) => [(0, .ref x0), (1, .int x1), (2, .int x2), (3, .int t)])) 29 (fun (t : Int32) => [(0, .ref x0), (1, .int x1), (2, .int x2), (3, .int x3), (4, .int t)])) 41 (fun (t : Int32 × Int32) => [(0, .ref x0), (1, .int x1), (2, .int x2), (3, .int x3), (4, .int x4), (5, .int t.1), (6, .int t.2)])) := by
  unfold X0_isClosed_L41
  refine J_iload dX0_isClosed_41 6 rfl ?_
  refine J_iload_n dX0_isClosed_43 rfl 1 rfl ?_
  refine J_icmp_ge (tgt := 135) dX0_isClosed_44 rfl ?_ ?_
  · refine J_inl ?_
    refine J_sub [0, 1, 2, 3, 4, 5] rfl ?_
    exact j_X0_isClosed_b135 D dA x0 x1 x2 x3 x4 x5
  refine J_iload dX0_isClosed_47 5 rfl ?_
  refine J_aload_n dX0_isClosed_49 rfl 0 rfl ?_
  refine J_getA dX0_isClosed_50 fl_X0_30 rfl (fun v7 => ?_)
  refine J_getA dX0_isClosed_53 fl_X0_256 rfl (fun v8 => ?_)
  refine J_iload_n dX0_isClosed_56 rfl 2 rfl ?_
  refine J_aald dX0_isClosed_57 rfl (by decide) (fun v9 => ?_)
  refine J_iload dX0_isClosed_58 4 rfl ?_
  refine J_aald dX0_isClosed_60 rfl (by decide) (fun v10 => ?_)
  refine J_iload dX0_isClosed_61 6 rfl ?_
  refine J_iald dX0_isClosed_63 (fun v11 => ?_)
  refine J_aload_n dX0_isClosed_64 rfl 0 rfl ?_
  refine J_getA dX0_isClosed_65 fl_X0_124 rfl (fun v12 => ?_)
  refine J_iload dX0_isClosed_68 6 rfl ?_
  refine J_aald dX0_isClosed_70 rfl (by decide) (fun v13 => ?_)
  refine J_iload_n dX0_isClosed_71 rfl 3 rfl ?_
  refine J_iald dX0_isClosed_72 (fun v14 => ?_)
  refine J_imul dX0_isClosed_73 ?_
  refine J_aload_n dX0_isClosed_74 rfl 0 rfl ?_
  refine J_getA dX0_isClosed_75 fl_X0_30 rfl (fun v15 => ?_)
  refine J_getA dX0_isClosed_78 fl_X0_256 rfl (fun v16 => ?_)
  refine J_iload_n dX0_isClosed_81 rfl 2 rfl ?_
  refine J_aald dX0_isClosed_82 rfl (by decide) (fun v17 => ?_)
  refine J_iload_n dX0_isClosed_83 rfl 3 rfl ?_
  refine J_aald dX0_isClosed_84 rfl (by decide) (fun v18 => ?_)
  refine J_iload dX0_isClosed_85 6 rfl ?_
  refine J_iald dX0_isClosed_87 (fun v19 => ?_)
  refine J_aload_n dX0_isClosed_88 rfl 0 rfl ?_
  refine J_getA dX0_isClosed_89 fl_X0_124 rfl (fun v20 => ?_)
  refine J_iload dX0_isClosed_92 6 rfl ?_
  refine J_aald dX0_isClosed_94 rfl (by decide) (fun v21 => ?_)
  refine J_iload dX0_isClosed_95 4 rfl ?_
  refine J_iald dX0_isClosed_97 (fun v22 => ?_)
  refine J_imul dX0_isClosed_98 ?_
  refine J_isub dX0_isClosed_99 ?_
  refine J_aload_n dX0_isClosed_100 rfl 0 rfl ?_
  refine J_getA dX0_isClosed_101 fl_X0_30 rfl (fun v23 => ?_)
  refine J_getA dX0_isClosed_104 fl_X0_256 rfl (fun v24 => ?_)
  refine J_iload_n dX0_isClosed_107 rfl 3 rfl ?_
  refine J_aald dX0_isClosed_108 rfl (by decide) (fun v25 => ?_)
  refine J_iload dX0_isClosed_109 4 rfl ?_
  refine J_aald dX0_isClosed_111 rfl (by decide) (fun v26 => ?_)
  refine J_iload dX0_isClosed_112 6 rfl ?_
  refine J_iald dX0_isClosed_114 (fun v27 => ?_)
  refine J_aload_n dX0_isClosed_115 rfl 0 rfl ?_
  refine J_getA dX0_isClosed_116 fl_X0_124 rfl (fun v28 => ?_)
  refine J_iload dX0_isClosed_119 6 rfl ?_
  refine J_aald dX0_isClosed_121 rfl (by decide) (fun v29 => ?_)
  refine J_iload_n dX0_isClosed_122 rfl 2 rfl ?_
  refine J_iald dX0_isClosed_123 (fun v30 => ?_)
  refine J_imul dX0_isClosed_124 ?_
  refine J_isub dX0_isClosed_125 ?_
  refine J_iadd dX0_isClosed_126 ?_
  refine J_letI (fun y31 => ?_)
  refine J_istore (env' := [(5, .int y31), (0, .ref x0), (1, .int x1), (2, .int x2), (3, .int x3), (4, .int x4), (6, .int x6)]) dX0_isClosed_127 (by decide) rfl ?_
  refine J_iinc (v := x6 + 1) (env' := [(6, .int (x6 + 1)), (5, .int y31), (0, .ref x0), (1, .int x1), (2, .int x2), (3, .int x3), (4, .int x4)]) dX0_isClosed_129 6 rfl rfl (by decide) rfl ?_
  refine J_goto (tgt := 41) dX0_isClosed_132 rfl ?_
  exact J_cont [2, 3, 4, 5, 6, 1, 0] rfl
noncomputable def X0_isClosed_L29 (x0 : Nat) (x1 : Int32) (x2 : Int32) (x3 : Int32) (x4 : Int32) : JM Mem (((Int32 ⊕ (Int32)) ⊕ (Int32)) ⊕ (Int32)) :=
  if x1 ≤ x4 then
    jinl (X0_isClosed_b155 x0 x1 x2 x3)
  else
    jloop (fun (t : Int32 × Int32) => X0_isClosed_L41 x0 x1 x2 x3 x4 t.1 t.2) (0, 0)
theorem j_X0_isClosed_L29 (D : va_G) (dA : Nat → ClassId) (x0 : Nat) (x1 : Int32) (x2 : Int32) (x3 : Int32) (x4 : Int32) : J (PM D dA false) Y_X0_isClosed [(0, .ref x0), (1, .int x1), (2, .int x2), (3, .int x3), (4, .int x4)] [] 29 (X0_isClosed_L29 x0 x1 x2 x3 x4) (FLoop (FLoop (FLoop (FRet injI) 10 (fun (t : Int32) => [(0, .ref x0), (1, .int x1), (2, .int t)])) 19 (fun (t : Int32) => [(0, .ref x0), (1, .int x1), (2, .int x2), (3, .int t)])) 29 (fun (t : Int32) => [(0, .ref x0), (1, .int x1), (2, .int x2), (3, .int x3), (4, .int t)])) := by
  unfold X0_isClosed_L29
  refine J_iload dX0_isClosed_29 4 rfl ?_
  refine J_iload_n dX0_isClosed_31 rfl 1 rfl ?_
  refine J_icmp_ge (tgt := 155) dX0_isClosed_32 rfl ?_ ?_
  · refine J_inl ?_
    refine J_sub [0, 1, 2, 3] rfl ?_
    exact j_X0_isClosed_b155 D dA x0 x1 x2 x3
  refine J_iconst (v := 0) dX0_isClosed_35 (by decide) ?_
  refine J_istore (env' := [(5, .int 0), (0, .ref x0), (1, .int x1), (2, .int x2), (3, .int x3), (4, .int x4)]) dX0_isClosed_36 (by decide) rfl ?_
  refine J_iconst (v := 0) dX0_isClosed_38 (by decide) ?_
  refine J_istore (env' := [(6, .int 0), (5, .int 0), (0, .ref x0), (1, .int x1), (2, .int x2), (3, .int x3), (4, .int x4)]) dX0_isClosed_39 (by decide) rfl ?_
  refine J_loop (he := fun (t : Int32 × Int32) => [(0, .ref x0), (1, .int x1), (2, .int x2), (3, .int x3), (4, .int x4), (5, .int t.1), (6, .int t.2)]) [2, 3, 4, 5, 6, 1, 0] rfl (fun t => ?_)
  exact j_X0_isClosed_L41 D dA x0 x1 x2 x3 x4 t.1 t.2
noncomputable def X0_isClosed_L19 (x0 : Nat) (x1 : Int32) (x2 : Int32) (x3 : Int32) : JM Mem ((Int32 ⊕ (Int32)) ⊕ (Int32)) :=
  if x1 ≤ x3 then
    jinl (X0_isClosed_b161 x0 x1 x2)
  else
  jlet (x3 + 1) fun y4 =>
  jloop (fun (t : Int32) => X0_isClosed_L29 x0 x1 x2 x3 t) y4
theorem j_X0_isClosed_L19 (D : va_G) (dA : Nat → ClassId) (x0 : Nat) (x1 : Int32) (x2 : Int32) (x3 : Int32) : J (PM D dA false) Y_X0_isClosed [(0, .ref x0), (1, .int x1), (2, .int x2), (3, .int x3)] [] 19 (X0_isClosed_L19 x0 x1 x2 x3) (FLoop (FLoop (FRet injI) 10 (fun (t : Int32) => [(0, .ref x0), (1, .int x1), (2, .int t)])) 19 (fun (t : Int32) => [(0, .ref x0), (1, .int x1), (2, .int x2), (3, .int t)])) := by
  unfold X0_isClosed_L19
  refine J_iload_n dX0_isClosed_19 rfl 3 rfl ?_
  refine J_iload_n dX0_isClosed_20 rfl 1 rfl ?_
  refine J_icmp_ge (tgt := 161) dX0_isClosed_21 rfl ?_ ?_
  · refine J_inl ?_
    refine J_sub [0, 1, 2] rfl ?_
    exact j_X0_isClosed_b161 D dA x0 x1 x2
  refine J_iload_n dX0_isClosed_24 rfl 3 rfl ?_
  refine J_iconst (v := 1) dX0_isClosed_25 (by decide) ?_
  refine J_iadd dX0_isClosed_26 ?_
  refine J_letI (fun y4 => ?_)
  refine J_istore (env' := [(4, .int y4), (0, .ref x0), (1, .int x1), (2, .int x2), (3, .int x3)]) dX0_isClosed_27 (by decide) rfl ?_
  refine J_loop (he := fun (t : Int32) => [(0, .ref x0), (1, .int x1), (2, .int x2), (3, .int x3), (4, .int t)]) [1, 2, 3, 4, 0] rfl (fun t => ?_)
  exact j_X0_isClosed_L29 D dA x0 x1 x2 x3 t
noncomputable def X0_isClosed_L10 (x0 : Nat) (x1 : Int32) (x2 : Int32) : JM Mem (Int32 ⊕ (Int32)) :=
  if x1 ≤ x2 then
    jinl (jp 1)
  else
  jlet (x2 + 1) fun y3 =>
  jloop (fun (t : Int32) => X0_isClosed_L19 x0 x1 x2 t) y3
theorem j_X0_isClosed_L10 (D : va_G) (dA : Nat → ClassId) (x0 : Nat) (x1 : Int32) (x2 : Int32) : J (PM D dA false) Y_X0_isClosed [(0, .ref x0), (1, .int x1), (2, .int x2)] [] 10 (X0_isClosed_L10 x0 x1 x2) (FLoop (FRet injI) 10 (fun (t : Int32) => [(0, .ref x0), (1, .int x1), (2, .int t)])) := by
  unfold X0_isClosed_L10
  refine J_iload_n dX0_isClosed_10 rfl 2 rfl ?_
  refine J_iload_n dX0_isClosed_11 rfl 1 rfl ?_
  refine J_icmp_ge (tgt := 167) dX0_isClosed_12 rfl ?_ ?_
  · refine J_inl ?_
    refine J_iconst (v := 1) dX0_isClosed_167 (by decide) ?_
    exact J_zreturn1 dX0_isClosed_168 rfl
  refine J_iload_n dX0_isClosed_15 rfl 2 rfl ?_
  refine J_iconst (v := 1) dX0_isClosed_16 (by decide) ?_
  refine J_iadd dX0_isClosed_17 ?_
  refine J_letI (fun y3 => ?_)
  refine J_istore_n (env' := [(3, .int y3), (0, .ref x0), (1, .int x1), (2, .int x2)]) dX0_isClosed_18 rfl (by decide) rfl ?_
  refine J_loop (he := fun (t : Int32) => [(0, .ref x0), (1, .int x1), (2, .int x2), (3, .int t)]) [1, 2, 3, 0] rfl (fun t => ?_)
  exact j_X0_isClosed_L19 D dA x0 x1 x2 t
noncomputable def f_X0_isClosed (x0 : Nat) : JM Mem Int32 :=
  jb (jgetA 0 2 x0) fun v1 =>
  jb (jgetI 3 2 v1) fun v2 =>
  jloop (fun (t : Int32) => X0_isClosed_L10 x0 v2 t) 0
theorem j_X0_isClosed (D : va_G) (dA : Nat → ClassId) (x0 : Nat) : J (PM D dA false) Y_X0_isClosed [(0, .ref x0)] [] 0 (f_X0_isClosed x0) (FRet injI) := by
  unfold f_X0_isClosed
  refine J_aload_n dX0_isClosed_0 rfl 0 rfl ?_
  refine J_getA dX0_isClosed_1 fl_X0_30 rfl (fun v1 => ?_)
  refine J_getI dX0_isClosed_4 fl_X0_196 rfl (fun v2 => ?_)
  refine J_istore_n (env' := [(1, .int v2), (0, .ref x0)]) dX0_isClosed_7 rfl (by decide) rfl ?_
  refine J_iconst (v := 0) dX0_isClosed_8 (by decide) ?_
  refine J_istore_n (env' := [(2, .int 0), (1, .int v2), (0, .ref x0)]) dX0_isClosed_9 rfl (by decide) rfl ?_
  refine J_loop (he := fun (t : Int32) => [(0, .ref x0), (1, .int v2), (2, .int t)]) [2, 1, 0] rfl (fun t => ?_)
  exact j_X0_isClosed_L10 D dA x0 v2 t
theorem i_X0_isClosed (x0 : Nat) : Impl (ws_ yX0_isClosed cX0_isClosed 7 (some .boolean)) yX0_isClosed 3 false 0 0 [.ref x0] (f_X0_isClosed x0) injI := impl_of (plainFor_of_name (by decide)) (Nat.le_of_ble_eq_true rfl) (fun D dA => j_X0_isClosed D dA x0)
theorem cw_X0_isClosed (Y : JY) (h : 4 ≤ Y.2.2.2.1) : JCw Y (ws_ yX0_isClosed cX0_isClosed 7 (some .boolean)) yX0_isClosed cX0_isClosed 7 (some .boolean) 3 := ⟨h, by decide, lw_meth q1397, q187, by decide, by decide⟩
theorem np_X0_isClosed : JNp yX0_isClosed.desc 0 := by decide +kernel
-- BracketRoom.cocycle(I)I
abbrev Y_X0_cocycle : JY := (cX0_cocycle, yX0_cocycle.cls, 3, 4, yX0_cocycle.name, (some .int), [])
noncomputable def X0_cocycle_b48 (s0 : Nat) (s1 : Int32) : JM Mem Int32 :=
  jb (jcall 0 s0 (f_X0_gives s0 s1)) fun v6 =>
  jp v6
theorem j_X0_cocycle_b48 (D : va_G) (dA : Nat → ClassId) (s0 : Nat) (s1 : Int32) : J (PM D dA false) Y_X0_cocycle [] [.int s1, .ref s0] 48 (X0_cocycle_b48 s0 s1) (FRet injI) := by
  unfold X0_cocycle_b48
  refine J_callVI (c := 0) (as := [.int s1]) dX0_cocycle_48 (by decide) rfl (Nat.le_of_ble_eq_true rfl) (cw_X0_gives _ (by decide)) q944 q946 qs9 q947 np_X0_gives (i_X0_gives s0 s1) jad_id rfl (fun v6 => ?_)
  exact J_ireturn dX0_cocycle_51 rfl
noncomputable def f_X0_cocycle (x0 : Nat) (x1 : Int32) : JM Mem Int32 :=
  jb (jcall 0 x0 (f_X0_couples x0)) fun v1 =>
  jb (jgetA 0 2 x0) fun v2 =>
  jb (jgetI 3 1 v2) fun v3 =>
  jb (jcall 0 x0 (f_X0_wrongNumbers x0 x1 v1 0 (v3 - 1))) fun v4 =>
  if v4 ≤ 0 then
    jb (jcall 0 x0 (f_X0_reads x0 x1)) fun _ =>
    jb (jcall 0 x0 (f_X0_isClosed x0)) fun v5 =>
    if v5 = 0 then
      X0_cocycle_b48 x0 0
    else
      X0_cocycle_b48 x0 1
  else
  jb (jcall 0 x0 (f_X0_none x0 v4)) fun v7 =>
  jp v7
theorem j_X0_cocycle (D : va_G) (dA : Nat → ClassId) (x0 : Nat) (x1 : Int32) : J (PM D dA false) Y_X0_cocycle [(0, .ref x0), (1, .int x1)] [] 0 (f_X0_cocycle x0 x1) (FRet injI) := by
  unfold f_X0_cocycle
  refine J_aload_n dX0_cocycle_0 rfl 0 rfl ?_
  refine J_iload_n dX0_cocycle_1 rfl 1 rfl ?_
  refine J_aload_n dX0_cocycle_2 rfl 0 rfl ?_
  refine J_callVI (c := 0) (as := []) dX0_cocycle_3 (by decide) rfl (Nat.le_of_ble_eq_true rfl) (cw_X0_couples _ (by decide)) q1386 q1388 qs54 q1389 np_X0_couples (i_X0_couples x0) jad_id rfl (fun v1 => ?_)
  refine J_iconst (v := 0) dX0_cocycle_6 (by decide) ?_
  refine J_aload_n dX0_cocycle_7 rfl 0 rfl ?_
  refine J_getA dX0_cocycle_8 fl_X0_30 rfl (fun v2 => ?_)
  refine J_getI dX0_cocycle_11 fl_X0_253 rfl (fun v3 => ?_)
  refine J_iconst (v := 1) dX0_cocycle_14 (by decide) ?_
  refine J_isub dX0_cocycle_15 ?_
  refine J_callVI (c := 0) (as := [.int x1, .int v1, .int 0, .int (v3 - 1)]) dX0_cocycle_16 (by decide) rfl (Nat.le_of_ble_eq_true rfl) (cw_X0_wrongNumbers _ (by decide)) q1357 q1359 qs50 q1360 np_X0_wrongNumbers (i_X0_wrongNumbers x0 x1 v1 0 (v3 - 1)) jad_id rfl (fun v4 => ?_)
  refine J_istore_n (env' := [(2, .int v4), (0, .ref x0), (1, .int x1)]) dX0_cocycle_19 rfl (by decide) rfl ?_
  refine J_iload_n dX0_cocycle_20 rfl 0 rfl ?_
  refine J_if_le (tgt := 30) dX0_cocycle_21 rfl ?_ ?_
  · refine J_aload_n dX0_cocycle_30 rfl 1 rfl ?_
    refine J_iload_n dX0_cocycle_31 rfl 2 rfl ?_
    refine J_callVV (c := 0) (as := [.int x1]) dX0_cocycle_32 (by decide) rfl (Nat.le_of_ble_eq_true rfl) (cw_X0_reads _ (by decide)) q1390 q1392 qs55 q1393 np_X0_reads (i_X0_reads x0 x1) jad_id rfl ?_
    refine J_aload_n dX0_cocycle_35 rfl 1 rfl ?_
    refine J_aload_n dX0_cocycle_36 rfl 1 rfl ?_
    refine J_callVI (c := 0) (as := []) dX0_cocycle_37 (by decide) rfl (Nat.le_of_ble_eq_true rfl) (cw_X0_isClosed _ (by decide)) q1394 q1396 qs56 q1397 np_X0_isClosed (i_X0_isClosed x0) jad_id rfl (fun v5 => ?_)
    refine J_if_eq (tgt := 47) dX0_cocycle_40 rfl ?_ ?_
    · refine J_iconst (v := 0) dX0_cocycle_47 (by decide) ?_
      refine J_sub [] rfl ?_
      exact j_X0_cocycle_b48 D dA x0 0
    refine J_iconst (v := 1) dX0_cocycle_43 (by decide) ?_
    refine J_goto (tgt := 48) dX0_cocycle_44 rfl ?_
    refine J_sub [] rfl ?_
    exact j_X0_cocycle_b48 D dA x0 1
  refine J_aload_n dX0_cocycle_24 rfl 1 rfl ?_
  refine J_iload_n dX0_cocycle_25 rfl 0 rfl ?_
  refine J_callVI (c := 0) (as := [.int v4]) dX0_cocycle_26 (by decide) rfl (Nat.le_of_ble_eq_true rfl) (cw_X0_none _ (by decide)) q729 q731 qs3 q732 np_X0_none (i_X0_none x0 v4) jad_id rfl (fun v7 => ?_)
  exact J_ireturn dX0_cocycle_29 rfl
theorem i_X0_cocycle (x0 : Nat) (x1 : Int32) : Impl (ws_ yX0_cocycle cX0_cocycle 3 (some .int)) yX0_cocycle 4 false 0 0 [.ref x0, .int x1] (f_X0_cocycle x0 x1) injI := impl_of (plainFor_of_name (by decide)) (Nat.le_of_ble_eq_true rfl) (fun D dA => j_X0_cocycle D dA x0 x1)
theorem cw_X0_cocycle (Y : JY) (h : 5 ≤ Y.2.2.2.1) : JCw Y (ws_ yX0_cocycle cX0_cocycle 3 (some .int)) yX0_cocycle cX0_cocycle 3 (some .int) 4 := ⟨h, by decide, lw_meth q1385, q187, by decide, by decide⟩
theorem np_X0_cocycle : JNp yX0_cocycle.desc 1 := by decide +kernel
-- BracketRoom.grow(I)I
abbrev Y_X0_grow : JY := (cX0_grow, yX0_grow.cls, 6, 4, yX0_grow.name, (some .int), [])
noncomputable def X0_grow_b152 (x0 : Nat) : JM Mem Int32 :=
  jb (jgetA 0 2 x0) fun v15 =>
  jb (jgetI 3 2 v15) fun v16 =>
  jb (jcall 0 x0 (f_X0_gives x0 v16)) fun v17 =>
  jp v17
theorem j_X0_grow_b152 (D : va_G) (dA : Nat → ClassId) (x0 : Nat) : J (PM D dA false) Y_X0_grow [(0, .ref x0)] [] 152 (X0_grow_b152 x0) (FRet injI) := by
  unfold X0_grow_b152
  refine J_aload_n dX0_grow_152 rfl 0 rfl ?_
  refine J_aload_n dX0_grow_153 rfl 0 rfl ?_
  refine J_getA dX0_grow_154 fl_X0_30 rfl (fun v15 => ?_)
  refine J_getI dX0_grow_157 fl_X0_196 rfl (fun v16 => ?_)
  refine J_callVI (c := 0) (as := [.int v16]) dX0_grow_160 (by decide) rfl (Nat.le_of_ble_eq_true rfl) (cw_X0_gives _ (by decide)) q944 q946 qs9 q947 np_X0_gives (i_X0_gives x0 v16) jad_id rfl (fun v17 => ?_)
  exact J_ireturn dX0_grow_163 rfl
noncomputable def X0_grow_b146 (x0 : Nat) (x3 : Int32) (x4 : Int32) : JM Mem (Int32 ⊕ (Int32)) :=
  jcont (x4 + 1)
theorem j_X0_grow_b146 (D : va_G) (dA : Nat → ClassId) (x0 : Nat) (x3 : Int32) (x4 : Int32) : J (PM D dA false) Y_X0_grow [(0, .ref x0), (3, .int x3), (4, .int x4)] [] 146 (X0_grow_b146 x0 x3 x4) (FLoop (FRet injI) 100 (fun (t : Int32) => [(0, .ref x0), (3, .int x3), (4, .int t)])) := by
  unfold X0_grow_b146
  refine J_iinc (v := x4 + 1) (env' := [(4, .int (x4 + 1)), (0, .ref x0), (3, .int x3)]) dX0_grow_146 2 rfl rfl (by decide) rfl ?_
  refine J_goto (tgt := 100) dX0_grow_149 rfl ?_
  exact J_cont [1, 2, 0] rfl
noncomputable def X0_grow_L112 (x0 : Nat) (x3 : Int32) (x4 : Int32) (x5 : Int32) : JM Mem ((Int32 ⊕ (Int32)) ⊕ (Int32)) :=
  if x3 ≤ x5 then
    jinl (X0_grow_b146 x0 x3 x4)
  else
  jb (jgetA 0 2 x0) fun v19 =>
  jb (jgetA 0 36 x0) fun v20 =>
  jb (jaldA 5 v20 x4) fun v21 =>
  jb (jald mI 0 v21 x5) fun v22 =>
  jb (jcall 3 v19 (f_X4_set v19 x4 x5 x3 v22)) fun _ =>
  jcont (x5 + 1)
theorem j_X0_grow_L112 (D : va_G) (dA : Nat → ClassId) (x0 : Nat) (x3 : Int32) (x4 : Int32) (x5 : Int32) : J (PM D dA false) Y_X0_grow [(0, .ref x0), (3, .int x3), (4, .int x4), (5, .int x5)] [] 112 (X0_grow_L112 x0 x3 x4 x5) (FLoop (FLoop (FRet injI) 100 (fun (t : Int32) => [(0, .ref x0), (3, .int x3), (4, .int t)])) 112 (fun (t : Int32) => [(0, .ref x0), (3, .int x3), (4, .int x4), (5, .int t)])) := by
  unfold X0_grow_L112
  refine J_iload dX0_grow_112 3 rfl ?_
  refine J_iload_n dX0_grow_114 rfl 1 rfl ?_
  refine J_icmp_ge (tgt := 146) dX0_grow_115 rfl ?_ ?_
  · refine J_inl ?_
    refine J_sub [0, 1, 2] rfl ?_
    exact j_X0_grow_b146 D dA x0 x3 x4
  refine J_aload_n dX0_grow_118 rfl 0 rfl ?_
  refine J_getA dX0_grow_119 fl_X0_30 rfl (fun v19 => ?_)
  refine J_iload dX0_grow_122 2 rfl ?_
  refine J_iload dX0_grow_124 3 rfl ?_
  refine J_iload_n dX0_grow_126 rfl 1 rfl ?_
  refine J_aload_n dX0_grow_127 rfl 0 rfl ?_
  refine J_getA dX0_grow_128 fl_X0_124 rfl (fun v20 => ?_)
  refine J_iload dX0_grow_131 2 rfl ?_
  refine J_aald dX0_grow_133 rfl (by decide) (fun v21 => ?_)
  refine J_iload dX0_grow_134 3 rfl ?_
  refine J_iald dX0_grow_136 (fun v22 => ?_)
  refine J_callVV (c := 3) (as := [.int x4, .int x5, .int x3, .int v22]) dX0_grow_137 (by decide) rfl (Nat.le_of_ble_eq_true rfl) (cw_X4_set _ (by decide)) q1031 q925 q926 q927 np_X4_set (i_X4_set v19 x4 x5 x3 v22) jad_id rfl ?_
  refine J_iinc (v := x5 + 1) (env' := [(5, .int (x5 + 1)), (0, .ref x0), (3, .int x3), (4, .int x4)]) dX0_grow_140 3 rfl rfl (by decide) rfl ?_
  refine J_goto (tgt := 112) dX0_grow_143 rfl ?_
  exact J_cont [1, 2, 3, 0] rfl
noncomputable def X0_grow_L100 (x0 : Nat) (x3 : Int32) (x4 : Int32) : JM Mem (Int32 ⊕ (Int32)) :=
  if x3 ≤ x4 then
    jinl (X0_grow_b152 x0)
  else
  jlet (x4 + 1) fun y18 =>
  jloop (fun (t : Int32) => X0_grow_L112 x0 x3 x4 t) y18
theorem j_X0_grow_L100 (D : va_G) (dA : Nat → ClassId) (x0 : Nat) (x3 : Int32) (x4 : Int32) : J (PM D dA false) Y_X0_grow [(0, .ref x0), (3, .int x3), (4, .int x4)] [] 100 (X0_grow_L100 x0 x3 x4) (FLoop (FRet injI) 100 (fun (t : Int32) => [(0, .ref x0), (3, .int x3), (4, .int t)])) := by
  unfold X0_grow_L100
  refine J_iload dX0_grow_100 2 rfl ?_
  refine J_iload_n dX0_grow_102 rfl 1 rfl ?_
  refine J_icmp_ge (tgt := 152) dX0_grow_103 rfl ?_ ?_
  · refine J_inl ?_
    refine J_sub [0] rfl ?_
    exact j_X0_grow_b152 D dA x0
  refine J_iload dX0_grow_106 2 rfl ?_
  refine J_iconst (v := 1) dX0_grow_108 (by decide) ?_
  refine J_iadd dX0_grow_109 ?_
  refine J_letI (fun y18 => ?_)
  refine J_istore (env' := [(5, .int y18), (0, .ref x0), (3, .int x3), (4, .int x4)]) dX0_grow_110 (by decide) rfl ?_
  refine J_loop (he := fun (t : Int32) => [(0, .ref x0), (3, .int x3), (4, .int x4), (5, .int t)]) [1, 2, 3, 0] rfl (fun t => ?_)
  exact j_X0_grow_L112 D dA x0 x3 x4 t
noncomputable def f_X0_grow (x0 : Nat) (x1 : Int32) : JM Mem Int32 :=
  jb (jgetA 0 2 x0) fun v1 =>
  jb (jgetI 3 2 v1) fun v2 =>
  jb (jgetA 0 2 x0) fun v3 =>
  jb (jgetI 3 1 v3) fun v4 =>
  jb ((f_X0_widest v4)) fun v5 =>
  if v2 = v5 then
    jb (jcall 0 x0 (f_X0_none x0 7)) fun v25 =>
    jp v25
  else
  jb (jcall 0 x0 (f_X0_couples x0)) fun v6 =>
  jb (jgetA 0 2 x0) fun v7 =>
  jb (jgetI 3 1 v7) fun v8 =>
  jb (jcall 0 x0 (f_X0_wrongNumbers x0 x1 v6 0 (v8 - 1))) fun v9 =>
  if v9 ≤ 0 then
    jb (jcall 0 x0 (f_X0_reads x0 x1)) fun _ =>
    jb (jcall 0 x0 (f_X0_isClosed x0)) fun v10 =>
    if v10 = 0 then
      jb (jcall 0 x0 (f_X0_none x0 9)) fun v23 =>
      jp v23
    else
    jb (jgetA 0 2 x0) fun v11 =>
    jb (jgetI 3 2 v11) fun v12 =>
    jb (jgetA 0 2 x0) fun v13 =>
    jb (jgetI 3 2 v13) fun v14 =>
    jb (jputI 3 2 v13 (v14 + 1)) fun _ =>
    jloop (fun (t : Int32) => X0_grow_L100 x0 v12 t) 0
  else
  jb (jcall 0 x0 (f_X0_none x0 v9)) fun v24 =>
  jp v24
theorem j_X0_grow (D : va_G) (dA : Nat → ClassId) (x0 : Nat) (x1 : Int32) : J (PM D dA false) Y_X0_grow [(0, .ref x0), (1, .int x1)] [] 0 (f_X0_grow x0 x1) (FRet injI) := by
  unfold f_X0_grow
  refine J_aload_n dX0_grow_0 rfl 0 rfl ?_
  refine J_getA dX0_grow_1 fl_X0_30 rfl (fun v1 => ?_)
  refine J_getI dX0_grow_4 fl_X0_196 rfl (fun v2 => ?_)
  refine J_aload_n dX0_grow_7 rfl 0 rfl ?_
  refine J_getA dX0_grow_8 fl_X0_30 rfl (fun v3 => ?_)
  refine J_getI dX0_grow_11 fl_X0_253 rfl (fun v4 => ?_)
  refine J_callSI (host := "") (as := [.int v4]) dX0_grow_14 rfl (Nat.le_of_ble_eq_true rfl) (cw_X0_widest _ (by decide)) q1402 q911 q912 np_X0_widest (i_X0_widest v4) jad_id rfl (fun v5 => ?_)
  refine J_icmp_ne (tgt := 27) dX0_grow_17 rfl ?_ ?_
  · refine J_aload_n dX0_grow_27 rfl 0 rfl ?_
    refine J_iload_n dX0_grow_28 rfl 1 rfl ?_
    refine J_aload_n dX0_grow_29 rfl 0 rfl ?_
    refine J_callVI (c := 0) (as := []) dX0_grow_30 (by decide) rfl (Nat.le_of_ble_eq_true rfl) (cw_X0_couples _ (by decide)) q1386 q1388 qs54 q1389 np_X0_couples (i_X0_couples x0) jad_id rfl (fun v6 => ?_)
    refine J_iconst (v := 0) dX0_grow_33 (by decide) ?_
    refine J_aload_n dX0_grow_34 rfl 0 rfl ?_
    refine J_getA dX0_grow_35 fl_X0_30 rfl (fun v7 => ?_)
    refine J_getI dX0_grow_38 fl_X0_253 rfl (fun v8 => ?_)
    refine J_iconst (v := 1) dX0_grow_41 (by decide) ?_
    refine J_isub dX0_grow_42 ?_
    refine J_callVI (c := 0) (as := [.int x1, .int v6, .int 0, .int (v8 - 1)]) dX0_grow_43 (by decide) rfl (Nat.le_of_ble_eq_true rfl) (cw_X0_wrongNumbers _ (by decide)) q1357 q1359 qs50 q1360 np_X0_wrongNumbers (i_X0_wrongNumbers x0 x1 v6 0 (v8 - 1)) jad_id rfl (fun v9 => ?_)
    refine J_istore_n (env' := [(2, .int v9), (0, .ref x0), (1, .int x1)]) dX0_grow_46 rfl (by decide) rfl ?_
    refine J_iload_n dX0_grow_47 rfl 0 rfl ?_
    refine J_if_le (tgt := 57) dX0_grow_48 rfl ?_ ?_
    · refine J_aload_n dX0_grow_57 rfl 1 rfl ?_
      refine J_iload_n dX0_grow_58 rfl 2 rfl ?_
      refine J_callVV (c := 0) (as := [.int x1]) dX0_grow_59 (by decide) rfl (Nat.le_of_ble_eq_true rfl) (cw_X0_reads _ (by decide)) q1390 q1392 qs55 q1393 np_X0_reads (i_X0_reads x0 x1) jad_id rfl ?_
      refine J_aload_n dX0_grow_62 rfl 1 rfl ?_
      refine J_callVI (c := 0) (as := []) dX0_grow_63 (by decide) rfl (Nat.le_of_ble_eq_true rfl) (cw_X0_isClosed _ (by decide)) q1394 q1396 qs56 q1397 np_X0_isClosed (i_X0_isClosed x0) jad_id rfl (fun v10 => ?_)
      refine J_if_ne (tgt := 76) dX0_grow_66 rfl ?_ ?_
      · refine J_aload_n dX0_grow_76 rfl 1 rfl ?_
        refine J_getA dX0_grow_77 fl_X0_30 rfl (fun v11 => ?_)
        refine J_getI dX0_grow_80 fl_X0_196 rfl (fun v12 => ?_)
        refine J_istore_n (env' := [(3, .int v12), (2, .int v9), (0, .ref x0), (1, .int x1)]) dX0_grow_83 rfl (by decide) rfl ?_
        refine J_aload_n dX0_grow_84 rfl 2 rfl ?_
        refine J_getA dX0_grow_85 fl_X0_30 rfl (fun v13 => ?_)
        refine J_dup dX0_grow_88 rfl ?_
        refine J_getI dX0_grow_89 fl_X0_196 rfl (fun v14 => ?_)
        refine J_iconst (v := 1) dX0_grow_92 (by decide) ?_
        refine J_iadd dX0_grow_93 ?_
        refine J_putI dX0_grow_94 ⟨fl_X0_196, Or.inl rfl⟩ rfl ?_
        refine J_iconst (v := 0) dX0_grow_97 (by decide) ?_
        refine J_istore (env' := [(4, .int 0), (3, .int v12), (2, .int v9), (0, .ref x0), (1, .int x1)]) dX0_grow_98 (by decide) rfl ?_
        refine J_loop (he := fun (t : Int32) => [(0, .ref x0), (3, .int v12), (4, .int t)]) [3, 1, 0] rfl (fun t => ?_)
        exact j_X0_grow_L100 D dA x0 v12 t
      refine J_aload_n dX0_grow_69 rfl 1 rfl ?_
      refine J_bipush (v := 9) dX0_grow_70 (by decide) ?_
      refine J_callVI (c := 0) (as := [.int 9]) dX0_grow_72 (by decide) rfl (Nat.le_of_ble_eq_true rfl) (cw_X0_none _ (by decide)) q729 q731 qs3 q732 np_X0_none (i_X0_none x0 9) jad_id rfl (fun v23 => ?_)
      exact J_ireturn dX0_grow_75 rfl
    refine J_aload_n dX0_grow_51 rfl 1 rfl ?_
    refine J_iload_n dX0_grow_52 rfl 0 rfl ?_
    refine J_callVI (c := 0) (as := [.int v9]) dX0_grow_53 (by decide) rfl (Nat.le_of_ble_eq_true rfl) (cw_X0_none _ (by decide)) q729 q731 qs3 q732 np_X0_none (i_X0_none x0 v9) jad_id rfl (fun v24 => ?_)
    exact J_ireturn dX0_grow_56 rfl
  refine J_aload_n dX0_grow_20 rfl 0 rfl ?_
  refine J_bipush (v := 7) dX0_grow_21 (by decide) ?_
  refine J_callVI (c := 0) (as := [.int 7]) dX0_grow_23 (by decide) rfl (Nat.le_of_ble_eq_true rfl) (cw_X0_none _ (by decide)) q729 q731 qs3 q732 np_X0_none (i_X0_none x0 7) jad_id rfl (fun v25 => ?_)
  exact J_ireturn dX0_grow_26 rfl
theorem i_X0_grow (x0 : Nat) (x1 : Int32) : Impl (ws_ yX0_grow cX0_grow 6 (some .int)) yX0_grow 4 false 0 0 [.ref x0, .int x1] (f_X0_grow x0 x1) injI := impl_of (plainFor_of_name (by decide)) (Nat.le_of_ble_eq_true rfl) (fun D dA => j_X0_grow D dA x0 x1)
theorem cw_X0_grow (Y : JY) (h : 5 ≤ Y.2.2.2.1) : JCw Y (ws_ yX0_grow cX0_grow 6 (some .int)) yX0_grow cX0_grow 6 (some .int) 4 := ⟨h, by decide, lw_meth q1401, q187, by decide, by decide⟩
theorem np_X0_grow : JNp yX0_grow.desc 1 := by decide +kernel
-- BracketRoom.wrongSum(I)I
abbrev Y_X0_wrongSum : JY := (cX0_wrongSum, yX0_wrongSum.cls, 3, 3, yX0_wrongSum.name, (some .int), [])
noncomputable def f_X0_wrongSum (x0 : Nat) (x1 : Int32) : JM Mem Int32 :=
  jb (jcall 0 x0 (f_X0_noShelf x0 x1)) fun v1 =>
  if v1 ≤ 0 then
    jb (jgetA 0 4 x0) fun v2 =>
    jb (jaldA 7 v2 x1) fun v3 =>
    jb (jgetI 3 1 v3) fun v4 =>
    jb (jgetA 0 2 x0) fun v5 =>
    jb (jgetI 3 1 v5) fun v6 =>
    if v4 = v6 then
      jb (jgetA 0 2 x0) fun v7 =>
      jb (jgetI 3 2 v7) fun v8 =>
      jb (jgetA 0 4 x0) fun v9 =>
      jb (jaldA 7 v9 x1) fun v10 =>
      jb (jgetI 3 2 v10) fun v11 =>
      jb (jgetA 0 2 x0) fun v12 =>
      jb (jgetI 3 1 v12) fun v13 =>
      jb ((f_X0_widest v13)) fun v14 =>
      if v8 + v11 ≤ v14 then
        jp 0
      else
        jp 7
    else
      jp 5
  else
    jp v1
theorem j_X0_wrongSum (D : va_G) (dA : Nat → ClassId) (x0 : Nat) (x1 : Int32) : J (PM D dA false) Y_X0_wrongSum [(0, .ref x0), (1, .int x1)] [] 0 (f_X0_wrongSum x0 x1) (FRet injI) := by
  unfold f_X0_wrongSum
  refine J_aload_n dX0_wrongSum_0 rfl 0 rfl ?_
  refine J_iload_n dX0_wrongSum_1 rfl 1 rfl ?_
  refine J_callVI (c := 0) (as := [.int x1]) dX0_wrongSum_2 (by decide) rfl (Nat.le_of_ble_eq_true rfl) (cw_X0_noShelf _ (by decide)) q1087 q1089 qs17 q1090 np_X0_noShelf (i_X0_noShelf x0 x1) jad_id rfl (fun v1 => ?_)
  refine J_istore_n (env' := [(2, .int v1), (0, .ref x0), (1, .int x1)]) dX0_wrongSum_5 rfl (by decide) rfl ?_
  refine J_iload_n dX0_wrongSum_6 rfl 0 rfl ?_
  refine J_if_le (tgt := 12) dX0_wrongSum_7 rfl ?_ ?_
  · refine J_aload_n dX0_wrongSum_12 rfl 1 rfl ?_
    refine J_getA dX0_wrongSum_13 fl_X0_37 rfl (fun v2 => ?_)
    refine J_iload_n dX0_wrongSum_16 rfl 2 rfl ?_
    refine J_aald dX0_wrongSum_17 rfl (by decide) (fun v3 => ?_)
    refine J_getI dX0_wrongSum_18 fl_X0_253 rfl (fun v4 => ?_)
    refine J_aload_n dX0_wrongSum_21 rfl 1 rfl ?_
    refine J_getA dX0_wrongSum_22 fl_X0_30 rfl (fun v5 => ?_)
    refine J_getI dX0_wrongSum_25 fl_X0_253 rfl (fun v6 => ?_)
    refine J_icmp_eq (tgt := 35) dX0_wrongSum_28 rfl ?_ ?_
    · refine J_aload_n dX0_wrongSum_35 rfl 1 rfl ?_
      refine J_getA dX0_wrongSum_36 fl_X0_30 rfl (fun v7 => ?_)
      refine J_getI dX0_wrongSum_39 fl_X0_196 rfl (fun v8 => ?_)
      refine J_aload_n dX0_wrongSum_42 rfl 1 rfl ?_
      refine J_getA dX0_wrongSum_43 fl_X0_37 rfl (fun v9 => ?_)
      refine J_iload_n dX0_wrongSum_46 rfl 2 rfl ?_
      refine J_aald dX0_wrongSum_47 rfl (by decide) (fun v10 => ?_)
      refine J_getI dX0_wrongSum_48 fl_X0_196 rfl (fun v11 => ?_)
      refine J_iadd dX0_wrongSum_51 ?_
      refine J_aload_n dX0_wrongSum_52 rfl 1 rfl ?_
      refine J_getA dX0_wrongSum_53 fl_X0_30 rfl (fun v12 => ?_)
      refine J_getI dX0_wrongSum_56 fl_X0_253 rfl (fun v13 => ?_)
      refine J_callSI (host := "") (as := [.int v13]) dX0_wrongSum_59 rfl (Nat.le_of_ble_eq_true rfl) (cw_X0_widest _ (by decide)) q1402 q911 q912 np_X0_widest (i_X0_widest v13) jad_id rfl (fun v14 => ?_)
      refine J_icmp_le (tgt := 70) dX0_wrongSum_62 rfl ?_ ?_
      · refine J_iconst (v := 0) dX0_wrongSum_70 (by decide) ?_
        exact J_ireturn dX0_wrongSum_71 rfl
      refine J_bipush (v := 7) dX0_wrongSum_65 (by decide) ?_
      refine J_goto (tgt := 71) dX0_wrongSum_67 rfl ?_
      exact J_ireturn dX0_wrongSum_71 rfl
    refine J_iconst (v := 5) dX0_wrongSum_31 (by decide) ?_
    refine J_goto (tgt := 71) dX0_wrongSum_32 rfl ?_
    exact J_ireturn dX0_wrongSum_71 rfl
  refine J_iload_n dX0_wrongSum_10 rfl 0 rfl ?_
  exact J_ireturn dX0_wrongSum_11 rfl
theorem i_X0_wrongSum (x0 : Nat) (x1 : Int32) : Impl (ws_ yX0_wrongSum cX0_wrongSum 3 (some .int)) yX0_wrongSum 3 false 0 0 [.ref x0, .int x1] (f_X0_wrongSum x0 x1) injI := impl_of (plainFor_of_name (by decide)) (Nat.le_of_ble_eq_true rfl) (fun D dA => j_X0_wrongSum D dA x0 x1)
theorem cw_X0_wrongSum (Y : JY) (h : 4 ≤ Y.2.2.2.1) : JCw Y (ws_ yX0_wrongSum cX0_wrongSum 3 (some .int)) yX0_wrongSum cX0_wrongSum 3 (some .int) 3 := ⟨h, by decide, lw_meth q1410, q187, by decide, by decide⟩
theorem np_X0_wrongSum : JNp yX0_wrongSum.desc 1 := by decide +kernel
-- BracketRoom.sums(LBracketRoom$World;)V
abbrev Y_X0_sums : JY := (cX0_sums, yX0_sums.cls, 6, 4, yX0_sums.name, none, [])
noncomputable def X0_sums_b125 (x0 : Nat) (x2 : Int32) (x3 : Int32) : JM Mem (Unit ⊕ (Int32)) :=
  jcont (x3 + 1)
theorem j_X0_sums_b125 (D : va_G) (dA : Nat → ClassId) (x0 : Nat) (x2 : Int32) (x3 : Int32) : J (PM D dA false) Y_X0_sums [(0, .ref x0), (2, .int x2), (3, .int x3)] [] 125 (X0_sums_b125 x0 x2 x3) (FLoop (FRet injU) 37 (fun (t : Int32) => [(0, .ref x0), (2, .int x2), (3, .int t)])) := by
  unfold X0_sums_b125
  refine J_iinc (v := x3 + 1) (env' := [(3, .int (x3 + 1)), (0, .ref x0), (2, .int x2)]) dX0_sums_125 2 rfl rfl (by decide) rfl ?_
  refine J_goto (tgt := 37) dX0_sums_128 rfl ?_
  exact J_cont [1, 2, 0] rfl
noncomputable def X0_sums_b119 (x0 : Nat) (x2 : Int32) (x3 : Int32) (x4 : Int32) : JM Mem ((Unit ⊕ (Int32)) ⊕ (Int32)) :=
  jcont (x4 + 1)
theorem j_X0_sums_b119 (D : va_G) (dA : Nat → ClassId) (x0 : Nat) (x2 : Int32) (x3 : Int32) (x4 : Int32) : J (PM D dA false) Y_X0_sums [(0, .ref x0), (2, .int x2), (3, .int x3), (4, .int x4)] [] 119 (X0_sums_b119 x0 x2 x3 x4) (FLoop (FLoop (FRet injU) 37 (fun (t : Int32) => [(0, .ref x0), (2, .int x2), (3, .int t)])) 53 (fun (t : Int32) => [(0, .ref x0), (2, .int x2), (3, .int x3), (4, .int t)])) := by
  unfold X0_sums_b119
  refine J_iinc (v := x4 + 1) (env' := [(4, .int (x4 + 1)), (0, .ref x0), (2, .int x2), (3, .int x3)]) dX0_sums_119 3 rfl rfl (by decide) rfl ?_
  refine J_goto (tgt := 53) dX0_sums_122 rfl ?_
  exact J_cont [1, 2, 3, 0] rfl
noncomputable def X0_sums_L68 (x0 : Nat) (x2 : Int32) (x3 : Int32) (x4 : Int32) (x5 : Int32) : JM Mem (((Unit ⊕ (Int32)) ⊕ (Int32)) ⊕ (Int32)) :=
  jb (jgetA 0 3 x0) fun v13 =>
  jb (jgetI 3 2 v13) fun v14 =>
  if v14 ≤ x5 then
    jinl (X0_sums_b119 x0 x2 x3 x4)
  else
  jb (jgetA 0 2 x0) fun v15 =>
  jb (jgetA 0 3 x0) fun v16 =>
  jb (jgetA 3 0 v16) fun v17 =>
  jb (jaldA 6 v17 x3) fun v18 =>
  jb (jaldA 5 v18 x4) fun v19 =>
  jb (jald mI 0 v19 x5) fun v20 =>
  jb (jcall 3 v15 (f_X4_set v15 (x2 + x3) (x2 + x4) (x2 + x5) v20)) fun _ =>
  jcont (x5 + 1)
theorem j_X0_sums_L68 (D : va_G) (dA : Nat → ClassId) (x0 : Nat) (x2 : Int32) (x3 : Int32) (x4 : Int32) (x5 : Int32) : J (PM D dA false) Y_X0_sums [(0, .ref x0), (2, .int x2), (3, .int x3), (4, .int x4), (5, .int x5)] [] 68 (X0_sums_L68 x0 x2 x3 x4 x5) (FLoop (FLoop (FLoop (FRet injU) 37 (fun (t : Int32) => [(0, .ref x0), (2, .int x2), (3, .int t)])) 53 (fun (t : Int32) => [(0, .ref x0), (2, .int x2), (3, .int x3), (4, .int t)])) 68 (fun (t : Int32) => [(0, .ref x0), (2, .int x2), (3, .int x3), (4, .int x4), (5, .int t)])) := by
  unfold X0_sums_L68
  refine J_iload dX0_sums_68 4 rfl ?_
  refine J_aload_n dX0_sums_70 rfl 0 rfl ?_
  refine J_getA dX0_sums_71 fl_X0_34 rfl (fun v13 => ?_)
  refine J_getI dX0_sums_74 fl_X0_196 rfl (fun v14 => ?_)
  refine J_icmp_ge (tgt := 119) dX0_sums_77 rfl ?_ ?_
  · refine J_inl ?_
    refine J_sub [0, 1, 2, 3] rfl ?_
    exact j_X0_sums_b119 D dA x0 x2 x3 x4
  refine J_aload_n dX0_sums_80 rfl 0 rfl ?_
  refine J_getA dX0_sums_81 fl_X0_30 rfl (fun v15 => ?_)
  refine J_iload_n dX0_sums_84 rfl 1 rfl ?_
  refine J_iload_n dX0_sums_85 rfl 2 rfl ?_
  refine J_iadd dX0_sums_86 ?_
  refine J_iload_n dX0_sums_87 rfl 1 rfl ?_
  refine J_iload dX0_sums_88 3 rfl ?_
  refine J_iadd dX0_sums_90 ?_
  refine J_iload_n dX0_sums_91 rfl 1 rfl ?_
  refine J_iload dX0_sums_92 4 rfl ?_
  refine J_iadd dX0_sums_94 ?_
  refine J_aload_n dX0_sums_95 rfl 0 rfl ?_
  refine J_getA dX0_sums_96 fl_X0_34 rfl (fun v16 => ?_)
  refine J_getA dX0_sums_99 fl_X0_256 rfl (fun v17 => ?_)
  refine J_iload_n dX0_sums_102 rfl 2 rfl ?_
  refine J_aald dX0_sums_103 rfl (by decide) (fun v18 => ?_)
  refine J_iload dX0_sums_104 3 rfl ?_
  refine J_aald dX0_sums_106 rfl (by decide) (fun v19 => ?_)
  refine J_iload dX0_sums_107 4 rfl ?_
  refine J_iald dX0_sums_109 (fun v20 => ?_)
  refine J_callVV (c := 3) (as := [.int (x2 + x3), .int (x2 + x4), .int (x2 + x5), .int v20]) dX0_sums_110 (by decide) rfl (Nat.le_of_ble_eq_true rfl) (cw_X4_set _ (by decide)) q1031 q925 q926 q927 np_X4_set (i_X4_set v15 (x2 + x3) (x2 + x4) (x2 + x5) v20) jad_id rfl ?_
  refine J_iinc (v := x5 + 1) (env' := [(5, .int (x5 + 1)), (0, .ref x0), (2, .int x2), (3, .int x3), (4, .int x4)]) dX0_sums_113 4 rfl rfl (by decide) rfl ?_
  refine J_goto (tgt := 68) dX0_sums_116 rfl ?_
  exact J_cont [1, 2, 3, 4, 0] rfl
noncomputable def X0_sums_L53 (x0 : Nat) (x2 : Int32) (x3 : Int32) (x4 : Int32) : JM Mem ((Unit ⊕ (Int32)) ⊕ (Int32)) :=
  jb (jgetA 0 3 x0) fun v11 =>
  jb (jgetI 3 2 v11) fun v12 =>
  if v12 ≤ x4 then
    jinl (X0_sums_b125 x0 x2 x3)
  else
    jloop (fun (t : Int32) => X0_sums_L68 x0 x2 x3 x4 t) 0
theorem j_X0_sums_L53 (D : va_G) (dA : Nat → ClassId) (x0 : Nat) (x2 : Int32) (x3 : Int32) (x4 : Int32) : J (PM D dA false) Y_X0_sums [(0, .ref x0), (2, .int x2), (3, .int x3), (4, .int x4)] [] 53 (X0_sums_L53 x0 x2 x3 x4) (FLoop (FLoop (FRet injU) 37 (fun (t : Int32) => [(0, .ref x0), (2, .int x2), (3, .int t)])) 53 (fun (t : Int32) => [(0, .ref x0), (2, .int x2), (3, .int x3), (4, .int t)])) := by
  unfold X0_sums_L53
  refine J_iload dX0_sums_53 3 rfl ?_
  refine J_aload_n dX0_sums_55 rfl 0 rfl ?_
  refine J_getA dX0_sums_56 fl_X0_34 rfl (fun v11 => ?_)
  refine J_getI dX0_sums_59 fl_X0_196 rfl (fun v12 => ?_)
  refine J_icmp_ge (tgt := 125) dX0_sums_62 rfl ?_ ?_
  · refine J_inl ?_
    refine J_sub [0, 1, 2] rfl ?_
    exact j_X0_sums_b125 D dA x0 x2 x3
  refine J_iconst (v := 0) dX0_sums_65 (by decide) ?_
  refine J_istore (env' := [(5, .int 0), (0, .ref x0), (2, .int x2), (3, .int x3), (4, .int x4)]) dX0_sums_66 (by decide) rfl ?_
  refine J_loop (he := fun (t : Int32) => [(0, .ref x0), (2, .int x2), (3, .int x3), (4, .int x4), (5, .int t)]) [1, 2, 3, 4, 0] rfl (fun t => ?_)
  exact j_X0_sums_L68 D dA x0 x2 x3 x4 t
noncomputable def X0_sums_L37 (x0 : Nat) (x2 : Int32) (x3 : Int32) : JM Mem (Unit ⊕ (Int32)) :=
  jb (jgetA 0 3 x0) fun v8 =>
  jb (jgetI 3 2 v8) fun v9 =>
  if v9 ≤ x3 then
    jinl (jp ())
  else
  jlet (x3 + 1) fun y10 =>
  jloop (fun (t : Int32) => X0_sums_L53 x0 x2 x3 t) y10
theorem j_X0_sums_L37 (D : va_G) (dA : Nat → ClassId) (x0 : Nat) (x2 : Int32) (x3 : Int32) : J (PM D dA false) Y_X0_sums [(0, .ref x0), (2, .int x2), (3, .int x3)] [] 37 (X0_sums_L37 x0 x2 x3) (FLoop (FRet injU) 37 (fun (t : Int32) => [(0, .ref x0), (2, .int x2), (3, .int t)])) := by
  unfold X0_sums_L37
  refine J_iload_n dX0_sums_37 rfl 2 rfl ?_
  refine J_aload_n dX0_sums_38 rfl 0 rfl ?_
  refine J_getA dX0_sums_39 fl_X0_34 rfl (fun v8 => ?_)
  refine J_getI dX0_sums_42 fl_X0_196 rfl (fun v9 => ?_)
  refine J_icmp_ge (tgt := 131) dX0_sums_45 rfl ?_ ?_
  · refine J_inl ?_
    exact J_return dX0_sums_131 rfl
  refine J_iload_n dX0_sums_48 rfl 2 rfl ?_
  refine J_iconst (v := 1) dX0_sums_49 (by decide) ?_
  refine J_iadd dX0_sums_50 ?_
  refine J_letI (fun y10 => ?_)
  refine J_istore (env' := [(4, .int y10), (0, .ref x0), (2, .int x2), (3, .int x3)]) dX0_sums_51 (by decide) rfl ?_
  refine J_loop (he := fun (t : Int32) => [(0, .ref x0), (2, .int x2), (3, .int x3), (4, .int t)]) [1, 2, 3, 0] rfl (fun t => ?_)
  exact j_X0_sums_L53 D dA x0 x2 x3 t
noncomputable def f_X0_sums (x0 : Nat) (x1 : Nat) : JM Mem Unit :=
  jb (jgetA 0 2 x0) fun v1 =>
  jb (jgetI 3 2 v1) fun v2 =>
  jb (jgetA 0 3 x0) fun v3 =>
  jb (jcall 3 v3 (f_X4_copy v3 x1)) fun _ =>
  jb (jgetA 0 2 x0) fun v4 =>
  jb (jgetI 3 2 v4) fun v5 =>
  jb (jgetA 0 3 x0) fun v6 =>
  jb (jgetI 3 2 v6) fun v7 =>
  jb (jputI 3 2 v4 (v5 + v7)) fun _ =>
  jloop (fun (t : Int32) => X0_sums_L37 x0 v2 t) 0
theorem j_X0_sums (D : va_G) (dA : Nat → ClassId) (x0 : Nat) (x1 : Nat) : J (PM D dA false) Y_X0_sums [(0, .ref x0), (1, .ref x1)] [] 0 (f_X0_sums x0 x1) (FRet injU) := by
  unfold f_X0_sums
  refine J_aload_n dX0_sums_0 rfl 0 rfl ?_
  refine J_getA dX0_sums_1 fl_X0_30 rfl (fun v1 => ?_)
  refine J_getI dX0_sums_4 fl_X0_196 rfl (fun v2 => ?_)
  refine J_istore_n (env' := [(2, .int v2), (0, .ref x0), (1, .ref x1)]) dX0_sums_7 rfl (by decide) rfl ?_
  refine J_aload_n dX0_sums_8 rfl 1 rfl ?_
  refine J_getA dX0_sums_9 fl_X0_34 rfl (fun v3 => ?_)
  refine J_aload_n dX0_sums_12 rfl 2 rfl ?_
  refine J_callVV (c := 3) (as := [.ref x1]) dX0_sums_13 (by decide) rfl (Nat.le_of_ble_eq_true rfl) (cw_X4_copy _ (by decide)) q939 q940 q941 q942 np_X4_copy (i_X4_copy v3 x1) jad_id rfl ?_
  refine J_aload_n dX0_sums_16 rfl 1 rfl ?_
  refine J_getA dX0_sums_17 fl_X0_30 rfl (fun v4 => ?_)
  refine J_dup dX0_sums_20 rfl ?_
  refine J_getI dX0_sums_21 fl_X0_196 rfl (fun v5 => ?_)
  refine J_aload_n dX0_sums_24 rfl 1 rfl ?_
  refine J_getA dX0_sums_25 fl_X0_34 rfl (fun v6 => ?_)
  refine J_getI dX0_sums_28 fl_X0_196 rfl (fun v7 => ?_)
  refine J_iadd dX0_sums_31 ?_
  refine J_putI dX0_sums_32 ⟨fl_X0_196, Or.inl rfl⟩ rfl ?_
  refine J_iconst (v := 0) dX0_sums_35 (by decide) ?_
  refine J_istore_n (env' := [(3, .int 0), (2, .int v2), (0, .ref x0), (1, .ref x1)]) dX0_sums_36 rfl (by decide) rfl ?_
  refine J_loop (he := fun (t : Int32) => [(0, .ref x0), (2, .int v2), (3, .int t)]) [2, 1, 0] rfl (fun t => ?_)
  exact j_X0_sums_L37 D dA x0 v2 t
theorem i_X0_sums (x0 : Nat) (x1 : Nat) : Impl (ws_ yX0_sums cX0_sums 6 none) yX0_sums 4 false 0 0 [.ref x0, .ref x1] (f_X0_sums x0 x1) injU := impl_of (plainFor_of_name (by decide)) (Nat.le_of_ble_eq_true rfl) (fun D dA => j_X0_sums D dA x0 x1)
theorem cw_X0_sums (Y : JY) (h : 5 ≤ Y.2.2.2.1) : JCw Y (ws_ yX0_sums cX0_sums 6 none) yX0_sums cX0_sums 6 none 4 := ⟨h, by decide, lw_meth q1414, q187, by decide, by decide⟩
theorem np_X0_sums : JNp yX0_sums.desc 1 := by decide +kernel
-- BracketRoom.sum(I)I
abbrev Y_X0_sum : JY := (cX0_sum, yX0_sum.cls, 3, 5, yX0_sum.name, (some .int), [])
noncomputable def f_X0_sum (x0 : Nat) (x1 : Int32) : JM Mem Int32 :=
  jb (jcall 0 x0 (f_X0_wrongSum x0 x1)) fun v1 =>
  if v1 ≤ 0 then
    jb (jgetA 0 4 x0) fun v2 =>
    jb (jaldA 7 v2 x1) fun v3 =>
    jb (jcall 0 x0 (f_X0_sums x0 v3)) fun _ =>
    jb (jgetA 0 2 x0) fun v4 =>
    jb (jgetI 3 2 v4) fun v5 =>
    jb (jcall 0 x0 (f_X0_gives x0 v5)) fun v6 =>
    jp v6
  else
  jb (jcall 0 x0 (f_X0_none x0 v1)) fun v7 =>
  jp v7
theorem j_X0_sum (D : va_G) (dA : Nat → ClassId) (x0 : Nat) (x1 : Int32) : J (PM D dA false) Y_X0_sum [(0, .ref x0), (1, .int x1)] [] 0 (f_X0_sum x0 x1) (FRet injI) := by
  unfold f_X0_sum
  refine J_aload_n dX0_sum_0 rfl 0 rfl ?_
  refine J_iload_n dX0_sum_1 rfl 1 rfl ?_
  refine J_callVI (c := 0) (as := [.int x1]) dX0_sum_2 (by decide) rfl (Nat.le_of_ble_eq_true rfl) (cw_X0_wrongSum _ (by decide)) q1407 q1409 qs57 q1410 np_X0_wrongSum (i_X0_wrongSum x0 x1) jad_id rfl (fun v1 => ?_)
  refine J_istore_n (env' := [(2, .int v1), (0, .ref x0), (1, .int x1)]) dX0_sum_5 rfl (by decide) rfl ?_
  refine J_iload_n dX0_sum_6 rfl 0 rfl ?_
  refine J_if_le (tgt := 16) dX0_sum_7 rfl ?_ ?_
  · refine J_aload_n dX0_sum_16 rfl 1 rfl ?_
    refine J_aload_n dX0_sum_17 rfl 1 rfl ?_
    refine J_getA dX0_sum_18 fl_X0_37 rfl (fun v2 => ?_)
    refine J_iload_n dX0_sum_21 rfl 2 rfl ?_
    refine J_aald dX0_sum_22 rfl (by decide) (fun v3 => ?_)
    refine J_callVV (c := 0) (as := [.ref v3]) dX0_sum_23 (by decide) rfl (Nat.le_of_ble_eq_true rfl) (cw_X0_sums _ (by decide)) q1411 q1413 qs58 q1414 np_X0_sums (i_X0_sums x0 v3) jad_id rfl ?_
    refine J_aload_n dX0_sum_26 rfl 1 rfl ?_
    refine J_aload_n dX0_sum_27 rfl 1 rfl ?_
    refine J_getA dX0_sum_28 fl_X0_30 rfl (fun v4 => ?_)
    refine J_getI dX0_sum_31 fl_X0_196 rfl (fun v5 => ?_)
    refine J_callVI (c := 0) (as := [.int v5]) dX0_sum_34 (by decide) rfl (Nat.le_of_ble_eq_true rfl) (cw_X0_gives _ (by decide)) q944 q946 qs9 q947 np_X0_gives (i_X0_gives x0 v5) jad_id rfl (fun v6 => ?_)
    exact J_ireturn dX0_sum_37 rfl
  refine J_aload_n dX0_sum_10 rfl 1 rfl ?_
  refine J_iload_n dX0_sum_11 rfl 0 rfl ?_
  refine J_callVI (c := 0) (as := [.int v1]) dX0_sum_12 (by decide) rfl (Nat.le_of_ble_eq_true rfl) (cw_X0_none _ (by decide)) q729 q731 qs3 q732 np_X0_none (i_X0_none x0 v1) jad_id rfl (fun v7 => ?_)
  exact J_ireturn dX0_sum_15 rfl
theorem i_X0_sum (x0 : Nat) (x1 : Int32) : Impl (ws_ yX0_sum cX0_sum 3 (some .int)) yX0_sum 5 false 0 0 [.ref x0, .int x1] (f_X0_sum x0 x1) injI := impl_of (plainFor_of_name (by decide)) (Nat.le_of_ble_eq_true rfl) (fun D dA => j_X0_sum D dA x0 x1)
theorem cw_X0_sum (Y : JY) (h : 6 ≤ Y.2.2.2.1) : JCw Y (ws_ yX0_sum cX0_sum 3 (some .int)) yX0_sum cX0_sum 3 (some .int) 5 := ⟨h, by decide, lw_meth q1406, q187, by decide, by decide⟩
theorem np_X0_sum : JNp yX0_sum.desc 1 := by decide +kernel
-- BracketRoom.leads(I)Z
abbrev Y_X0_leads : JY := (cX0_leads, yX0_leads.cls, 3, 1, yX0_leads.name, (some .boolean), [])
noncomputable def X0_leads_L2 (x0 : Nat) (x1 : Int32) (x2 : Int32) : JM Mem (Int32 ⊕ (Int32)) :=
  jb (jgetA 0 24 x0) fun v1 =>
  jb (jgetI 4 2 v1) fun v2 =>
  if v2 ≤ x2 then
    jinl (jp 0)
  else
  jb (jgetA 0 24 x0) fun v3 =>
  jb (jgetA 4 1 v3) fun v4 =>
  jb (jald mI 0 v4 x2) fun v5 =>
  if v5 = x1 then
    jinl (jp 1)
  else
    jcont (x2 + 1)
theorem j_X0_leads_L2 (D : va_G) (dA : Nat → ClassId) (x0 : Nat) (x1 : Int32) (x2 : Int32) : J (PM D dA false) Y_X0_leads [(0, .ref x0), (1, .int x1), (2, .int x2)] [] 2 (X0_leads_L2 x0 x1 x2) (FLoop (FRet injI) 2 (fun (t : Int32) => [(0, .ref x0), (1, .int x1), (2, .int t)])) := by
  unfold X0_leads_L2
  refine J_iload_n dX0_leads_2 rfl 2 rfl ?_
  refine J_aload_n dX0_leads_3 rfl 0 rfl ?_
  refine J_getA dX0_leads_4 fl_X0_96 rfl (fun v1 => ?_)
  refine J_getI dX0_leads_7 fl_X0_302 rfl (fun v2 => ?_)
  refine J_icmp_ge (tgt := 34) dX0_leads_10 rfl ?_ ?_
  · refine J_inl ?_
    refine J_iconst (v := 0) dX0_leads_34 (by decide) ?_
    exact J_zreturn0 dX0_leads_35 rfl
  refine J_aload_n dX0_leads_13 rfl 0 rfl ?_
  refine J_getA dX0_leads_14 fl_X0_96 rfl (fun v3 => ?_)
  refine J_getA dX0_leads_17 fl_X0_403 rfl (fun v4 => ?_)
  refine J_iload_n dX0_leads_20 rfl 2 rfl ?_
  refine J_iald dX0_leads_21 (fun v5 => ?_)
  refine J_iload_n dX0_leads_22 rfl 1 rfl ?_
  refine J_icmp_ne (tgt := 28) dX0_leads_23 rfl ?_ ?_
  · refine J_iinc (v := x2 + 1) (env' := [(2, .int (x2 + 1)), (0, .ref x0), (1, .int x1)]) dX0_leads_28 2 rfl rfl (by decide) rfl ?_
    refine J_goto (tgt := 2) dX0_leads_31 rfl ?_
    exact J_cont [1, 2, 0] rfl
  refine J_inl ?_
  refine J_iconst (v := 1) dX0_leads_26 (by decide) ?_
  exact J_zreturn1 dX0_leads_27 rfl
noncomputable def f_X0_leads (x0 : Nat) (x1 : Int32) : JM Mem Int32 :=
  jloop (fun (t : Int32) => X0_leads_L2 x0 x1 t) 0
theorem j_X0_leads (D : va_G) (dA : Nat → ClassId) (x0 : Nat) (x1 : Int32) : J (PM D dA false) Y_X0_leads [(0, .ref x0), (1, .int x1)] [] 0 (f_X0_leads x0 x1) (FRet injI) := by
  unfold f_X0_leads
  refine J_iconst (v := 0) dX0_leads_0 (by decide) ?_
  refine J_istore_n (env' := [(2, .int 0), (0, .ref x0), (1, .int x1)]) dX0_leads_1 rfl (by decide) rfl ?_
  refine J_loop (he := fun (t : Int32) => [(0, .ref x0), (1, .int x1), (2, .int t)]) [1, 2, 0] rfl (fun t => ?_)
  exact j_X0_leads_L2 D dA x0 x1 t
theorem i_X0_leads (x0 : Nat) (x1 : Int32) : Impl (ws_ yX0_leads cX0_leads 3 (some .boolean)) yX0_leads 1 false 0 0 [.ref x0, .int x1] (f_X0_leads x0 x1) injI := impl_of (plainFor_of_name (by decide)) (Nat.le_of_ble_eq_true rfl) (fun D dA => j_X0_leads D dA x0 x1)
theorem cw_X0_leads (Y : JY) (h : 2 ≤ Y.2.2.2.1) : JCw Y (ws_ yX0_leads cX0_leads 3 (some .boolean)) yX0_leads cX0_leads 3 (some .boolean) 1 := ⟨h, by decide, lw_meth q1422, q187, by decide, by decide⟩
theorem np_X0_leads : JNp yX0_leads.desc 1 := by decide +kernel
-- BracketRoom.rest(II)I
abbrev Y_X0_rest : JY := (cX0_rest, yX0_rest.cls, 8, 7, yX0_rest.name, (some .int), [])
noncomputable def X0_rest_b282 (x0 : Nat) (x4 : Int32) : JM Mem Int32 :=
  jb (jcall 0 x0 (f_X0_gives x0 x4)) fun v16 =>
  jp v16
theorem j_X0_rest_b282 (D : va_G) (dA : Nat → ClassId) (x0 : Nat) (x4 : Int32) : J (PM D dA false) Y_X0_rest [(0, .ref x0), (4, .int x4)] [] 282 (X0_rest_b282 x0 x4) (FRet injI) := by
  unfold X0_rest_b282
  refine J_aload_n dX0_rest_282 rfl 0 rfl ?_
  refine J_iload dX0_rest_283 1 rfl ?_
  refine J_callVI (c := 0) (as := [.int x4]) dX0_rest_285 (by decide) rfl (Nat.le_of_ble_eq_true rfl) (cw_X0_gives _ (by decide)) q944 q946 qs9 q947 np_X0_gives (i_X0_gives x0 x4) jad_id rfl (fun v16 => ?_)
  exact J_ireturn dX0_rest_288 rfl
noncomputable def X0_rest_b276 (x0 : Nat) (x4 : Int32) (x5 : Int32) : JM Mem (Int32 ⊕ (Int32)) :=
  jcont (x5 + 1)
theorem j_X0_rest_b276 (D : va_G) (dA : Nat → ClassId) (x0 : Nat) (x4 : Int32) (x5 : Int32) : J (PM D dA false) Y_X0_rest [(0, .ref x0), (4, .int x4), (5, .int x5)] [] 276 (X0_rest_b276 x0 x4 x5) (FLoop (FRet injI) 161 (fun (t : Int32) => [(0, .ref x0), (4, .int x4), (5, .int t)])) := by
  unfold X0_rest_b276
  refine J_iinc (v := x5 + 1) (env' := [(5, .int (x5 + 1)), (0, .ref x0), (4, .int x4)]) dX0_rest_276 2 rfl rfl (by decide) rfl ?_
  refine J_goto (tgt := 161) dX0_rest_279 rfl ?_
  exact J_cont [1, 2, 0] rfl
noncomputable def X0_rest_b270 (x0 : Nat) (x4 : Int32) (x5 : Int32) (x6 : Int32) : JM Mem ((Int32 ⊕ (Int32)) ⊕ (Int32)) :=
  jcont (x6 + 1)
theorem j_X0_rest_b270 (D : va_G) (dA : Nat → ClassId) (x0 : Nat) (x4 : Int32) (x5 : Int32) (x6 : Int32) : J (PM D dA false) Y_X0_rest [(0, .ref x0), (4, .int x4), (5, .int x5), (6, .int x6)] [] 270 (X0_rest_b270 x0 x4 x5 x6) (FLoop (FLoop (FRet injI) 161 (fun (t : Int32) => [(0, .ref x0), (4, .int x4), (5, .int t)])) 174 (fun (t : Int32) => [(0, .ref x0), (4, .int x4), (5, .int x5), (6, .int t)])) := by
  unfold X0_rest_b270
  refine J_iinc (v := x6 + 1) (env' := [(6, .int (x6 + 1)), (0, .ref x0), (4, .int x4), (5, .int x5)]) dX0_rest_270 3 rfl rfl (by decide) rfl ?_
  refine J_goto (tgt := 174) dX0_rest_273 rfl ?_
  exact J_cont [1, 2, 3, 0] rfl
noncomputable def X0_rest_L232 (x0 : Nat) (x4 : Int32) (x5 : Int32) (x6 : Int32) (x7 : Int32) : JM Mem (((Int32 ⊕ (Int32)) ⊕ (Int32)) ⊕ (Int32)) :=
  if x4 ≤ x7 then
    jinl (X0_rest_b270 x0 x4 x5 x6)
  else
  jb (jgetA 0 2 x0) fun v30 =>
  jb (jgetA 0 15 x0) fun v31 =>
  jb (jgetA 0 37 x0) fun v32 =>
  jb (jald mI 0 v32 x7) fun v33 =>
  jb (jald mI 0 v31 v33) fun v34 =>
  jb (jcall 3 v30 (f_X4_set v30 x5 x6 x7 v34)) fun _ =>
  jcont (x7 + 1)
theorem j_X0_rest_L232 (D : va_G) (dA : Nat → ClassId) (x0 : Nat) (x4 : Int32) (x5 : Int32) (x6 : Int32) (x7 : Int32) : J (PM D dA false) Y_X0_rest [(0, .ref x0), (4, .int x4), (5, .int x5), (6, .int x6), (7, .int x7)] [] 232 (X0_rest_L232 x0 x4 x5 x6 x7) (FLoop (FLoop (FLoop (FRet injI) 161 (fun (t : Int32) => [(0, .ref x0), (4, .int x4), (5, .int t)])) 174 (fun (t : Int32) => [(0, .ref x0), (4, .int x4), (5, .int x5), (6, .int t)])) 232 (fun (t : Int32) => [(0, .ref x0), (4, .int x4), (5, .int x5), (6, .int x6), (7, .int t)])) := by
  unfold X0_rest_L232
  refine J_iload dX0_rest_232 4 rfl ?_
  refine J_iload dX0_rest_234 1 rfl ?_
  refine J_icmp_ge (tgt := 270) dX0_rest_236 rfl ?_ ?_
  · refine J_inl ?_
    refine J_sub [0, 1, 2, 3] rfl ?_
    exact j_X0_rest_b270 D dA x0 x4 x5 x6
  refine J_aload_n dX0_rest_239 rfl 0 rfl ?_
  refine J_getA dX0_rest_240 fl_X0_30 rfl (fun v30 => ?_)
  refine J_iload dX0_rest_243 2 rfl ?_
  refine J_iload dX0_rest_245 3 rfl ?_
  refine J_iload dX0_rest_247 4 rfl ?_
  refine J_aload_n dX0_rest_249 rfl 0 rfl ?_
  refine J_getA dX0_rest_250 fl_X0_63 rfl (fun v31 => ?_)
  refine J_aload_n dX0_rest_253 rfl 0 rfl ?_
  refine J_getA dX0_rest_254 fl_X0_127 rfl (fun v32 => ?_)
  refine J_iload dX0_rest_257 4 rfl ?_
  refine J_iald dX0_rest_259 (fun v33 => ?_)
  refine J_iald dX0_rest_260 (fun v34 => ?_)
  refine J_callVV (c := 3) (as := [.int x5, .int x6, .int x7, .int v34]) dX0_rest_261 (by decide) rfl (Nat.le_of_ble_eq_true rfl) (cw_X4_set _ (by decide)) q1031 q925 q926 q927 np_X4_set (i_X4_set v30 x5 x6 x7 v34) jad_id rfl ?_
  refine J_iinc (v := x7 + 1) (env' := [(7, .int (x7 + 1)), (0, .ref x0), (4, .int x4), (5, .int x5), (6, .int x6)]) dX0_rest_264 4 rfl rfl (by decide) rfl ?_
  refine J_goto (tgt := 232) dX0_rest_267 rfl ?_
  exact J_cont [1, 2, 3, 4, 0] rfl
noncomputable def X0_rest_L174 (x0 : Nat) (x4 : Int32) (x5 : Int32) (x6 : Int32) : JM Mem ((Int32 ⊕ (Int32)) ⊕ (Int32)) :=
  if x4 ≤ x6 then
    jinl (X0_rest_b276 x0 x4 x5)
  else
  jb (jgetA 0 3 x0) fun v18 =>
  jb (jgetA 3 0 v18) fun v19 =>
  jb (jgetA 0 37 x0) fun v20 =>
  jb (jald mI 0 v20 x5) fun v21 =>
  jb (jaldA 6 v19 v21) fun v22 =>
  jb (jgetA 0 37 x0) fun v23 =>
  jb (jald mI 0 v23 x6) fun v24 =>
  jb (jaldA 5 v22 v24) fun v25 =>
  jb (jgetA 0 15 x0) fun v26 =>
  jb (jcopy 0 v25 0 v26 0 5) fun _ =>
  jb (jgetA 0 24 x0) fun v27 =>
  jb (jgetA 0 3 x0) fun v28 =>
  jb (jgetA 0 15 x0) fun v29 =>
  jb (jcall 4 v27 (f_X5_reduce v27 v28 v29)) fun _ =>
  jloop (fun (t : Int32) => X0_rest_L232 x0 x4 x5 x6 t) 0
theorem j_X0_rest_L174 (D : va_G) (dA : Nat → ClassId) (x0 : Nat) (x4 : Int32) (x5 : Int32) (x6 : Int32) : J (PM D dA false) Y_X0_rest [(0, .ref x0), (4, .int x4), (5, .int x5), (6, .int x6)] [] 174 (X0_rest_L174 x0 x4 x5 x6) (FLoop (FLoop (FRet injI) 161 (fun (t : Int32) => [(0, .ref x0), (4, .int x4), (5, .int t)])) 174 (fun (t : Int32) => [(0, .ref x0), (4, .int x4), (5, .int x5), (6, .int t)])) := by
  unfold X0_rest_L174
  refine J_iload dX0_rest_174 3 rfl ?_
  refine J_iload dX0_rest_176 1 rfl ?_
  refine J_icmp_ge (tgt := 276) dX0_rest_178 rfl ?_ ?_
  · refine J_inl ?_
    refine J_sub [0, 1, 2] rfl ?_
    exact j_X0_rest_b276 D dA x0 x4 x5
  refine J_aload_n dX0_rest_181 rfl 0 rfl ?_
  refine J_getA dX0_rest_182 fl_X0_34 rfl (fun v18 => ?_)
  refine J_getA dX0_rest_185 fl_X0_256 rfl (fun v19 => ?_)
  refine J_aload_n dX0_rest_188 rfl 0 rfl ?_
  refine J_getA dX0_rest_189 fl_X0_127 rfl (fun v20 => ?_)
  refine J_iload dX0_rest_192 2 rfl ?_
  refine J_iald dX0_rest_194 (fun v21 => ?_)
  refine J_aald dX0_rest_195 rfl (by decide) (fun v22 => ?_)
  refine J_aload_n dX0_rest_196 rfl 0 rfl ?_
  refine J_getA dX0_rest_197 fl_X0_127 rfl (fun v23 => ?_)
  refine J_iload dX0_rest_200 3 rfl ?_
  refine J_iald dX0_rest_202 (fun v24 => ?_)
  refine J_aald dX0_rest_203 rfl (by decide) (fun v25 => ?_)
  refine J_iconst (v := 0) dX0_rest_204 (by decide) ?_
  refine J_aload_n dX0_rest_205 rfl 0 rfl ?_
  refine J_getA dX0_rest_206 fl_X0_63 rfl (fun v26 => ?_)
  refine J_iconst (v := 0) dX0_rest_209 (by decide) ?_
  refine J_iconst (v := 5) dX0_rest_210 (by decide) ?_
  refine J_copy (t := 0) dX0_rest_211 (by decide) (Nat.le_of_ble_eq_true rfl) (by decide) q743 q745 q744 q204 ?_
  refine J_aload_n dX0_rest_214 rfl 0 rfl ?_
  refine J_getA dX0_rest_215 fl_X0_96 rfl (fun v27 => ?_)
  refine J_aload_n dX0_rest_218 rfl 0 rfl ?_
  refine J_getA dX0_rest_219 fl_X0_34 rfl (fun v28 => ?_)
  refine J_aload_n dX0_rest_222 rfl 0 rfl ?_
  refine J_getA dX0_rest_223 fl_X0_63 rfl (fun v29 => ?_)
  refine J_callVV (c := 4) (as := [.ref v28, .ref v29]) dX0_rest_226 (by decide) rfl (Nat.le_of_ble_eq_true rfl) (cw_X5_reduce _ (by decide)) q1245 q1116 q1117 q1118 np_X5_reduce (i_X5_reduce v27 v28 v29) jad_id rfl ?_
  refine J_iconst (v := 0) dX0_rest_229 (by decide) ?_
  refine J_istore (env' := [(7, .int 0), (0, .ref x0), (4, .int x4), (5, .int x5), (6, .int x6)]) dX0_rest_230 (by decide) rfl ?_
  refine J_loop (he := fun (t : Int32) => [(0, .ref x0), (4, .int x4), (5, .int x5), (6, .int x6), (7, .int t)]) [1, 2, 3, 4, 0] rfl (fun t => ?_)
  exact j_X0_rest_L232 D dA x0 x4 x5 x6 t
noncomputable def X0_rest_L161 (x0 : Nat) (x4 : Int32) (x5 : Int32) : JM Mem (Int32 ⊕ (Int32)) :=
  if x4 ≤ x5 then
    jinl (X0_rest_b282 x0 x4)
  else
  jlet (x5 + 1) fun y17 =>
  jloop (fun (t : Int32) => X0_rest_L174 x0 x4 x5 t) y17
theorem j_X0_rest_L161 (D : va_G) (dA : Nat → ClassId) (x0 : Nat) (x4 : Int32) (x5 : Int32) : J (PM D dA false) Y_X0_rest [(0, .ref x0), (4, .int x4), (5, .int x5)] [] 161 (X0_rest_L161 x0 x4 x5) (FLoop (FRet injI) 161 (fun (t : Int32) => [(0, .ref x0), (4, .int x4), (5, .int t)])) := by
  unfold X0_rest_L161
  refine J_iload dX0_rest_161 2 rfl ?_
  refine J_iload dX0_rest_163 1 rfl ?_
  refine J_icmp_ge (tgt := 282) dX0_rest_165 rfl ?_ ?_
  · refine J_inl ?_
    refine J_sub [0, 1] rfl ?_
    exact j_X0_rest_b282 D dA x0 x4
  refine J_iload dX0_rest_168 2 rfl ?_
  refine J_iconst (v := 1) dX0_rest_170 (by decide) ?_
  refine J_iadd dX0_rest_171 ?_
  refine J_letI (fun y17 => ?_)
  refine J_istore (env' := [(6, .int y17), (0, .ref x0), (4, .int x4), (5, .int x5)]) dX0_rest_172 (by decide) rfl ?_
  refine J_loop (he := fun (t : Int32) => [(0, .ref x0), (4, .int x4), (5, .int x5), (6, .int t)]) [1, 2, 3, 0] rfl (fun t => ?_)
  exact j_X0_rest_L174 D dA x0 x4 x5 t
noncomputable def X0_rest_b142 (x0 : Nat) (x4 : Int32) : JM Mem Int32 :=
  jb (jgetA 0 2 x0) fun v14 =>
  jb (jcall 3 v14 (f_X4_clear v14)) fun _ =>
  jb (jgetA 0 2 x0) fun v15 =>
  jb (jputI 3 2 v15 x4) fun _ =>
  jloop (fun (t : Int32) => X0_rest_L161 x0 x4 t) 0
theorem j_X0_rest_b142 (D : va_G) (dA : Nat → ClassId) (x0 : Nat) (x4 : Int32) : J (PM D dA false) Y_X0_rest [(0, .ref x0), (4, .int x4)] [] 142 (X0_rest_b142 x0 x4) (FRet injI) := by
  unfold X0_rest_b142
  refine J_aload_n dX0_rest_142 rfl 0 rfl ?_
  refine J_getA dX0_rest_143 fl_X0_30 rfl (fun v14 => ?_)
  refine J_callVV (c := 3) (as := []) dX0_rest_146 (by decide) rfl (Nat.le_of_ble_eq_true rfl) (cw_X4_clear _ (by decide)) q1423 q844 q845 q846 np_X4_clear (i_X4_clear v14) jad_id rfl ?_
  refine J_aload_n dX0_rest_149 rfl 0 rfl ?_
  refine J_getA dX0_rest_150 fl_X0_30 rfl (fun v15 => ?_)
  refine J_iload dX0_rest_153 1 rfl ?_
  refine J_putI dX0_rest_155 ⟨fl_X0_196, Or.inl rfl⟩ rfl ?_
  refine J_iconst (v := 0) dX0_rest_158 (by decide) ?_
  refine J_istore (env' := [(5, .int 0), (0, .ref x0), (4, .int x4)]) dX0_rest_159 (by decide) rfl ?_
  refine J_loop (he := fun (t : Int32) => [(0, .ref x0), (4, .int x4), (5, .int t)]) [1, 2, 0] rfl (fun t => ?_)
  exact j_X0_rest_L161 D dA x0 x4 t
noncomputable def X0_rest_b136 (x0 : Nat) (x4 : Int32) (x5 : Int32) : JM Mem (Int32 ⊕ (Int32 × Int32)) :=
  jcont (x4, x5 + 1)
theorem j_X0_rest_b136 (D : va_G) (dA : Nat → ClassId) (x0 : Nat) (x4 : Int32) (x5 : Int32) : J (PM D dA false) Y_X0_rest [(0, .ref x0), (4, .int x4), (5, .int x5)] [] 136 (X0_rest_b136 x0 x4 x5) (FLoop (FRet injI) 90 (fun (t : Int32 × Int32) => [(0, .ref x0), (4, .int t.1), (5, .int t.2)])) := by
  unfold X0_rest_b136
  refine J_iinc (v := x5 + 1) (env' := [(5, .int (x5 + 1)), (0, .ref x0), (4, .int x4)]) dX0_rest_136 2 rfl rfl (by decide) rfl ?_
  refine J_goto (tgt := 90) dX0_rest_139 rfl ?_
  exact J_cont [1, 2, 0] rfl
noncomputable def X0_rest_b124 (x0 : Nat) (x4 : Int32) (x5 : Int32) : JM Mem (Int32 ⊕ (Int32 × Int32)) :=
  jb (jgetA 0 37 x0) fun v37 =>
  jb (jast_i v37 x4 x5) fun _ =>
  X0_rest_b136 x0 (x4 + 1) x5
theorem j_X0_rest_b124 (D : va_G) (dA : Nat → ClassId) (x0 : Nat) (x4 : Int32) (x5 : Int32) : J (PM D dA false) Y_X0_rest [(0, .ref x0), (4, .int x4), (5, .int x5)] [] 124 (X0_rest_b124 x0 x4 x5) (FLoop (FRet injI) 90 (fun (t : Int32 × Int32) => [(0, .ref x0), (4, .int t.1), (5, .int t.2)])) := by
  unfold X0_rest_b124
  refine J_aload_n dX0_rest_124 rfl 0 rfl ?_
  refine J_getA dX0_rest_125 fl_X0_127 rfl (fun v37 => ?_)
  refine J_iload dX0_rest_128 1 rfl ?_
  refine J_iload dX0_rest_130 2 rfl ?_
  refine J_iast dX0_rest_132 ?_
  refine J_iinc (v := x4 + 1) (env' := [(4, .int (x4 + 1)), (0, .ref x0), (5, .int x5)]) dX0_rest_133 1 rfl rfl (by decide) rfl ?_
  refine J_sub [1, 0, 2] rfl ?_
  exact j_X0_rest_b136 D dA x0 (x4 + 1) x5
noncomputable def X0_rest_L90 (x0 : Nat) (x4 : Int32) (x5 : Int32) : JM Mem (Int32 ⊕ (Int32 × Int32)) :=
  jb (jgetA 0 3 x0) fun v12 =>
  jb (jgetI 3 2 v12) fun v13 =>
  if v13 ≤ x5 then
    jinl (X0_rest_b142 x0 x4)
  else
  jb (jgetA 0 24 x0) fun v35 =>
  jb (jgetI 4 2 v35) fun v36 =>
  if v36 ≤ 0 then
    X0_rest_b124 x0 x4 x5
  else
  jb (jcall 0 x0 (f_X0_leads x0 x5)) fun v38 =>
  if v38 = 0 then
    X0_rest_b124 x0 x4 x5
  else
    X0_rest_b136 x0 x4 x5
theorem j_X0_rest_L90 (D : va_G) (dA : Nat → ClassId) (x0 : Nat) (x4 : Int32) (x5 : Int32) : J (PM D dA false) Y_X0_rest [(0, .ref x0), (4, .int x4), (5, .int x5)] [] 90 (X0_rest_L90 x0 x4 x5) (FLoop (FRet injI) 90 (fun (t : Int32 × Int32) => [(0, .ref x0), (4, .int t.1), (5, .int t.2)])) := by
  unfold X0_rest_L90
  refine J_iload dX0_rest_90 2 rfl ?_
  refine J_aload_n dX0_rest_92 rfl 0 rfl ?_
  refine J_getA dX0_rest_93 fl_X0_34 rfl (fun v12 => ?_)
  refine J_getI dX0_rest_96 fl_X0_196 rfl (fun v13 => ?_)
  refine J_icmp_ge (tgt := 142) dX0_rest_99 rfl ?_ ?_
  · refine J_inl ?_
    refine J_sub [0, 1] rfl ?_
    exact j_X0_rest_b142 D dA x0 x4
  refine J_aload_n dX0_rest_102 rfl 0 rfl ?_
  refine J_getA dX0_rest_103 fl_X0_96 rfl (fun v35 => ?_)
  refine J_getI dX0_rest_106 fl_X0_302 rfl (fun v36 => ?_)
  refine J_if_le (tgt := 124) dX0_rest_109 rfl ?_ ?_
  · refine J_sub [0, 1, 2] rfl ?_
    exact j_X0_rest_b124 D dA x0 x4 x5
  refine J_aload_n dX0_rest_112 rfl 0 rfl ?_
  refine J_iload dX0_rest_113 2 rfl ?_
  refine J_callVI (c := 0) (as := [.int x5]) dX0_rest_115 (by decide) rfl (Nat.le_of_ble_eq_true rfl) (cw_X0_leads _ (by decide)) q1419 q1421 qs59 q1422 np_X0_leads (i_X0_leads x0 x5) jad_id rfl (fun v38 => ?_)
  refine J_if_eq (tgt := 124) dX0_rest_118 rfl ?_ ?_
  · refine J_sub [0, 1, 2] rfl ?_
    exact j_X0_rest_b124 D dA x0 x4 x5
  refine J_goto (tgt := 136) dX0_rest_121 rfl ?_
  refine J_sub [0, 1, 2] rfl ?_
  exact j_X0_rest_b136 D dA x0 x4 x5
noncomputable def f_X0_rest (x0 : Nat) (x1 : Int32) (x2 : Int32) : JM Mem Int32 :=
  jb ((f_X0_isFrom ((x2 : Int32).toInt64) 1 20)) fun v1 =>
  jb (jcall 0 x0 (f_X0_wrongRow x0 x1 x2 v1)) fun v2 =>
  if v2 ≤ 0 then
    jb (jgetA 0 24 x0) fun v3 =>
    jb (jcall 0 x0 (f_X0_spans x0 v3 x1 x2)) fun _ =>
    jb (jgetA 0 2 x0) fun v4 =>
    jb (jgetA 0 24 x0) fun v5 =>
    jb (jcall 0 x0 (f_X0_closes x0 v4 v5 1)) fun _ =>
    jb (jgetA 0 24 x0) fun v6 =>
    jb (jgetI 4 2 v6) fun v7 =>
    jb (jgetA 0 2 x0) fun v8 =>
    jb (jgetI 3 2 v8) fun v9 =>
    if v7 = v9 then
      jb (jcall 0 x0 (f_X0_none x0 9)) fun v39 =>
      jp v39
    else
    jb (jgetA 0 3 x0) fun v10 =>
    jb (jgetA 0 2 x0) fun v11 =>
    jb (jcall 3 v10 (f_X4_copy v10 v11)) fun _ =>
    jloop (fun (t : Int32 × Int32) => X0_rest_L90 x0 t.1 t.2) (0, 0)
  else
  jb (jcall 0 x0 (f_X0_none x0 v2)) fun v40 =>
  jp v40
theorem j_X0_rest (D : va_G) (dA : Nat → ClassId) (x0 : Nat) (x1 : Int32) (x2 : Int32) : J (PM D dA false) Y_X0_rest [(0, .ref x0), (1, .int x1), (2, .int x2)] [] 0 (f_X0_rest x0 x1 x2) (FRet injI) := by
  unfold f_X0_rest
  refine J_aload_n dX0_rest_0 rfl 0 rfl ?_
  refine J_iload_n dX0_rest_1 rfl 1 rfl ?_
  refine J_iload_n dX0_rest_2 rfl 2 rfl ?_
  refine J_iload_n dX0_rest_3 rfl 2 rfl ?_
  refine J_i2l dX0_rest_4 ?_
  refine J_lconst (v := 1) dX0_rest_5 (by decide) ?_
  refine J_ldc2 dX0_rest_6 q1095 ?_
  refine J_callSI (host := "") (as := [.long ((x2 : Int32).toInt64), .long 1, .long 20]) dX0_rest_9 rfl (Nat.le_of_ble_eq_true rfl) (cw_X0_isFrom _ (by decide)) q1096 q1097 q1098 np_X0_isFrom (i_X0_isFrom ((x2 : Int32).toInt64) 1 20) jad_id rfl (fun v1 => ?_)
  refine J_callVI (c := 0) (as := [.int x1, .int x2, .int v1]) dX0_rest_12 (by decide) rfl (Nat.le_of_ble_eq_true rfl) (cw_X0_wrongRow _ (by decide)) q1099 q1101 qs18 q1102 np_X0_wrongRow (i_X0_wrongRow x0 x1 x2 v1) jad_id rfl (fun v2 => ?_)
  refine J_istore_n (env' := [(3, .int v2), (0, .ref x0), (1, .int x1), (2, .int x2)]) dX0_rest_15 rfl (by decide) rfl ?_
  refine J_iload_n dX0_rest_16 rfl 0 rfl ?_
  refine J_if_le (tgt := 26) dX0_rest_17 rfl ?_ ?_
  · refine J_aload_n dX0_rest_26 rfl 1 rfl ?_
    refine J_aload_n dX0_rest_27 rfl 1 rfl ?_
    refine J_getA dX0_rest_28 fl_X0_96 rfl (fun v3 => ?_)
    refine J_iload_n dX0_rest_31 rfl 2 rfl ?_
    refine J_iload_n dX0_rest_32 rfl 3 rfl ?_
    refine J_callVV (c := 0) (as := [.ref v3, .int x1, .int x2]) dX0_rest_33 (by decide) rfl (Nat.le_of_ble_eq_true rfl) (cw_X0_spans _ (by decide)) q1107 q1109 qs19 q1110 np_X0_spans (i_X0_spans x0 v3 x1 x2) jad_id rfl ?_
    refine J_aload_n dX0_rest_36 rfl 1 rfl ?_
    refine J_aload_n dX0_rest_37 rfl 1 rfl ?_
    refine J_getA dX0_rest_38 fl_X0_30 rfl (fun v4 => ?_)
    refine J_aload_n dX0_rest_41 rfl 1 rfl ?_
    refine J_getA dX0_rest_42 fl_X0_96 rfl (fun v5 => ?_)
    refine J_iconst (v := 1) dX0_rest_45 (by decide) ?_
    refine J_callVV (c := 0) (as := [.ref v4, .ref v5, .int 1]) dX0_rest_46 (by decide) rfl (Nat.le_of_ble_eq_true rfl) (cw_X0_closes _ (by decide)) q1125 q1127 qs20 q1128 np_X0_closes (i_X0_closes x0 v4 v5 1) jad_id rfl ?_
    refine J_aload_n dX0_rest_49 rfl 1 rfl ?_
    refine J_getA dX0_rest_50 fl_X0_96 rfl (fun v6 => ?_)
    refine J_getI dX0_rest_53 fl_X0_302 rfl (fun v7 => ?_)
    refine J_aload_n dX0_rest_56 rfl 1 rfl ?_
    refine J_getA dX0_rest_57 fl_X0_30 rfl (fun v8 => ?_)
    refine J_getI dX0_rest_60 fl_X0_196 rfl (fun v9 => ?_)
    refine J_icmp_ne (tgt := 73) dX0_rest_63 rfl ?_ ?_
    · refine J_aload_n dX0_rest_73 rfl 1 rfl ?_
      refine J_getA dX0_rest_74 fl_X0_34 rfl (fun v10 => ?_)
      refine J_aload_n dX0_rest_77 rfl 1 rfl ?_
      refine J_getA dX0_rest_78 fl_X0_30 rfl (fun v11 => ?_)
      refine J_callVV (c := 3) (as := [.ref v11]) dX0_rest_81 (by decide) rfl (Nat.le_of_ble_eq_true rfl) (cw_X4_copy _ (by decide)) q939 q940 q941 q942 np_X4_copy (i_X4_copy v10 v11) jad_id rfl ?_
      refine J_iconst (v := 0) dX0_rest_84 (by decide) ?_
      refine J_istore (env' := [(4, .int 0), (3, .int v2), (0, .ref x0), (1, .int x1), (2, .int x2)]) dX0_rest_85 (by decide) rfl ?_
      refine J_iconst (v := 0) dX0_rest_87 (by decide) ?_
      refine J_istore (env' := [(5, .int 0), (4, .int 0), (3, .int v2), (0, .ref x0), (1, .int x1), (2, .int x2)]) dX0_rest_88 (by decide) rfl ?_
      refine J_loop (he := fun (t : Int32 × Int32) => [(0, .ref x0), (4, .int t.1), (5, .int t.2)]) [3, 1, 0] rfl (fun t => ?_)
      exact j_X0_rest_L90 D dA x0 t.1 t.2
    refine J_aload_n dX0_rest_66 rfl 1 rfl ?_
    refine J_bipush (v := 9) dX0_rest_67 (by decide) ?_
    refine J_callVI (c := 0) (as := [.int 9]) dX0_rest_69 (by decide) rfl (Nat.le_of_ble_eq_true rfl) (cw_X0_none _ (by decide)) q729 q731 qs3 q732 np_X0_none (i_X0_none x0 9) jad_id rfl (fun v39 => ?_)
    exact J_ireturn dX0_rest_72 rfl
  refine J_aload_n dX0_rest_20 rfl 1 rfl ?_
  refine J_iload_n dX0_rest_21 rfl 0 rfl ?_
  refine J_callVI (c := 0) (as := [.int v2]) dX0_rest_22 (by decide) rfl (Nat.le_of_ble_eq_true rfl) (cw_X0_none _ (by decide)) q729 q731 qs3 q732 np_X0_none (i_X0_none x0 v2) jad_id rfl (fun v40 => ?_)
  exact J_ireturn dX0_rest_25 rfl
theorem i_X0_rest (x0 : Nat) (x1 : Int32) (x2 : Int32) : Impl (ws_ yX0_rest cX0_rest 8 (some .int)) yX0_rest 7 false 0 0 [.ref x0, .int x1, .int x2] (f_X0_rest x0 x1 x2) injI := impl_of (plainFor_of_name (by decide)) (Nat.le_of_ble_eq_true rfl) (fun D dA => j_X0_rest D dA x0 x1 x2)
theorem cw_X0_rest (Y : JY) (h : 8 ≤ Y.2.2.2.1) : JCw Y (ws_ yX0_rest cX0_rest 8 (some .int)) yX0_rest cX0_rest 8 (some .int) 7 := ⟨h, by decide, lw_meth q1418, q187, by decide, by decide⟩
theorem np_X0_rest : JNp yX0_rest.desc 2 := by decide +kernel
-- BracketRoom.takeOut(II)I
abbrev Y_X0_takeOut : JY := (cX0_takeOut, yX0_takeOut.cls, 8, 7, yX0_takeOut.name, (some .int), [])
noncomputable def X0_takeOut_b212 (x0 : Nat) (x4 : Int32) : JM Mem Int32 :=
  jb (jcall 0 x0 (f_X0_gives x0 x4)) fun v14 =>
  jp v14
theorem j_X0_takeOut_b212 (D : va_G) (dA : Nat → ClassId) (x0 : Nat) (x4 : Int32) : J (PM D dA false) Y_X0_takeOut [(0, .ref x0), (4, .int x4)] [] 212 (X0_takeOut_b212 x0 x4) (FRet injI) := by
  unfold X0_takeOut_b212
  refine J_aload_n dX0_takeOut_212 rfl 0 rfl ?_
  refine J_iload dX0_takeOut_213 1 rfl ?_
  refine J_callVI (c := 0) (as := [.int x4]) dX0_takeOut_215 (by decide) rfl (Nat.le_of_ble_eq_true rfl) (cw_X0_gives _ (by decide)) q944 q946 qs9 q947 np_X0_gives (i_X0_gives x0 x4) jad_id rfl (fun v14 => ?_)
  exact J_ireturn dX0_takeOut_218 rfl
noncomputable def X0_takeOut_b206 (x0 : Nat) (x4 : Int32) (x5 : Int32) : JM Mem (Int32 ⊕ (Int32)) :=
  jcont (x5 + 1)
theorem j_X0_takeOut_b206 (D : va_G) (dA : Nat → ClassId) (x0 : Nat) (x4 : Int32) (x5 : Int32) : J (PM D dA false) Y_X0_takeOut [(0, .ref x0), (4, .int x4), (5, .int x5)] [] 206 (X0_takeOut_b206 x0 x4 x5) (FLoop (FRet injI) 105 (fun (t : Int32) => [(0, .ref x0), (4, .int x4), (5, .int t)])) := by
  unfold X0_takeOut_b206
  refine J_iinc (v := x5 + 1) (env' := [(5, .int (x5 + 1)), (0, .ref x0), (4, .int x4)]) dX0_takeOut_206 2 rfl rfl (by decide) rfl ?_
  refine J_goto (tgt := 105) dX0_takeOut_209 rfl ?_
  exact J_cont [1, 2, 0] rfl
noncomputable def X0_takeOut_b200 (x0 : Nat) (x4 : Int32) (x5 : Int32) (x6 : Int32) : JM Mem ((Int32 ⊕ (Int32)) ⊕ (Int32)) :=
  jcont (x6 + 1)
theorem j_X0_takeOut_b200 (D : va_G) (dA : Nat → ClassId) (x0 : Nat) (x4 : Int32) (x5 : Int32) (x6 : Int32) : J (PM D dA false) Y_X0_takeOut [(0, .ref x0), (4, .int x4), (5, .int x5), (6, .int x6)] [] 200 (X0_takeOut_b200 x0 x4 x5 x6) (FLoop (FLoop (FRet injI) 105 (fun (t : Int32) => [(0, .ref x0), (4, .int x4), (5, .int t)])) 118 (fun (t : Int32) => [(0, .ref x0), (4, .int x4), (5, .int x5), (6, .int t)])) := by
  unfold X0_takeOut_b200
  refine J_iinc (v := x6 + 1) (env' := [(6, .int (x6 + 1)), (0, .ref x0), (4, .int x4), (5, .int x5)]) dX0_takeOut_200 3 rfl rfl (by decide) rfl ?_
  refine J_goto (tgt := 118) dX0_takeOut_203 rfl ?_
  exact J_cont [1, 2, 3, 0] rfl
noncomputable def X0_takeOut_L159 (x0 : Nat) (x4 : Int32) (x5 : Int32) (x6 : Int32) (x7 : Int32) : JM Mem (((Int32 ⊕ (Int32)) ⊕ (Int32)) ⊕ (Int32)) :=
  if x4 ≤ x7 then
    jinl (X0_takeOut_b200 x0 x4 x5 x6)
  else
  jb (jgetA 0 2 x0) fun v24 =>
  jb (jgetA 0 15 x0) fun v25 =>
  jb (jgetA 0 24 x0) fun v26 =>
  jb (jgetA 4 1 v26) fun v27 =>
  jb (jald mI 0 v27 x7) fun v28 =>
  jb (jald mI 0 v25 v28) fun v29 =>
  jb (jcall 3 v24 (f_X4_set v24 x5 x6 x7 v29)) fun _ =>
  jcont (x7 + 1)
theorem j_X0_takeOut_L159 (D : va_G) (dA : Nat → ClassId) (x0 : Nat) (x4 : Int32) (x5 : Int32) (x6 : Int32) (x7 : Int32) : J (PM D dA false) Y_X0_takeOut [(0, .ref x0), (4, .int x4), (5, .int x5), (6, .int x6), (7, .int x7)] [] 159 (X0_takeOut_L159 x0 x4 x5 x6 x7) (FLoop (FLoop (FLoop (FRet injI) 105 (fun (t : Int32) => [(0, .ref x0), (4, .int x4), (5, .int t)])) 118 (fun (t : Int32) => [(0, .ref x0), (4, .int x4), (5, .int x5), (6, .int t)])) 159 (fun (t : Int32) => [(0, .ref x0), (4, .int x4), (5, .int x5), (6, .int x6), (7, .int t)])) := by
  unfold X0_takeOut_L159
  refine J_iload dX0_takeOut_159 4 rfl ?_
  refine J_iload dX0_takeOut_161 1 rfl ?_
  refine J_icmp_ge (tgt := 200) dX0_takeOut_163 rfl ?_ ?_
  · refine J_inl ?_
    refine J_sub [0, 1, 2, 3] rfl ?_
    exact j_X0_takeOut_b200 D dA x0 x4 x5 x6
  refine J_aload_n dX0_takeOut_166 rfl 0 rfl ?_
  refine J_getA dX0_takeOut_167 fl_X0_30 rfl (fun v24 => ?_)
  refine J_iload dX0_takeOut_170 2 rfl ?_
  refine J_iload dX0_takeOut_172 3 rfl ?_
  refine J_iload dX0_takeOut_174 4 rfl ?_
  refine J_aload_n dX0_takeOut_176 rfl 0 rfl ?_
  refine J_getA dX0_takeOut_177 fl_X0_63 rfl (fun v25 => ?_)
  refine J_aload_n dX0_takeOut_180 rfl 0 rfl ?_
  refine J_getA dX0_takeOut_181 fl_X0_96 rfl (fun v26 => ?_)
  refine J_getA dX0_takeOut_184 fl_X0_403 rfl (fun v27 => ?_)
  refine J_iload dX0_takeOut_187 4 rfl ?_
  refine J_iald dX0_takeOut_189 (fun v28 => ?_)
  refine J_iald dX0_takeOut_190 (fun v29 => ?_)
  refine J_callVV (c := 3) (as := [.int x5, .int x6, .int x7, .int v29]) dX0_takeOut_191 (by decide) rfl (Nat.le_of_ble_eq_true rfl) (cw_X4_set _ (by decide)) q1031 q925 q926 q927 np_X4_set (i_X4_set v24 x5 x6 x7 v29) jad_id rfl ?_
  refine J_iinc (v := x7 + 1) (env' := [(7, .int (x7 + 1)), (0, .ref x0), (4, .int x4), (5, .int x5), (6, .int x6)]) dX0_takeOut_194 4 rfl rfl (by decide) rfl ?_
  refine J_goto (tgt := 159) dX0_takeOut_197 rfl ?_
  exact J_cont [1, 2, 3, 4, 0] rfl
noncomputable def X0_takeOut_L118 (x0 : Nat) (x4 : Int32) (x5 : Int32) (x6 : Int32) : JM Mem ((Int32 ⊕ (Int32)) ⊕ (Int32)) :=
  if x4 ≤ x6 then
    jinl (X0_takeOut_b206 x0 x4 x5)
  else
  jb (jgetA 0 3 x0) fun v16 =>
  jb (jgetA 0 24 x0) fun v17 =>
  jb (jgetA 4 0 v17) fun v18 =>
  jb (jaldA 5 v18 x5) fun v19 =>
  jb (jgetA 0 24 x0) fun v20 =>
  jb (jgetA 4 0 v20) fun v21 =>
  jb (jaldA 5 v21 x6) fun v22 =>
  jb (jgetA 0 15 x0) fun v23 =>
  jb (jcall 3 v16 (f_X4_bracket v16 v19 v22 v23)) fun _ =>
  jloop (fun (t : Int32) => X0_takeOut_L159 x0 x4 x5 x6 t) 0
theorem j_X0_takeOut_L118 (D : va_G) (dA : Nat → ClassId) (x0 : Nat) (x4 : Int32) (x5 : Int32) (x6 : Int32) : J (PM D dA false) Y_X0_takeOut [(0, .ref x0), (4, .int x4), (5, .int x5), (6, .int x6)] [] 118 (X0_takeOut_L118 x0 x4 x5 x6) (FLoop (FLoop (FRet injI) 105 (fun (t : Int32) => [(0, .ref x0), (4, .int x4), (5, .int t)])) 118 (fun (t : Int32) => [(0, .ref x0), (4, .int x4), (5, .int x5), (6, .int t)])) := by
  unfold X0_takeOut_L118
  refine J_iload dX0_takeOut_118 3 rfl ?_
  refine J_iload dX0_takeOut_120 1 rfl ?_
  refine J_icmp_ge (tgt := 206) dX0_takeOut_122 rfl ?_ ?_
  · refine J_inl ?_
    refine J_sub [0, 1, 2] rfl ?_
    exact j_X0_takeOut_b206 D dA x0 x4 x5
  refine J_aload_n dX0_takeOut_125 rfl 0 rfl ?_
  refine J_getA dX0_takeOut_126 fl_X0_34 rfl (fun v16 => ?_)
  refine J_aload_n dX0_takeOut_129 rfl 0 rfl ?_
  refine J_getA dX0_takeOut_130 fl_X0_96 rfl (fun v17 => ?_)
  refine J_getA dX0_takeOut_133 fl_X0_305 rfl (fun v18 => ?_)
  refine J_iload dX0_takeOut_136 2 rfl ?_
  refine J_aald dX0_takeOut_138 rfl (by decide) (fun v19 => ?_)
  refine J_aload_n dX0_takeOut_139 rfl 0 rfl ?_
  refine J_getA dX0_takeOut_140 fl_X0_96 rfl (fun v20 => ?_)
  refine J_getA dX0_takeOut_143 fl_X0_305 rfl (fun v21 => ?_)
  refine J_iload dX0_takeOut_146 3 rfl ?_
  refine J_aald dX0_takeOut_148 rfl (by decide) (fun v22 => ?_)
  refine J_aload_n dX0_takeOut_149 rfl 0 rfl ?_
  refine J_getA dX0_takeOut_150 fl_X0_63 rfl (fun v23 => ?_)
  refine J_callVV (c := 3) (as := [.ref v19, .ref v22, .ref v23]) dX0_takeOut_153 (by decide) rfl (Nat.le_of_ble_eq_true rfl) (cw_X4_bracket _ (by decide)) q1048 q1049 q1050 q1051 np_X4_bracket (i_X4_bracket v16 v19 v22 v23) jad_id rfl ?_
  refine J_iconst (v := 0) dX0_takeOut_156 (by decide) ?_
  refine J_istore (env' := [(7, .int 0), (0, .ref x0), (4, .int x4), (5, .int x5), (6, .int x6)]) dX0_takeOut_157 (by decide) rfl ?_
  refine J_loop (he := fun (t : Int32) => [(0, .ref x0), (4, .int x4), (5, .int x5), (6, .int x6), (7, .int t)]) [1, 2, 3, 4, 0] rfl (fun t => ?_)
  exact j_X0_takeOut_L159 D dA x0 x4 x5 x6 t
noncomputable def X0_takeOut_L105 (x0 : Nat) (x4 : Int32) (x5 : Int32) : JM Mem (Int32 ⊕ (Int32)) :=
  if x4 ≤ x5 then
    jinl (X0_takeOut_b212 x0 x4)
  else
  jlet (x5 + 1) fun y15 =>
  jloop (fun (t : Int32) => X0_takeOut_L118 x0 x4 x5 t) y15
theorem j_X0_takeOut_L105 (D : va_G) (dA : Nat → ClassId) (x0 : Nat) (x4 : Int32) (x5 : Int32) : J (PM D dA false) Y_X0_takeOut [(0, .ref x0), (4, .int x4), (5, .int x5)] [] 105 (X0_takeOut_L105 x0 x4 x5) (FLoop (FRet injI) 105 (fun (t : Int32) => [(0, .ref x0), (4, .int x4), (5, .int t)])) := by
  unfold X0_takeOut_L105
  refine J_iload dX0_takeOut_105 2 rfl ?_
  refine J_iload dX0_takeOut_107 1 rfl ?_
  refine J_icmp_ge (tgt := 212) dX0_takeOut_109 rfl ?_ ?_
  · refine J_inl ?_
    refine J_sub [0, 1] rfl ?_
    exact j_X0_takeOut_b212 D dA x0 x4
  refine J_iload dX0_takeOut_112 2 rfl ?_
  refine J_iconst (v := 1) dX0_takeOut_114 (by decide) ?_
  refine J_iadd dX0_takeOut_115 ?_
  refine J_letI (fun y15 => ?_)
  refine J_istore (env' := [(6, .int y15), (0, .ref x0), (4, .int x4), (5, .int x5)]) dX0_takeOut_116 (by decide) rfl ?_
  refine J_loop (he := fun (t : Int32) => [(0, .ref x0), (4, .int x4), (5, .int x5), (6, .int t)]) [1, 2, 3, 0] rfl (fun t => ?_)
  exact j_X0_takeOut_L118 D dA x0 x4 x5 t
noncomputable def f_X0_takeOut (x0 : Nat) (x1 : Int32) (x2 : Int32) : JM Mem Int32 :=
  jb ((f_X0_isFrom ((x2 : Int32).toInt64) 1 20)) fun v1 =>
  jb (jcall 0 x0 (f_X0_wrongRow x0 x1 x2 v1)) fun v2 =>
  if v2 ≤ 0 then
    jb (jgetA 0 24 x0) fun v3 =>
    jb (jcall 0 x0 (f_X0_spans x0 v3 x1 x2)) fun _ =>
    jb (jgetA 0 2 x0) fun v4 =>
    jb (jgetA 0 24 x0) fun v5 =>
    jb (jcall 0 x0 (f_X0_closes x0 v4 v5 0)) fun _ =>
    jb (jgetA 0 24 x0) fun v6 =>
    jb (jgetI 4 2 v6) fun v7 =>
    if v7 = 0 then
      jb (jcall 0 x0 (f_X0_none x0 9)) fun v30 =>
      jp v30
    else
    jb (jgetA 0 3 x0) fun v8 =>
    jb (jgetA 0 2 x0) fun v9 =>
    jb (jcall 3 v8 (f_X4_copy v8 v9)) fun _ =>
    jb (jgetA 0 24 x0) fun v10 =>
    jb (jgetI 4 2 v10) fun v11 =>
    jb (jgetA 0 2 x0) fun v12 =>
    jb (jcall 3 v12 (f_X4_clear v12)) fun _ =>
    jb (jgetA 0 2 x0) fun v13 =>
    jb (jputI 3 2 v13 v11) fun _ =>
    jloop (fun (t : Int32) => X0_takeOut_L105 x0 v11 t) 0
  else
  jb (jcall 0 x0 (f_X0_none x0 v2)) fun v31 =>
  jp v31
theorem j_X0_takeOut (D : va_G) (dA : Nat → ClassId) (x0 : Nat) (x1 : Int32) (x2 : Int32) : J (PM D dA false) Y_X0_takeOut [(0, .ref x0), (1, .int x1), (2, .int x2)] [] 0 (f_X0_takeOut x0 x1 x2) (FRet injI) := by
  unfold f_X0_takeOut
  refine J_aload_n dX0_takeOut_0 rfl 0 rfl ?_
  refine J_iload_n dX0_takeOut_1 rfl 1 rfl ?_
  refine J_iload_n dX0_takeOut_2 rfl 2 rfl ?_
  refine J_iload_n dX0_takeOut_3 rfl 2 rfl ?_
  refine J_i2l dX0_takeOut_4 ?_
  refine J_lconst (v := 1) dX0_takeOut_5 (by decide) ?_
  refine J_ldc2 dX0_takeOut_6 q1095 ?_
  refine J_callSI (host := "") (as := [.long ((x2 : Int32).toInt64), .long 1, .long 20]) dX0_takeOut_9 rfl (Nat.le_of_ble_eq_true rfl) (cw_X0_isFrom _ (by decide)) q1096 q1097 q1098 np_X0_isFrom (i_X0_isFrom ((x2 : Int32).toInt64) 1 20) jad_id rfl (fun v1 => ?_)
  refine J_callVI (c := 0) (as := [.int x1, .int x2, .int v1]) dX0_takeOut_12 (by decide) rfl (Nat.le_of_ble_eq_true rfl) (cw_X0_wrongRow _ (by decide)) q1099 q1101 qs18 q1102 np_X0_wrongRow (i_X0_wrongRow x0 x1 x2 v1) jad_id rfl (fun v2 => ?_)
  refine J_istore_n (env' := [(3, .int v2), (0, .ref x0), (1, .int x1), (2, .int x2)]) dX0_takeOut_15 rfl (by decide) rfl ?_
  refine J_iload_n dX0_takeOut_16 rfl 0 rfl ?_
  refine J_if_le (tgt := 26) dX0_takeOut_17 rfl ?_ ?_
  · refine J_aload_n dX0_takeOut_26 rfl 1 rfl ?_
    refine J_aload_n dX0_takeOut_27 rfl 1 rfl ?_
    refine J_getA dX0_takeOut_28 fl_X0_96 rfl (fun v3 => ?_)
    refine J_iload_n dX0_takeOut_31 rfl 2 rfl ?_
    refine J_iload_n dX0_takeOut_32 rfl 3 rfl ?_
    refine J_callVV (c := 0) (as := [.ref v3, .int x1, .int x2]) dX0_takeOut_33 (by decide) rfl (Nat.le_of_ble_eq_true rfl) (cw_X0_spans _ (by decide)) q1107 q1109 qs19 q1110 np_X0_spans (i_X0_spans x0 v3 x1 x2) jad_id rfl ?_
    refine J_aload_n dX0_takeOut_36 rfl 1 rfl ?_
    refine J_aload_n dX0_takeOut_37 rfl 1 rfl ?_
    refine J_getA dX0_takeOut_38 fl_X0_30 rfl (fun v4 => ?_)
    refine J_aload_n dX0_takeOut_41 rfl 1 rfl ?_
    refine J_getA dX0_takeOut_42 fl_X0_96 rfl (fun v5 => ?_)
    refine J_iconst (v := 0) dX0_takeOut_45 (by decide) ?_
    refine J_callVV (c := 0) (as := [.ref v4, .ref v5, .int 0]) dX0_takeOut_46 (by decide) rfl (Nat.le_of_ble_eq_true rfl) (cw_X0_closes _ (by decide)) q1125 q1127 qs20 q1128 np_X0_closes (i_X0_closes x0 v4 v5 0) jad_id rfl ?_
    refine J_aload_n dX0_takeOut_49 rfl 1 rfl ?_
    refine J_getA dX0_takeOut_50 fl_X0_96 rfl (fun v6 => ?_)
    refine J_getI dX0_takeOut_53 fl_X0_302 rfl (fun v7 => ?_)
    refine J_if_ne (tgt := 66) dX0_takeOut_56 rfl ?_ ?_
    · refine J_aload_n dX0_takeOut_66 rfl 1 rfl ?_
      refine J_getA dX0_takeOut_67 fl_X0_34 rfl (fun v8 => ?_)
      refine J_aload_n dX0_takeOut_70 rfl 1 rfl ?_
      refine J_getA dX0_takeOut_71 fl_X0_30 rfl (fun v9 => ?_)
      refine J_callVV (c := 3) (as := [.ref v9]) dX0_takeOut_74 (by decide) rfl (Nat.le_of_ble_eq_true rfl) (cw_X4_copy _ (by decide)) q939 q940 q941 q942 np_X4_copy (i_X4_copy v8 v9) jad_id rfl ?_
      refine J_aload_n dX0_takeOut_77 rfl 1 rfl ?_
      refine J_getA dX0_takeOut_78 fl_X0_96 rfl (fun v10 => ?_)
      refine J_getI dX0_takeOut_81 fl_X0_302 rfl (fun v11 => ?_)
      refine J_istore (env' := [(4, .int v11), (3, .int v2), (0, .ref x0), (1, .int x1), (2, .int x2)]) dX0_takeOut_84 (by decide) rfl ?_
      refine J_aload_n dX0_takeOut_86 rfl 2 rfl ?_
      refine J_getA dX0_takeOut_87 fl_X0_30 rfl (fun v12 => ?_)
      refine J_callVV (c := 3) (as := []) dX0_takeOut_90 (by decide) rfl (Nat.le_of_ble_eq_true rfl) (cw_X4_clear _ (by decide)) q1423 q844 q845 q846 np_X4_clear (i_X4_clear v12) jad_id rfl ?_
      refine J_aload_n dX0_takeOut_93 rfl 2 rfl ?_
      refine J_getA dX0_takeOut_94 fl_X0_30 rfl (fun v13 => ?_)
      refine J_iload dX0_takeOut_97 0 rfl ?_
      refine J_putI dX0_takeOut_99 ⟨fl_X0_196, Or.inl rfl⟩ rfl ?_
      refine J_iconst (v := 0) dX0_takeOut_102 (by decide) ?_
      refine J_istore (env' := [(5, .int 0), (4, .int v11), (3, .int v2), (0, .ref x0), (1, .int x1), (2, .int x2)]) dX0_takeOut_103 (by decide) rfl ?_
      refine J_loop (he := fun (t : Int32) => [(0, .ref x0), (4, .int v11), (5, .int t)]) [3, 1, 0] rfl (fun t => ?_)
      exact j_X0_takeOut_L105 D dA x0 v11 t
    refine J_aload_n dX0_takeOut_59 rfl 1 rfl ?_
    refine J_bipush (v := 9) dX0_takeOut_60 (by decide) ?_
    refine J_callVI (c := 0) (as := [.int 9]) dX0_takeOut_62 (by decide) rfl (Nat.le_of_ble_eq_true rfl) (cw_X0_none _ (by decide)) q729 q731 qs3 q732 np_X0_none (i_X0_none x0 9) jad_id rfl (fun v30 => ?_)
    exact J_ireturn dX0_takeOut_65 rfl
  refine J_aload_n dX0_takeOut_20 rfl 1 rfl ?_
  refine J_iload_n dX0_takeOut_21 rfl 0 rfl ?_
  refine J_callVI (c := 0) (as := [.int v2]) dX0_takeOut_22 (by decide) rfl (Nat.le_of_ble_eq_true rfl) (cw_X0_none _ (by decide)) q729 q731 qs3 q732 np_X0_none (i_X0_none x0 v2) jad_id rfl (fun v31 => ?_)
  exact J_ireturn dX0_takeOut_25 rfl
theorem i_X0_takeOut (x0 : Nat) (x1 : Int32) (x2 : Int32) : Impl (ws_ yX0_takeOut cX0_takeOut 8 (some .int)) yX0_takeOut 7 false 0 0 [.ref x0, .int x1, .int x2] (f_X0_takeOut x0 x1 x2) injI := impl_of (plainFor_of_name (by decide)) (Nat.le_of_ble_eq_true rfl) (fun D dA => j_X0_takeOut D dA x0 x1 x2)
theorem cw_X0_takeOut (Y : JY) (h : 8 ≤ Y.2.2.2.1) : JCw Y (ws_ yX0_takeOut cX0_takeOut 8 (some .int)) yX0_takeOut cX0_takeOut 8 (some .int) 7 := ⟨h, by decide, lw_meth q1427, q187, by decide, by decide⟩
theorem np_X0_takeOut : JNp yX0_takeOut.desc 2 := by decide +kernel
-- BracketRoom.tables(III)I
abbrev Y_X0_tables : JY := (cX0_tables, yX0_tables.cls, 13, 15, yX0_tables.name, (some .int), [])
noncomputable def X0_tables_b324 (s0 : Nat) (s1 : Int32) : JM Mem Int32 :=
  jb (jcall 0 s0 (f_X0_gives s0 s1)) fun v6 =>
  jp v6
theorem j_X0_tables_b324 (D : va_G) (dA : Nat → ClassId) (s0 : Nat) (s1 : Int32) : J (PM D dA false) Y_X0_tables [] [.int s1, .ref s0] 324 (X0_tables_b324 s0 s1) (FRet injI) := by
  unfold X0_tables_b324
  refine J_callVI (c := 0) (as := [.int s1]) dX0_tables_324 (by decide) rfl (Nat.le_of_ble_eq_true rfl) (cw_X0_gives _ (by decide)) q944 q946 qs9 q947 np_X0_gives (i_X0_gives s0 s1) jad_id rfl (fun v6 => ?_)
  exact J_ireturn dX0_tables_327 rfl
noncomputable def X0_tables_b312 (x0 : Nat) (x3 : Int32) (x6 : Int32) (x7 : Int32) : JM Mem Int32 :=
  if x3 = 0 then
    X0_tables_b324 x0 x6
  else
    X0_tables_b324 x0 x7
theorem j_X0_tables_b312 (D : va_G) (dA : Nat → ClassId) (x0 : Nat) (x3 : Int32) (x6 : Int32) (x7 : Int32) : J (PM D dA false) Y_X0_tables [(0, .ref x0), (3, .int x3), (6, .int x6), (7, .int x7)] [] 312 (X0_tables_b312 x0 x3 x6 x7) (FRet injI) := by
  unfold X0_tables_b312
  refine J_aload_n dX0_tables_312 rfl 0 rfl ?_
  refine J_iload_n dX0_tables_313 rfl 1 rfl ?_
  refine J_if_ne (tgt := 322) dX0_tables_314 rfl ?_ ?_
  · refine J_iload dX0_tables_322 3 rfl ?_
    refine J_sub [] rfl ?_
    exact j_X0_tables_b324 D dA x0 x7
  refine J_iload dX0_tables_317 2 rfl ?_
  refine J_goto (tgt := 324) dX0_tables_319 rfl ?_
  refine J_sub [] rfl ?_
  exact j_X0_tables_b324 D dA x0 x6
noncomputable def X0_tables_b306 (x0 : Nat) (x1 : Int32) (x2 : Int32) (x3 : Int32) (x5 : Int32) (x6 : Int32) (x7 : Int32) (x8 : Int32) : JM Mem (Int32 ⊕ (Int32 × Int32 × Int32)) :=
  jcont (x6, x7, x8 + 1)
theorem j_X0_tables_b306 (D : va_G) (dA : Nat → ClassId) (x0 : Nat) (x1 : Int32) (x2 : Int32) (x3 : Int32) (x5 : Int32) (x6 : Int32) (x7 : Int32) (x8 : Int32) : J (PM D dA false) Y_X0_tables [(0, .ref x0), (1, .int x1), (2, .int x2), (3, .int x3), (5, .int x5), (6, .int x6), (7, .int x7), (8, .int x8)] [] 306 (X0_tables_b306 x0 x1 x2 x3 x5 x6 x7 x8) (FLoop (FRet injI) 123 (fun (t : Int32 × Int32 × Int32) => [(0, .ref x0), (1, .int x1), (2, .int x2), (3, .int x3), (5, .int x5), (6, .int t.1), (7, .int t.2.1), (8, .int t.2.2)])) := by
  unfold X0_tables_b306
  refine J_iinc (v := x8 + 1) (env' := [(8, .int (x8 + 1)), (0, .ref x0), (1, .int x1), (2, .int x2), (3, .int x3), (5, .int x5), (6, .int x6), (7, .int x7)]) dX0_tables_306 7 rfl rfl (by decide) rfl ?_
  refine J_goto (tgt := 123) dX0_tables_309 rfl ?_
  exact J_cont [1, 2, 3, 4, 5, 6, 7, 0] rfl
noncomputable def X0_tables_b277 (x0 : Nat) (x1 : Int32) (x2 : Int32) (x3 : Int32) (x5 : Int32) (x6 : Int32) (x7 : Int32) (x8 : Int32) (x10 : Int32) : JM Mem (Int32 ⊕ (Int32 × Int32 × Int32)) :=
  if x10 = 0 then
    if x3 = 0 then
      X0_tables_b306 x0 x1 x2 x3 x5 x6 x7 x8
    else
    jb (jgetA 0 39 x0) fun v9 =>
    jb (jaldA 7 v9 x7) fun v10 =>
    jb (jgetA 0 38 x0) fun v11 =>
    jb (jcall 3 v10 (f_X4_copy v10 v11)) fun _ =>
    X0_tables_b306 x0 x1 x2 x3 x5 x6 (x7 + 1) x8
  else
    X0_tables_b306 x0 x1 x2 x3 x5 x6 x7 x8
theorem j_X0_tables_b277 (D : va_G) (dA : Nat → ClassId) (x0 : Nat) (x1 : Int32) (x2 : Int32) (x3 : Int32) (x5 : Int32) (x6 : Int32) (x7 : Int32) (x8 : Int32) (x10 : Int32) : J (PM D dA false) Y_X0_tables [(0, .ref x0), (1, .int x1), (2, .int x2), (3, .int x3), (5, .int x5), (6, .int x6), (7, .int x7), (8, .int x8), (10, .int x10)] [] 277 (X0_tables_b277 x0 x1 x2 x3 x5 x6 x7 x8 x10) (FLoop (FRet injI) 123 (fun (t : Int32 × Int32 × Int32) => [(0, .ref x0), (1, .int x1), (2, .int x2), (3, .int x3), (5, .int x5), (6, .int t.1), (7, .int t.2.1), (8, .int t.2.2)])) := by
  unfold X0_tables_b277
  refine J_iload dX0_tables_277 8 rfl ?_
  refine J_if_ne (tgt := 306) dX0_tables_279 rfl ?_ ?_
  · refine J_sub [0, 1, 2, 3, 4, 5, 6, 7] rfl ?_
    exact j_X0_tables_b306 D dA x0 x1 x2 x3 x5 x6 x7 x8
  refine J_iload_n dX0_tables_282 rfl 3 rfl ?_
  refine J_if_ne (tgt := 289) dX0_tables_283 rfl ?_ ?_
  · refine J_aload_n dX0_tables_289 rfl 0 rfl ?_
    refine J_getA dX0_tables_290 fl_X0_133 rfl (fun v9 => ?_)
    refine J_iload dX0_tables_293 6 rfl ?_
    refine J_aald dX0_tables_295 rfl (by decide) (fun v10 => ?_)
    refine J_aload_n dX0_tables_296 rfl 0 rfl ?_
    refine J_getA dX0_tables_297 fl_X0_130 rfl (fun v11 => ?_)
    refine J_callVV (c := 3) (as := [.ref v11]) dX0_tables_300 (by decide) rfl (Nat.le_of_ble_eq_true rfl) (cw_X4_copy _ (by decide)) q939 q940 q941 q942 np_X4_copy (i_X4_copy v10 v11) jad_id rfl ?_
    refine J_iinc (v := x7 + 1) (env' := [(7, .int (x7 + 1)), (0, .ref x0), (1, .int x1), (2, .int x2), (3, .int x3), (5, .int x5), (6, .int x6), (8, .int x8), (10, .int x10)]) dX0_tables_303 6 rfl rfl (by decide) rfl ?_
    refine J_sub [1, 2, 3, 4, 5, 6, 0, 7] rfl ?_
    exact j_X0_tables_b306 D dA x0 x1 x2 x3 x5 x6 (x7 + 1) x8
  refine J_goto (tgt := 306) dX0_tables_286 rfl ?_
  refine J_sub [0, 1, 2, 3, 4, 5, 6, 7] rfl ?_
  exact j_X0_tables_b306 D dA x0 x1 x2 x3 x5 x6 x7 x8
noncomputable def X0_tables_b269 (x0 : Nat) (x1 : Int32) (x2 : Int32) (x3 : Int32) (x5 : Int32) (x6 : Int32) (x7 : Int32) (x8 : Int32) (x11 : Int32) (s0 : Int32) : JM Mem ((Int32 ⊕ (Int32 × Int32 × Int32)) ⊕ (Int32 × Int32)) :=
  jcont (s0, x11 + 1)
theorem j_X0_tables_b269 (D : va_G) (dA : Nat → ClassId) (x0 : Nat) (x1 : Int32) (x2 : Int32) (x3 : Int32) (x5 : Int32) (x6 : Int32) (x7 : Int32) (x8 : Int32) (x11 : Int32) (s0 : Int32) : J (PM D dA false) Y_X0_tables [(0, .ref x0), (1, .int x1), (2, .int x2), (3, .int x3), (5, .int x5), (6, .int x6), (7, .int x7), (8, .int x8), (11, .int x11)] [.int s0] 269 (X0_tables_b269 x0 x1 x2 x3 x5 x6 x7 x8 x11 s0) (FLoop (FLoop (FRet injI) 123 (fun (t : Int32 × Int32 × Int32) => [(0, .ref x0), (1, .int x1), (2, .int x2), (3, .int x3), (5, .int x5), (6, .int t.1), (7, .int t.2.1), (8, .int t.2.2)])) 228 (fun (t : Int32 × Int32) => [(0, .ref x0), (1, .int x1), (2, .int x2), (3, .int x3), (5, .int x5), (6, .int x6), (7, .int x7), (8, .int x8), (10, .int t.1), (11, .int t.2)])) := by
  unfold X0_tables_b269
  refine J_istore (env' := [(10, .int s0), (0, .ref x0), (1, .int x1), (2, .int x2), (3, .int x3), (5, .int x5), (6, .int x6), (7, .int x7), (8, .int x8), (11, .int x11)]) dX0_tables_269 (by decide) rfl ?_
  refine J_iinc (v := x11 + 1) (env' := [(11, .int (x11 + 1)), (10, .int s0), (0, .ref x0), (1, .int x1), (2, .int x2), (3, .int x3), (5, .int x5), (6, .int x6), (7, .int x7), (8, .int x8)]) dX0_tables_271 9 rfl rfl (by decide) rfl ?_
  refine J_goto (tgt := 228) dX0_tables_274 rfl ?_
  exact J_cont [2, 3, 4, 5, 6, 7, 8, 9, 1, 0] rfl
noncomputable def X0_tables_L228 (x0 : Nat) (x1 : Int32) (x2 : Int32) (x3 : Int32) (x5 : Int32) (x6 : Int32) (x7 : Int32) (x8 : Int32) (x10 : Int32) (x11 : Int32) : JM Mem ((Int32 ⊕ (Int32 × Int32 × Int32)) ⊕ (Int32 × Int32)) :=
  if x7 ≤ x11 then
    jinl (X0_tables_b277 x0 x1 x2 x3 x5 x6 x7 x8 x10)
  else
  if x10 = 0 then
    if x3 = 1 then
      jb (jgetA 0 38 x0) fun v12 =>
      jb (jgetA 0 39 x0) fun v13 =>
      jb (jaldA 7 v13 x11) fun v14 =>
      jb (jcall 0 x0 (f_X0_maps_2 x0 v12 v14 1)) fun v15 =>
      if v15 ≤ 0 then
        X0_tables_b269 x0 x1 x2 x3 x5 x6 x7 x8 x11 0
      else
        X0_tables_b269 x0 x1 x2 x3 x5 x6 x7 x8 x11 1
    else
      jinl (X0_tables_b277 x0 x1 x2 x3 x5 x6 x7 x8 x10)
  else
    jinl (X0_tables_b277 x0 x1 x2 x3 x5 x6 x7 x8 x10)
theorem j_X0_tables_L228 (D : va_G) (dA : Nat → ClassId) (x0 : Nat) (x1 : Int32) (x2 : Int32) (x3 : Int32) (x5 : Int32) (x6 : Int32) (x7 : Int32) (x8 : Int32) (x10 : Int32) (x11 : Int32) : J (PM D dA false) Y_X0_tables [(0, .ref x0), (1, .int x1), (2, .int x2), (3, .int x3), (5, .int x5), (6, .int x6), (7, .int x7), (8, .int x8), (10, .int x10), (11, .int x11)] [] 228 (X0_tables_L228 x0 x1 x2 x3 x5 x6 x7 x8 x10 x11) (FLoop (FLoop (FRet injI) 123 (fun (t : Int32 × Int32 × Int32) => [(0, .ref x0), (1, .int x1), (2, .int x2), (3, .int x3), (5, .int x5), (6, .int t.1), (7, .int t.2.1), (8, .int t.2.2)])) 228 (fun (t : Int32 × Int32) => [(0, .ref x0), (1, .int x1), (2, .int x2), (3, .int x3), (5, .int x5), (6, .int x6), (7, .int x7), (8, .int x8), (10, .int t.1), (11, .int t.2)])) := by
  unfold X0_tables_L228
  refine J_iload dX0_tables_228 9 rfl ?_
  refine J_iload dX0_tables_230 6 rfl ?_
  refine J_icmp_ge (tgt := 277) dX0_tables_232 rfl ?_ ?_
  · refine J_inl ?_
    refine J_sub [0, 1, 2, 3, 4, 5, 6, 7, 8] rfl ?_
    exact j_X0_tables_b277 D dA x0 x1 x2 x3 x5 x6 x7 x8 x10
  refine J_iload dX0_tables_235 8 rfl ?_
  refine J_if_ne (tgt := 277) dX0_tables_237 rfl ?_ ?_
  · refine J_inl ?_
    refine J_sub [0, 1, 2, 3, 4, 5, 6, 7, 8] rfl ?_
    exact j_X0_tables_b277 D dA x0 x1 x2 x3 x5 x6 x7 x8 x10
  refine J_iload_n dX0_tables_240 rfl 3 rfl ?_
  refine J_iconst (v := 1) dX0_tables_241 (by decide) ?_
  refine J_icmp_ne (tgt := 277) dX0_tables_242 rfl ?_ ?_
  · refine J_inl ?_
    refine J_sub [0, 1, 2, 3, 4, 5, 6, 7, 8] rfl ?_
    exact j_X0_tables_b277 D dA x0 x1 x2 x3 x5 x6 x7 x8 x10
  refine J_aload_n dX0_tables_245 rfl 0 rfl ?_
  refine J_aload_n dX0_tables_246 rfl 0 rfl ?_
  refine J_getA dX0_tables_247 fl_X0_130 rfl (fun v12 => ?_)
  refine J_aload_n dX0_tables_250 rfl 0 rfl ?_
  refine J_getA dX0_tables_251 fl_X0_133 rfl (fun v13 => ?_)
  refine J_iload dX0_tables_254 9 rfl ?_
  refine J_aald dX0_tables_256 rfl (by decide) (fun v14 => ?_)
  refine J_iconst (v := 1) dX0_tables_257 (by decide) ?_
  refine J_callVI (c := 0) (as := [.ref v12, .ref v14, .int 1]) dX0_tables_258 (by decide) rfl (Nat.le_of_ble_eq_true rfl) (cw_X0_maps_2 _ (by decide)) q1316 q1318 qs45 q1319 np_X0_maps_2 (i_X0_maps_2 x0 v12 v14 1) jad_id rfl (fun v15 => ?_)
  refine J_if_le (tgt := 268) dX0_tables_261 rfl ?_ ?_
  · refine J_iconst (v := 0) dX0_tables_268 (by decide) ?_
    refine J_sub [0, 1, 2, 3, 4, 5, 6, 7, 9] rfl ?_
    exact j_X0_tables_b269 D dA x0 x1 x2 x3 x5 x6 x7 x8 x11 0
  refine J_iconst (v := 1) dX0_tables_264 (by decide) ?_
  refine J_goto (tgt := 269) dX0_tables_265 rfl ?_
  refine J_sub [0, 1, 2, 3, 4, 5, 6, 7, 9] rfl ?_
  exact j_X0_tables_b269 D dA x0 x1 x2 x3 x5 x6 x7 x8 x11 1
noncomputable def X0_tables_b205 (x0 : Nat) (x1 : Int32) (x2 : Int32) (x3 : Int32) (x5 : Int32) (x6 : Int32) (x7 : Int32) (x8 : Int32) : JM Mem (Int32 ⊕ (Int32 × Int32 × Int32)) :=
  jb (jgetA 0 38 x0) fun v7 =>
  jb (jcall 0 x0 (f_X0_isLawful x0 v7)) fun v8 =>
  if v8 = 0 then
    X0_tables_b306 x0 x1 x2 x3 x5 x6 x7 x8
  else
    jloop (fun (t : Int32 × Int32) => X0_tables_L228 x0 x1 x2 x3 x5 (x6 + 1) x7 x8 t.1 t.2) (0, 0)
theorem j_X0_tables_b205 (D : va_G) (dA : Nat → ClassId) (x0 : Nat) (x1 : Int32) (x2 : Int32) (x3 : Int32) (x5 : Int32) (x6 : Int32) (x7 : Int32) (x8 : Int32) : J (PM D dA false) Y_X0_tables [(0, .ref x0), (1, .int x1), (2, .int x2), (3, .int x3), (5, .int x5), (6, .int x6), (7, .int x7), (8, .int x8)] [] 205 (X0_tables_b205 x0 x1 x2 x3 x5 x6 x7 x8) (FLoop (FRet injI) 123 (fun (t : Int32 × Int32 × Int32) => [(0, .ref x0), (1, .int x1), (2, .int x2), (3, .int x3), (5, .int x5), (6, .int t.1), (7, .int t.2.1), (8, .int t.2.2)])) := by
  unfold X0_tables_b205
  refine J_aload_n dX0_tables_205 rfl 0 rfl ?_
  refine J_aload_n dX0_tables_206 rfl 0 rfl ?_
  refine J_getA dX0_tables_207 fl_X0_130 rfl (fun v7 => ?_)
  refine J_callVI (c := 0) (as := [.ref v7]) dX0_tables_210 (by decide) rfl (Nat.le_of_ble_eq_true rfl) (cw_X0_isLawful _ (by decide)) q1060 q1062 qs15 q1063 np_X0_isLawful (i_X0_isLawful x0 v7) jad_id rfl (fun v8 => ?_)
  refine J_if_ne (tgt := 219) dX0_tables_213 rfl ?_ ?_
  · refine J_iinc (v := x6 + 1) (env' := [(6, .int (x6 + 1)), (0, .ref x0), (1, .int x1), (2, .int x2), (3, .int x3), (5, .int x5), (7, .int x7), (8, .int x8)]) dX0_tables_219 5 rfl rfl (by decide) rfl ?_
    refine J_iconst (v := 0) dX0_tables_222 (by decide) ?_
    refine J_istore (env' := [(10, .int 0), (6, .int (x6 + 1)), (0, .ref x0), (1, .int x1), (2, .int x2), (3, .int x3), (5, .int x5), (7, .int x7), (8, .int x8)]) dX0_tables_223 (by decide) rfl ?_
    refine J_iconst (v := 0) dX0_tables_225 (by decide) ?_
    refine J_istore (env' := [(11, .int 0), (10, .int 0), (6, .int (x6 + 1)), (0, .ref x0), (1, .int x1), (2, .int x2), (3, .int x3), (5, .int x5), (7, .int x7), (8, .int x8)]) dX0_tables_226 (by decide) rfl ?_
    refine J_loop (he := fun (t : Int32 × Int32) => [(0, .ref x0), (1, .int x1), (2, .int x2), (3, .int x3), (5, .int x5), (6, .int ((x6 + 1))), (7, .int x7), (8, .int x8), (10, .int t.1), (11, .int t.2)]) [3, 4, 5, 6, 7, 2, 8, 9, 1, 0] rfl (fun t => ?_)
    exact j_X0_tables_L228 D dA x0 x1 x2 x3 x5 (x6 + 1) x7 x8 t.1 t.2
  refine J_goto (tgt := 306) dX0_tables_216 rfl ?_
  refine J_sub [0, 1, 2, 3, 4, 5, 6, 7] rfl ?_
  exact j_X0_tables_b306 D dA x0 x1 x2 x3 x5 x6 x7 x8
noncomputable def X0_tables_b199 (x0 : Nat) (x1 : Int32) (x2 : Int32) (x3 : Int32) (x5 : Int32) (x6 : Int32) (x7 : Int32) (x8 : Int32) (x9 : Int32) (x10 : Int32) : JM Mem ((Int32 ⊕ (Int32 × Int32 × Int32)) ⊕ (Int32 × Int32)) :=
  jcont (x9, x10 + 1)
theorem j_X0_tables_b199 (D : va_G) (dA : Nat → ClassId) (x0 : Nat) (x1 : Int32) (x2 : Int32) (x3 : Int32) (x5 : Int32) (x6 : Int32) (x7 : Int32) (x8 : Int32) (x9 : Int32) (x10 : Int32) : J (PM D dA false) Y_X0_tables [(0, .ref x0), (1, .int x1), (2, .int x2), (3, .int x3), (5, .int x5), (6, .int x6), (7, .int x7), (8, .int x8), (9, .int x9), (10, .int x10)] [] 199 (X0_tables_b199 x0 x1 x2 x3 x5 x6 x7 x8 x9 x10) (FLoop (FLoop (FRet injI) 123 (fun (t : Int32 × Int32 × Int32) => [(0, .ref x0), (1, .int x1), (2, .int x2), (3, .int x3), (5, .int x5), (6, .int t.1), (7, .int t.2.1), (8, .int t.2.2)])) 137 (fun (t : Int32 × Int32) => [(0, .ref x0), (1, .int x1), (2, .int x2), (3, .int x3), (5, .int x5), (6, .int x6), (7, .int x7), (8, .int x8), (9, .int t.1), (10, .int t.2)])) := by
  unfold X0_tables_b199
  refine J_iinc (v := x10 + 1) (env' := [(10, .int (x10 + 1)), (0, .ref x0), (1, .int x1), (2, .int x2), (3, .int x3), (5, .int x5), (6, .int x6), (7, .int x7), (8, .int x8), (9, .int x9)]) dX0_tables_199 9 rfl rfl (by decide) rfl ?_
  refine J_goto (tgt := 137) dX0_tables_202 rfl ?_
  exact J_cont [1, 2, 3, 4, 5, 6, 7, 8, 9, 0] rfl
noncomputable def X0_tables_b193 (x0 : Nat) (x1 : Int32) (x2 : Int32) (x3 : Int32) (x5 : Int32) (x6 : Int32) (x7 : Int32) (x8 : Int32) (x9 : Int32) (x10 : Int32) (x11 : Int32) : JM Mem (((Int32 ⊕ (Int32 × Int32 × Int32)) ⊕ (Int32 × Int32)) ⊕ (Int32 × Int32)) :=
  jcont (x9, x11 + 1)
theorem j_X0_tables_b193 (D : va_G) (dA : Nat → ClassId) (x0 : Nat) (x1 : Int32) (x2 : Int32) (x3 : Int32) (x5 : Int32) (x6 : Int32) (x7 : Int32) (x8 : Int32) (x9 : Int32) (x10 : Int32) (x11 : Int32) : J (PM D dA false) Y_X0_tables [(0, .ref x0), (1, .int x1), (2, .int x2), (3, .int x3), (5, .int x5), (6, .int x6), (7, .int x7), (8, .int x8), (9, .int x9), (10, .int x10), (11, .int x11)] [] 193 (X0_tables_b193 x0 x1 x2 x3 x5 x6 x7 x8 x9 x10 x11) (FLoop (FLoop (FLoop (FRet injI) 123 (fun (t : Int32 × Int32 × Int32) => [(0, .ref x0), (1, .int x1), (2, .int x2), (3, .int x3), (5, .int x5), (6, .int t.1), (7, .int t.2.1), (8, .int t.2.2)])) 137 (fun (t : Int32 × Int32) => [(0, .ref x0), (1, .int x1), (2, .int x2), (3, .int x3), (5, .int x5), (6, .int x6), (7, .int x7), (8, .int x8), (9, .int t.1), (10, .int t.2)])) 149 (fun (t : Int32 × Int32) => [(0, .ref x0), (1, .int x1), (2, .int x2), (3, .int x3), (5, .int x5), (6, .int x6), (7, .int x7), (8, .int x8), (9, .int t.1), (10, .int x10), (11, .int t.2)])) := by
  unfold X0_tables_b193
  refine J_iinc (v := x11 + 1) (env' := [(11, .int (x11 + 1)), (0, .ref x0), (1, .int x1), (2, .int x2), (3, .int x3), (5, .int x5), (6, .int x6), (7, .int x7), (8, .int x8), (9, .int x9), (10, .int x10)]) dX0_tables_193 10 rfl rfl (by decide) rfl ?_
  refine J_goto (tgt := 149) dX0_tables_196 rfl ?_
  exact J_cont [1, 2, 3, 4, 5, 6, 7, 8, 9, 10, 0] rfl
noncomputable def X0_tables_L158 (x0 : Nat) (x1 : Int32) (x2 : Int32) (x3 : Int32) (x5 : Int32) (x6 : Int32) (x7 : Int32) (x8 : Int32) (x10 : Int32) (x11 : Int32) (x9 : Int32) (x12 : Int32) : JM Mem ((((Int32 ⊕ (Int32 × Int32 × Int32)) ⊕ (Int32 × Int32)) ⊕ (Int32 × Int32)) ⊕ (Int32 × Int32)) :=
  if x2 ≤ x12 then
    jinl (X0_tables_b193 x0 x1 x2 x3 x5 x6 x7 x8 x9 x10 x11)
  else
  jb (jgetA 0 38 x0) fun v17 =>
  jb (jrem x9 x1) fun v18 =>
  jb (jcall 3 v17 (f_X4_set v17 x10 x11 x12 v18)) fun _ =>
  jb (jdiv x9 x1) fun v19 =>
  jcont (v19, x12 + 1)
theorem j_X0_tables_L158 (D : va_G) (dA : Nat → ClassId) (x0 : Nat) (x1 : Int32) (x2 : Int32) (x3 : Int32) (x5 : Int32) (x6 : Int32) (x7 : Int32) (x8 : Int32) (x10 : Int32) (x11 : Int32) (x9 : Int32) (x12 : Int32) : J (PM D dA false) Y_X0_tables [(0, .ref x0), (1, .int x1), (2, .int x2), (3, .int x3), (5, .int x5), (6, .int x6), (7, .int x7), (8, .int x8), (9, .int x9), (10, .int x10), (11, .int x11), (12, .int x12)] [] 158 (X0_tables_L158 x0 x1 x2 x3 x5 x6 x7 x8 x10 x11 x9 x12) (FLoop (FLoop (FLoop (FLoop (FRet injI) 123 (fun (t : Int32 × Int32 × Int32) => [(0, .ref x0), (1, .int x1), (2, .int x2), (3, .int x3), (5, .int x5), (6, .int t.1), (7, .int t.2.1), (8, .int t.2.2)])) 137 (fun (t : Int32 × Int32) => [(0, .ref x0), (1, .int x1), (2, .int x2), (3, .int x3), (5, .int x5), (6, .int x6), (7, .int x7), (8, .int x8), (9, .int t.1), (10, .int t.2)])) 149 (fun (t : Int32 × Int32) => [(0, .ref x0), (1, .int x1), (2, .int x2), (3, .int x3), (5, .int x5), (6, .int x6), (7, .int x7), (8, .int x8), (9, .int t.1), (10, .int x10), (11, .int t.2)])) 158 (fun (t : Int32 × Int32) => [(0, .ref x0), (1, .int x1), (2, .int x2), (3, .int x3), (5, .int x5), (6, .int x6), (7, .int x7), (8, .int x8), (9, .int t.1), (10, .int x10), (11, .int x11), (12, .int t.2)])) := by
  unfold X0_tables_L158
  refine J_iload dX0_tables_158 11 rfl ?_
  refine J_iload_n dX0_tables_160 rfl 2 rfl ?_
  refine J_icmp_ge (tgt := 193) dX0_tables_161 rfl ?_ ?_
  · refine J_inl ?_
    refine J_sub [0, 1, 2, 3, 4, 5, 6, 7, 8, 9, 10] rfl ?_
    exact j_X0_tables_b193 D dA x0 x1 x2 x3 x5 x6 x7 x8 x9 x10 x11
  refine J_aload_n dX0_tables_164 rfl 0 rfl ?_
  refine J_getA dX0_tables_165 fl_X0_130 rfl (fun v17 => ?_)
  refine J_iload dX0_tables_168 9 rfl ?_
  refine J_iload dX0_tables_170 10 rfl ?_
  refine J_iload dX0_tables_172 11 rfl ?_
  refine J_iload dX0_tables_174 8 rfl ?_
  refine J_iload_n dX0_tables_176 rfl 1 rfl ?_
  refine J_irem dX0_tables_177 (fun v18 => ?_)
  refine J_callVV (c := 3) (as := [.int x10, .int x11, .int x12, .int v18]) dX0_tables_178 (by decide) rfl (Nat.le_of_ble_eq_true rfl) (cw_X4_set _ (by decide)) q1031 q925 q926 q927 np_X4_set (i_X4_set v17 x10 x11 x12 v18) jad_id rfl ?_
  refine J_iload dX0_tables_181 8 rfl ?_
  refine J_iload_n dX0_tables_183 rfl 1 rfl ?_
  refine J_idiv dX0_tables_184 (fun v19 => ?_)
  refine J_istore (env' := [(9, .int v19), (0, .ref x0), (1, .int x1), (2, .int x2), (3, .int x3), (5, .int x5), (6, .int x6), (7, .int x7), (8, .int x8), (10, .int x10), (11, .int x11), (12, .int x12)]) dX0_tables_185 (by decide) rfl ?_
  refine J_iinc (v := x12 + 1) (env' := [(12, .int (x12 + 1)), (9, .int v19), (0, .ref x0), (1, .int x1), (2, .int x2), (3, .int x3), (5, .int x5), (6, .int x6), (7, .int x7), (8, .int x8), (10, .int x10), (11, .int x11)]) dX0_tables_187 11 rfl rfl (by decide) rfl ?_
  refine J_goto (tgt := 158) dX0_tables_190 rfl ?_
  exact J_cont [2, 3, 4, 5, 6, 7, 8, 9, 1, 10, 11, 0] rfl
noncomputable def X0_tables_L149 (x0 : Nat) (x1 : Int32) (x2 : Int32) (x3 : Int32) (x5 : Int32) (x6 : Int32) (x7 : Int32) (x8 : Int32) (x10 : Int32) (x9 : Int32) (x11 : Int32) : JM Mem (((Int32 ⊕ (Int32 × Int32 × Int32)) ⊕ (Int32 × Int32)) ⊕ (Int32 × Int32)) :=
  if x2 ≤ x11 then
    jinl (X0_tables_b199 x0 x1 x2 x3 x5 x6 x7 x8 x9 x10)
  else
    jloop (fun (t : Int32 × Int32) => X0_tables_L158 x0 x1 x2 x3 x5 x6 x7 x8 x10 x11 t.1 t.2) (x9, 0)
theorem j_X0_tables_L149 (D : va_G) (dA : Nat → ClassId) (x0 : Nat) (x1 : Int32) (x2 : Int32) (x3 : Int32) (x5 : Int32) (x6 : Int32) (x7 : Int32) (x8 : Int32) (x10 : Int32) (x9 : Int32) (x11 : Int32) : J (PM D dA false) Y_X0_tables [(0, .ref x0), (1, .int x1), (2, .int x2), (3, .int x3), (5, .int x5), (6, .int x6), (7, .int x7), (8, .int x8), (9, .int x9), (10, .int x10), (11, .int x11)] [] 149 (X0_tables_L149 x0 x1 x2 x3 x5 x6 x7 x8 x10 x9 x11) (FLoop (FLoop (FLoop (FRet injI) 123 (fun (t : Int32 × Int32 × Int32) => [(0, .ref x0), (1, .int x1), (2, .int x2), (3, .int x3), (5, .int x5), (6, .int t.1), (7, .int t.2.1), (8, .int t.2.2)])) 137 (fun (t : Int32 × Int32) => [(0, .ref x0), (1, .int x1), (2, .int x2), (3, .int x3), (5, .int x5), (6, .int x6), (7, .int x7), (8, .int x8), (9, .int t.1), (10, .int t.2)])) 149 (fun (t : Int32 × Int32) => [(0, .ref x0), (1, .int x1), (2, .int x2), (3, .int x3), (5, .int x5), (6, .int x6), (7, .int x7), (8, .int x8), (9, .int t.1), (10, .int x10), (11, .int t.2)])) := by
  unfold X0_tables_L149
  refine J_iload dX0_tables_149 10 rfl ?_
  refine J_iload_n dX0_tables_151 rfl 2 rfl ?_
  refine J_icmp_ge (tgt := 199) dX0_tables_152 rfl ?_ ?_
  · refine J_inl ?_
    refine J_sub [0, 1, 2, 3, 4, 5, 6, 7, 8, 9] rfl ?_
    exact j_X0_tables_b199 D dA x0 x1 x2 x3 x5 x6 x7 x8 x9 x10
  refine J_iconst (v := 0) dX0_tables_155 (by decide) ?_
  refine J_istore (env' := [(12, .int 0), (0, .ref x0), (1, .int x1), (2, .int x2), (3, .int x3), (5, .int x5), (6, .int x6), (7, .int x7), (8, .int x8), (9, .int x9), (10, .int x10), (11, .int x11)]) dX0_tables_156 (by decide) rfl ?_
  refine J_loop (he := fun (t : Int32 × Int32) => [(0, .ref x0), (1, .int x1), (2, .int x2), (3, .int x3), (5, .int x5), (6, .int x6), (7, .int x7), (8, .int x8), (9, .int t.1), (10, .int x10), (11, .int x11), (12, .int t.2)]) [1, 2, 3, 4, 5, 6, 7, 8, 9, 10, 11, 0] rfl (fun t => ?_)
  exact j_X0_tables_L158 D dA x0 x1 x2 x3 x5 x6 x7 x8 x10 x11 t.1 t.2
noncomputable def X0_tables_L137 (x0 : Nat) (x1 : Int32) (x2 : Int32) (x3 : Int32) (x5 : Int32) (x6 : Int32) (x7 : Int32) (x8 : Int32) (x9 : Int32) (x10 : Int32) : JM Mem ((Int32 ⊕ (Int32 × Int32 × Int32)) ⊕ (Int32 × Int32)) :=
  if x2 ≤ x10 then
    jinl (X0_tables_b205 x0 x1 x2 x3 x5 x6 x7 x8)
  else
  jlet (x10 + 1) fun y16 =>
  jloop (fun (t : Int32 × Int32) => X0_tables_L149 x0 x1 x2 x3 x5 x6 x7 x8 x10 t.1 t.2) (x9, y16)
theorem j_X0_tables_L137 (D : va_G) (dA : Nat → ClassId) (x0 : Nat) (x1 : Int32) (x2 : Int32) (x3 : Int32) (x5 : Int32) (x6 : Int32) (x7 : Int32) (x8 : Int32) (x9 : Int32) (x10 : Int32) : J (PM D dA false) Y_X0_tables [(0, .ref x0), (1, .int x1), (2, .int x2), (3, .int x3), (5, .int x5), (6, .int x6), (7, .int x7), (8, .int x8), (9, .int x9), (10, .int x10)] [] 137 (X0_tables_L137 x0 x1 x2 x3 x5 x6 x7 x8 x9 x10) (FLoop (FLoop (FRet injI) 123 (fun (t : Int32 × Int32 × Int32) => [(0, .ref x0), (1, .int x1), (2, .int x2), (3, .int x3), (5, .int x5), (6, .int t.1), (7, .int t.2.1), (8, .int t.2.2)])) 137 (fun (t : Int32 × Int32) => [(0, .ref x0), (1, .int x1), (2, .int x2), (3, .int x3), (5, .int x5), (6, .int x6), (7, .int x7), (8, .int x8), (9, .int t.1), (10, .int t.2)])) := by
  unfold X0_tables_L137
  refine J_iload dX0_tables_137 9 rfl ?_
  refine J_iload_n dX0_tables_139 rfl 2 rfl ?_
  refine J_icmp_ge (tgt := 205) dX0_tables_140 rfl ?_ ?_
  · refine J_inl ?_
    refine J_sub [0, 1, 2, 3, 4, 5, 6, 7] rfl ?_
    exact j_X0_tables_b205 D dA x0 x1 x2 x3 x5 x6 x7 x8
  refine J_iload dX0_tables_143 9 rfl ?_
  refine J_iconst (v := 1) dX0_tables_145 (by decide) ?_
  refine J_iadd dX0_tables_146 ?_
  refine J_letI (fun y16 => ?_)
  refine J_istore (env' := [(11, .int y16), (0, .ref x0), (1, .int x1), (2, .int x2), (3, .int x3), (5, .int x5), (6, .int x6), (7, .int x7), (8, .int x8), (9, .int x9), (10, .int x10)]) dX0_tables_147 (by decide) rfl ?_
  refine J_loop (he := fun (t : Int32 × Int32) => [(0, .ref x0), (1, .int x1), (2, .int x2), (3, .int x3), (5, .int x5), (6, .int x6), (7, .int x7), (8, .int x8), (9, .int t.1), (10, .int x10), (11, .int t.2)]) [1, 2, 3, 4, 5, 6, 7, 8, 9, 10, 0] rfl (fun t => ?_)
  exact j_X0_tables_L149 D dA x0 x1 x2 x3 x5 x6 x7 x8 x10 t.1 t.2
noncomputable def X0_tables_L123 (x0 : Nat) (x1 : Int32) (x2 : Int32) (x3 : Int32) (x5 : Int32) (x6 : Int32) (x7 : Int32) (x8 : Int32) : JM Mem (Int32 ⊕ (Int32 × Int32 × Int32)) :=
  if x5 ≤ x8 then
    jinl (X0_tables_b312 x0 x3 x6 x7)
  else
    jloop (fun (t : Int32 × Int32) => X0_tables_L137 x0 x1 x2 x3 x5 x6 x7 x8 t.1 t.2) (x8, 0)
theorem j_X0_tables_L123 (D : va_G) (dA : Nat → ClassId) (x0 : Nat) (x1 : Int32) (x2 : Int32) (x3 : Int32) (x5 : Int32) (x6 : Int32) (x7 : Int32) (x8 : Int32) : J (PM D dA false) Y_X0_tables [(0, .ref x0), (1, .int x1), (2, .int x2), (3, .int x3), (5, .int x5), (6, .int x6), (7, .int x7), (8, .int x8)] [] 123 (X0_tables_L123 x0 x1 x2 x3 x5 x6 x7 x8) (FLoop (FRet injI) 123 (fun (t : Int32 × Int32 × Int32) => [(0, .ref x0), (1, .int x1), (2, .int x2), (3, .int x3), (5, .int x5), (6, .int t.1), (7, .int t.2.1), (8, .int t.2.2)])) := by
  unfold X0_tables_L123
  refine J_iload dX0_tables_123 7 rfl ?_
  refine J_iload dX0_tables_125 4 rfl ?_
  refine J_icmp_ge (tgt := 312) dX0_tables_127 rfl ?_ ?_
  · refine J_inl ?_
    refine J_sub [0, 3, 5, 6] rfl ?_
    exact j_X0_tables_b312 D dA x0 x3 x6 x7
  refine J_iload dX0_tables_130 7 rfl ?_
  refine J_istore (env' := [(9, .int x8), (0, .ref x0), (1, .int x1), (2, .int x2), (3, .int x3), (5, .int x5), (6, .int x6), (7, .int x7), (8, .int x8)]) dX0_tables_132 (by decide) rfl ?_
  refine J_iconst (v := 0) dX0_tables_134 (by decide) ?_
  refine J_istore (env' := [(10, .int 0), (9, .int x8), (0, .ref x0), (1, .int x1), (2, .int x2), (3, .int x3), (5, .int x5), (6, .int x6), (7, .int x7), (8, .int x8)]) dX0_tables_135 (by decide) rfl ?_
  refine J_loop (he := fun (t : Int32 × Int32) => [(0, .ref x0), (1, .int x1), (2, .int x2), (3, .int x3), (5, .int x5), (6, .int x6), (7, .int x7), (8, .int x8), (9, .int t.1), (10, .int t.2)]) [2, 3, 4, 5, 6, 7, 8, 9, 1, 0] rfl (fun t => ?_)
  exact j_X0_tables_L137 D dA x0 x1 x2 x3 x5 x6 x7 x8 t.1 t.2
noncomputable def X0_tables_b114 (x0 : Nat) (x1 : Int32) (x2 : Int32) (x3 : Int32) (x5 : Int32) : JM Mem Int32 :=
  jloop (fun (t : Int32 × Int32 × Int32) => X0_tables_L123 x0 x1 x2 x3 x5 t.1 t.2.1 t.2.2) (0, 0, 0)
theorem j_X0_tables_b114 (D : va_G) (dA : Nat → ClassId) (x0 : Nat) (x1 : Int32) (x2 : Int32) (x3 : Int32) (x5 : Int32) : J (PM D dA false) Y_X0_tables [(0, .ref x0), (1, .int x1), (2, .int x2), (3, .int x3), (5, .int x5)] [] 114 (X0_tables_b114 x0 x1 x2 x3 x5) (FRet injI) := by
  unfold X0_tables_b114
  refine J_iconst (v := 0) dX0_tables_114 (by decide) ?_
  refine J_istore (env' := [(6, .int 0), (0, .ref x0), (1, .int x1), (2, .int x2), (3, .int x3), (5, .int x5)]) dX0_tables_115 (by decide) rfl ?_
  refine J_iconst (v := 0) dX0_tables_117 (by decide) ?_
  refine J_istore (env' := [(7, .int 0), (6, .int 0), (0, .ref x0), (1, .int x1), (2, .int x2), (3, .int x3), (5, .int x5)]) dX0_tables_118 (by decide) rfl ?_
  refine J_iconst (v := 0) dX0_tables_120 (by decide) ?_
  refine J_istore (env' := [(8, .int 0), (7, .int 0), (6, .int 0), (0, .ref x0), (1, .int x1), (2, .int x2), (3, .int x3), (5, .int x5)]) dX0_tables_121 (by decide) rfl ?_
  refine J_loop (he := fun (t : Int32 × Int32 × Int32) => [(0, .ref x0), (1, .int x1), (2, .int x2), (3, .int x3), (5, .int x5), (6, .int t.1), (7, .int t.2.1), (8, .int t.2.2)]) [3, 4, 5, 6, 7, 2, 1, 0] rfl (fun t => ?_)
  exact j_X0_tables_L123 D dA x0 x1 x2 x3 x5 t.1 t.2.1 t.2.2
noncomputable def X0_tables_L97 (x0 : Nat) (x1 : Int32) (x2 : Int32) (x3 : Int32) (x5 : Int32) (x6 : Int32) : JM Mem (Int32 ⊕ (Int32 × Int32)) :=
  if x6 ≤ 0 then
    jinl (X0_tables_b114 x0 x1 x2 x3 x5)
  else
  jlet (x5 * x1) fun y20 =>
  jcont (y20, x6 + (-1))
theorem j_X0_tables_L97 (D : va_G) (dA : Nat → ClassId) (x0 : Nat) (x1 : Int32) (x2 : Int32) (x3 : Int32) (x5 : Int32) (x6 : Int32) : J (PM D dA false) Y_X0_tables [(0, .ref x0), (1, .int x1), (2, .int x2), (3, .int x3), (5, .int x5), (6, .int x6)] [] 97 (X0_tables_L97 x0 x1 x2 x3 x5 x6) (FLoop (FRet injI) 97 (fun (t : Int32 × Int32) => [(0, .ref x0), (1, .int x1), (2, .int x2), (3, .int x3), (5, .int t.1), (6, .int t.2)])) := by
  unfold X0_tables_L97
  refine J_iload dX0_tables_97 5 rfl ?_
  refine J_if_le (tgt := 114) dX0_tables_99 rfl ?_ ?_
  · refine J_inl ?_
    refine J_sub [0, 1, 2, 3, 4] rfl ?_
    exact j_X0_tables_b114 D dA x0 x1 x2 x3 x5
  refine J_iload dX0_tables_102 4 rfl ?_
  refine J_iload_n dX0_tables_104 rfl 1 rfl ?_
  refine J_imul dX0_tables_105 ?_
  refine J_letI (fun y20 => ?_)
  refine J_istore (env' := [(5, .int y20), (0, .ref x0), (1, .int x1), (2, .int x2), (3, .int x3), (6, .int x6)]) dX0_tables_106 (by decide) rfl ?_
  refine J_iinc (v := x6 + (-1)) (env' := [(6, .int (x6 + (-1))), (5, .int y20), (0, .ref x0), (1, .int x1), (2, .int x2), (3, .int x3)]) dX0_tables_108 5 rfl rfl (by decide) rfl ?_
  refine J_goto (tgt := 97) dX0_tables_111 rfl ?_
  exact J_cont [2, 3, 4, 5, 1, 0] rfl
noncomputable def X0_tables_b47 (x0 : Nat) (x1 : Int32) (x2 : Int32) (x3 : Int32) (s0 : Int32) : JM Mem Int32 :=
  if s0 = 0 then
    jb (jcall 0 x0 (f_X0_none x0 5)) fun v21 =>
    jp v21
  else
  jb (jgetA 0 38 x0) fun v2 =>
  jb (jcall 3 v2 (f_X4_clear v2)) fun _ =>
  jb (jgetA 0 38 x0) fun v3 =>
  jb (jputI 3 1 v3 x1) fun _ =>
  jb (jgetA 0 38 x0) fun v4 =>
  jb (jputI 3 2 v4 x2) fun _ =>
  jb (jdiv ((x2 * x2) * (x2 - 1)) 2) fun v5 =>
  jloop (fun (t : Int32 × Int32) => X0_tables_L97 x0 x1 x2 x3 t.1 t.2) (1, v5)
theorem j_X0_tables_b47 (D : va_G) (dA : Nat → ClassId) (x0 : Nat) (x1 : Int32) (x2 : Int32) (x3 : Int32) (s0 : Int32) : J (PM D dA false) Y_X0_tables [(0, .ref x0), (1, .int x1), (2, .int x2), (3, .int x3)] [.int s0] 47 (X0_tables_b47 x0 x1 x2 x3 s0) (FRet injI) := by
  unfold X0_tables_b47
  refine J_istore (env' := [(4, .int s0), (0, .ref x0), (1, .int x1), (2, .int x2), (3, .int x3)]) dX0_tables_47 (by decide) rfl ?_
  refine J_iload dX0_tables_49 0 rfl ?_
  refine J_if_ne (tgt := 60) dX0_tables_51 rfl ?_ ?_
  · refine J_aload_n dX0_tables_60 rfl 1 rfl ?_
    refine J_getA dX0_tables_61 fl_X0_130 rfl (fun v2 => ?_)
    refine J_callVV (c := 3) (as := []) dX0_tables_64 (by decide) rfl (Nat.le_of_ble_eq_true rfl) (cw_X4_clear _ (by decide)) q1423 q844 q845 q846 np_X4_clear (i_X4_clear v2) jad_id rfl ?_
    refine J_aload_n dX0_tables_67 rfl 1 rfl ?_
    refine J_getA dX0_tables_68 fl_X0_130 rfl (fun v3 => ?_)
    refine J_iload_n dX0_tables_71 rfl 2 rfl ?_
    refine J_putI dX0_tables_72 ⟨fl_X0_253, Or.inl rfl⟩ rfl ?_
    refine J_aload_n dX0_tables_75 rfl 1 rfl ?_
    refine J_getA dX0_tables_76 fl_X0_130 rfl (fun v4 => ?_)
    refine J_iload_n dX0_tables_79 rfl 3 rfl ?_
    refine J_putI dX0_tables_80 ⟨fl_X0_196, Or.inl rfl⟩ rfl ?_
    refine J_iconst (v := 1) dX0_tables_83 (by decide) ?_
    refine J_istore (env' := [(5, .int 1), (4, .int s0), (0, .ref x0), (1, .int x1), (2, .int x2), (3, .int x3)]) dX0_tables_84 (by decide) rfl ?_
    refine J_iload_n dX0_tables_86 rfl 4 rfl ?_
    refine J_iload_n dX0_tables_87 rfl 4 rfl ?_
    refine J_imul dX0_tables_88 ?_
    refine J_iload_n dX0_tables_89 rfl 4 rfl ?_
    refine J_iconst (v := 1) dX0_tables_90 (by decide) ?_
    refine J_isub dX0_tables_91 ?_
    refine J_imul dX0_tables_92 ?_
    refine J_iconst (v := 2) dX0_tables_93 (by decide) ?_
    refine J_idiv dX0_tables_94 (fun v5 => ?_)
    refine J_istore (env' := [(6, .int v5), (5, .int 1), (4, .int s0), (0, .ref x0), (1, .int x1), (2, .int x2), (3, .int x3)]) dX0_tables_95 (by decide) rfl ?_
    refine J_loop (he := fun (t : Int32 × Int32) => [(0, .ref x0), (1, .int x1), (2, .int x2), (3, .int x3), (5, .int t.1), (6, .int t.2)]) [3, 4, 5, 6, 1, 0] rfl (fun t => ?_)
    exact j_X0_tables_L97 D dA x0 x1 x2 x3 t.1 t.2
  refine J_aload_n dX0_tables_54 rfl 1 rfl ?_
  refine J_iconst (v := 5) dX0_tables_55 (by decide) ?_
  refine J_callVI (c := 0) (as := [.int 5]) dX0_tables_56 (by decide) rfl (Nat.le_of_ble_eq_true rfl) (cw_X0_none _ (by decide)) q729 q731 qs3 q732 np_X0_none (i_X0_none x0 5) jad_id rfl (fun v21 => ?_)
  exact J_ireturn dX0_tables_59 rfl
noncomputable def X0_tables_b46 (x0 : Nat) (x1 : Int32) (x2 : Int32) (x3 : Int32) : JM Mem Int32 :=
  X0_tables_b47 x0 x1 x2 x3 0
theorem j_X0_tables_b46 (D : va_G) (dA : Nat → ClassId) (x0 : Nat) (x1 : Int32) (x2 : Int32) (x3 : Int32) : J (PM D dA false) Y_X0_tables [(0, .ref x0), (1, .int x1), (2, .int x2), (3, .int x3)] [] 46 (X0_tables_b46 x0 x1 x2 x3) (FRet injI) := by
  unfold X0_tables_b46
  refine J_iconst (v := 0) dX0_tables_46 (by decide) ?_
  refine J_sub [0, 1, 2, 3] rfl ?_
  exact j_X0_tables_b47 D dA x0 x1 x2 x3 0
noncomputable def X0_tables_b27 (x0 : Nat) (x1 : Int32) (x2 : Int32) (x3 : Int32) (s0 : Int64) (s1 : Int64) (s2 : Int64) : JM Mem Int32 :=
  jb ((f_X0_isFrom s0 s1 s2)) fun v1 =>
  if v1 = 0 then
    X0_tables_b46 x0 x1 x2 x3
  else
  if x3 < 0 then
    X0_tables_b46 x0 x1 x2 x3
  else
  if 1 < x3 then
    X0_tables_b46 x0 x1 x2 x3
  else
    X0_tables_b47 x0 x1 x2 x3 1
theorem j_X0_tables_b27 (D : va_G) (dA : Nat → ClassId) (x0 : Nat) (x1 : Int32) (x2 : Int32) (x3 : Int32) (s0 : Int64) (s1 : Int64) (s2 : Int64) : J (PM D dA false) Y_X0_tables [(0, .ref x0), (1, .int x1), (2, .int x2), (3, .int x3)] [.long s2, .long s1, .long s0] 27 (X0_tables_b27 x0 x1 x2 x3 s0 s1 s2) (FRet injI) := by
  unfold X0_tables_b27
  refine J_callSI (host := "") (as := [.long s0, .long s1, .long s2]) dX0_tables_27 rfl (Nat.le_of_ble_eq_true rfl) (cw_X0_isFrom _ (by decide)) q1096 q1097 q1098 np_X0_isFrom (i_X0_isFrom s0 s1 s2) jad_id rfl (fun v1 => ?_)
  refine J_if_eq (tgt := 46) dX0_tables_30 rfl ?_ ?_
  · refine J_sub [0, 1, 2, 3] rfl ?_
    exact j_X0_tables_b46 D dA x0 x1 x2 x3
  refine J_iload_n dX0_tables_33 rfl 3 rfl ?_
  refine J_if_lt (tgt := 46) dX0_tables_34 rfl ?_ ?_
  · refine J_sub [0, 1, 2, 3] rfl ?_
    exact j_X0_tables_b46 D dA x0 x1 x2 x3
  refine J_iload_n dX0_tables_37 rfl 3 rfl ?_
  refine J_iconst (v := 1) dX0_tables_38 (by decide) ?_
  refine J_icmp_gt (tgt := 46) dX0_tables_39 rfl ?_ ?_
  · refine J_sub [0, 1, 2, 3] rfl ?_
    exact j_X0_tables_b46 D dA x0 x1 x2 x3
  refine J_iconst (v := 1) dX0_tables_42 (by decide) ?_
  refine J_goto (tgt := 47) dX0_tables_43 rfl ?_
  refine J_sub [0, 1, 2, 3] rfl ?_
  exact j_X0_tables_b47 D dA x0 x1 x2 x3 1
noncomputable def X0_tables_b10 (x0 : Nat) (x1 : Int32) (x2 : Int32) (x3 : Int32) : JM Mem Int32 :=
  if x1 = 2 then
    X0_tables_b27 x0 x1 x2 x3 ((x2 : Int32).toInt64) 1 3
  else
    X0_tables_b27 x0 x1 x2 x3 ((x2 : Int32).toInt64) 1 2
theorem j_X0_tables_b10 (D : va_G) (dA : Nat → ClassId) (x0 : Nat) (x1 : Int32) (x2 : Int32) (x3 : Int32) : J (PM D dA false) Y_X0_tables [(0, .ref x0), (1, .int x1), (2, .int x2), (3, .int x3)] [] 10 (X0_tables_b10 x0 x1 x2 x3) (FRet injI) := by
  unfold X0_tables_b10
  refine J_iload_n dX0_tables_10 rfl 2 rfl ?_
  refine J_i2l dX0_tables_11 ?_
  refine J_lconst (v := 1) dX0_tables_12 (by decide) ?_
  refine J_iload_n dX0_tables_13 rfl 1 rfl ?_
  refine J_iconst (v := 2) dX0_tables_14 (by decide) ?_
  refine J_icmp_ne (tgt := 24) dX0_tables_15 rfl ?_ ?_
  · refine J_ldc2 dX0_tables_24 q1433 ?_
    refine J_sub [0, 1, 2, 3] rfl ?_
    exact j_X0_tables_b27 D dA x0 x1 x2 x3 ((x2 : Int32).toInt64) 1 2
  refine J_ldc2 dX0_tables_18 q1432 ?_
  refine J_goto (tgt := 27) dX0_tables_21 rfl ?_
  refine J_sub [0, 1, 2, 3] rfl ?_
  exact j_X0_tables_b27 D dA x0 x1 x2 x3 ((x2 : Int32).toInt64) 1 3
noncomputable def f_X0_tables (x0 : Nat) (x1 : Int32) (x2 : Int32) (x3 : Int32) : JM Mem Int32 :=
  if x1 = 2 then
    X0_tables_b10 x0 x1 x2 x3
  else
  if x1 = 3 then
    X0_tables_b10 x0 x1 x2 x3
  else
    X0_tables_b46 x0 x1 x2 x3
theorem j_X0_tables (D : va_G) (dA : Nat → ClassId) (x0 : Nat) (x1 : Int32) (x2 : Int32) (x3 : Int32) : J (PM D dA false) Y_X0_tables [(0, .ref x0), (1, .int x1), (2, .int x2), (3, .int x3)] [] 0 (f_X0_tables x0 x1 x2 x3) (FRet injI) := by
  unfold f_X0_tables
  refine J_iload_n dX0_tables_0 rfl 1 rfl ?_
  refine J_iconst (v := 2) dX0_tables_1 (by decide) ?_
  refine J_icmp_eq (tgt := 10) dX0_tables_2 rfl ?_ ?_
  · refine J_sub [0, 1, 2, 3] rfl ?_
    exact j_X0_tables_b10 D dA x0 x1 x2 x3
  refine J_iload_n dX0_tables_5 rfl 1 rfl ?_
  refine J_iconst (v := 3) dX0_tables_6 (by decide) ?_
  refine J_icmp_ne (tgt := 46) dX0_tables_7 rfl ?_ ?_
  · refine J_sub [0, 1, 2, 3] rfl ?_
    exact j_X0_tables_b46 D dA x0 x1 x2 x3
  refine J_sub [0, 1, 2, 3] rfl ?_
  exact j_X0_tables_b10 D dA x0 x1 x2 x3
theorem i_X0_tables (x0 : Nat) (x1 : Int32) (x2 : Int32) (x3 : Int32) : Impl (ws_ yX0_tables cX0_tables 13 (some .int)) yX0_tables 15 false 0 0 [.ref x0, .int x1, .int x2, .int x3] (f_X0_tables x0 x1 x2 x3) injI := impl_of (plainFor_of_name (by decide)) (Nat.le_of_ble_eq_true rfl) (fun D dA => j_X0_tables D dA x0 x1 x2 x3)
theorem cw_X0_tables (Y : JY) (h : 16 ≤ Y.2.2.2.1) : JCw Y (ws_ yX0_tables cX0_tables 13 (some .int)) yX0_tables cX0_tables 13 (some .int) 15 := ⟨h, by decide, lw_meth q1431, q187, by decide, by decide⟩
theorem np_X0_tables : JNp yX0_tables.desc 3 := by decide +kernel
-- BracketRoom.does(LBracketRoom$Step;)Z
abbrev Y_X0_does : JY := (cX0_does, yX0_does.cls, 2, 5, yX0_does.name, (some .boolean), [])
noncomputable def f_X0_does (x0 : Nat) (x1 : Nat) : JM Mem Int32 :=
  jb (jgetI 8 0 x1) fun v1 =>
  jsw v1 6 [
    jb (jgetI 8 1 x1) fun v2 =>
    jb (jcall 0 x0 (f_X0_isBase x0 v2)) fun v3 =>
    if v3 = 0 then
      jp 0
    else
    jb (jgetI 8 2 x1) fun v4 =>
    jb (jcall 0 x0 (f_X0_isBase x0 v4)) fun v5 =>
    if v5 = 0 then
      jp 0
    else
    jb (jgetI 8 1 x1) fun v6 =>
    jb (jgetI 8 2 x1) fun v7 =>
    if v6 = v7 then
      jp 0
    else
    jb (jcall 0 x0 (f_X0_same x0)) fun _ =>
    jb (jgetA 0 33 x0) fun v8 =>
    jb (jgetI 8 1 x1) fun v9 =>
    jb (jaldA 5 v8 v9) fun v10 =>
    jb (jgetI 8 1 x1) fun v11 =>
    jb (jast_i v10 v11 0) fun _ =>
    jb (jgetA 0 33 x0) fun v12 =>
    jb (jgetI 8 2 x1) fun v13 =>
    jb (jaldA 5 v12 v13) fun v14 =>
    jb (jgetI 8 2 x1) fun v15 =>
    jb (jast_i v14 v15 0) fun _ =>
    jb (jgetA 0 33 x0) fun v16 =>
    jb (jgetI 8 1 x1) fun v17 =>
    jb (jaldA 5 v16 v17) fun v18 =>
    jb (jgetI 8 2 x1) fun v19 =>
    jb (jast_i v18 v19 1) fun _ =>
    jb (jgetA 0 33 x0) fun v20 =>
    jb (jgetI 8 2 x1) fun v21 =>
    jb (jaldA 5 v20 v21) fun v22 =>
    jb (jgetI 8 1 x1) fun v23 =>
    jb (jast_i v22 v23 1) fun _ =>
    jb (jgetA 0 2 x0) fun v24 =>
    jb (jcall 0 x0 (f_X0_changes x0 v24)) fun v25 =>
    jrz v25,
    jb (jgetI 8 1 x1) fun v26 =>
    jb (jcall 0 x0 (f_X0_isBase x0 v26)) fun v27 =>
    if v27 = 0 then
      jp 0
    else
    jb (jgetI 8 3 x1) fun v28 =>
    jb (jgetA 0 2 x0) fun v29 =>
    jb (jgetI 3 1 v29) fun v30 =>
    jb (jrem v28 v30) fun v31 =>
    if v31 = 0 then
      jp 0
    else
    jb (jcall 0 x0 (f_X0_same x0)) fun _ =>
    jb (jgetA 0 33 x0) fun v32 =>
    jb (jgetI 8 1 x1) fun v33 =>
    jb (jaldA 5 v32 v33) fun v34 =>
    jb (jgetI 8 1 x1) fun v35 =>
    jb (jgetI 8 3 x1) fun v36 =>
    jb (jgetA 0 2 x0) fun v37 =>
    jb (jgetI 3 1 v37) fun v38 =>
    jb (jrem v36 v38) fun v39 =>
    jb (jast_i v34 v35 v39) fun _ =>
    jb (jgetA 0 2 x0) fun v40 =>
    jb (jcall 0 x0 (f_X0_changes x0 v40)) fun v41 =>
    jrz v41,
    jb (jgetI 8 1 x1) fun v42 =>
    jb (jcall 0 x0 (f_X0_isBase x0 v42)) fun v43 =>
    if v43 = 0 then
      jp 0
    else
    jb (jgetI 8 2 x1) fun v44 =>
    jb (jcall 0 x0 (f_X0_isBase x0 v44)) fun v45 =>
    if v45 = 0 then
      jp 0
    else
    jb (jgetI 8 1 x1) fun v46 =>
    jb (jgetI 8 2 x1) fun v47 =>
    if v46 = v47 then
      jp 0
    else
    jb (jcall 0 x0 (f_X0_same x0)) fun _ =>
    jb (jgetA 0 33 x0) fun v48 =>
    jb (jgetI 8 2 x1) fun v49 =>
    jb (jaldA 5 v48 v49) fun v50 =>
    jb (jgetI 8 1 x1) fun v51 =>
    jb (jgetI 8 3 x1) fun v52 =>
    jb (jgetA 0 2 x0) fun v53 =>
    jb (jgetI 3 1 v53) fun v54 =>
    jb (jrem v52 v54) fun v55 =>
    jb (jast_i v50 v51 v55) fun _ =>
    jb (jgetA 0 2 x0) fun v56 =>
    jb (jcall 0 x0 (f_X0_changes x0 v56)) fun v57 =>
    jrz v57,
    jb (jgetI 8 1 x1) fun v58 =>
    jb (jcall 0 x0 (f_X0_keeps x0 v58)) fun _ =>
    jp 1,
    jb (jgetA 0 5 x0) fun v59 =>
    jb (jgetI 8 1 x1) fun v60 =>
    jb (jald mI 4 v59 v60) fun v61 =>
    if v61 = 0 then
      jp 0
    else
    jb (jgetA 0 2 x0) fun v62 =>
    jb (jgetA 0 4 x0) fun v63 =>
    jb (jgetI 8 1 x1) fun v64 =>
    jb (jaldA 7 v63 v64) fun v65 =>
    jb (jcall 3 v62 (f_X4_copy v62 v65)) fun _ =>
    jp 1,
    jb (jgetI 8 1 x1) fun v66 =>
    jb (jcall 0 x0 (f_X0_wrongSum x0 v66)) fun v67 =>
    if v67 ≤ 0 then
      jb (jgetA 0 4 x0) fun v68 =>
      jb (jgetI 8 1 x1) fun v69 =>
      jb (jaldA 7 v68 v69) fun v70 =>
      jb (jcall 0 x0 (f_X0_sums x0 v70)) fun _ =>
      jp 1
    else
      jp 0] (
    jp 1)
set_option maxHeartbeats 8000000 in
theorem j_X0_does (D : va_G) (dA : Nat → ClassId) (x0 : Nat) (x1 : Nat) : J (PM D dA false) Y_X0_does [(0, .ref x0), (1, .ref x1)] [] 0 (f_X0_does x0 x1) (FRet injI) := by
  unfold f_X0_does
  refine J_aload_n dX0_does_0 rfl 1 rfl ?_
  refine J_getI dX0_does_1 fl_X0_537 rfl (fun v1 => ?_)
  refine J_tswA [44, 152, 219, 293, 303, 335] dX0_does_4 (tgt := 363) rfl rfl rfl rfl ?_ ⟨?_, ?_, ?_, ?_, ?_, ?_, trivial⟩
  · refine J_iconst (v := 1) dX0_does_363 (by decide) ?_
    exact J_zreturn1 dX0_does_364 rfl
  · refine J_aload_n dX0_does_44 rfl 0 rfl ?_
    refine J_aload_n dX0_does_45 rfl 1 rfl ?_
    refine J_getI dX0_does_46 fl_X0_532 rfl (fun v2 => ?_)
    refine J_callVI (c := 0) (as := [.int v2]) dX0_does_49 (by decide) rfl (Nat.le_of_ble_eq_true rfl) (cw_X0_isBase _ (by decide)) q1023 q1025 qs13 q1026 np_X0_isBase (i_X0_isBase x0 v2) jad_id rfl (fun v3 => ?_)
    refine J_if_eq (tgt := 77) dX0_does_52 rfl ?_ ?_
    · refine J_iconst (v := 0) dX0_does_77 (by decide) ?_
      exact J_zreturn0 dX0_does_78 rfl
    refine J_aload_n dX0_does_55 rfl 0 rfl ?_
    refine J_aload_n dX0_does_56 rfl 1 rfl ?_
    refine J_getI dX0_does_57 fl_X0_538 rfl (fun v4 => ?_)
    refine J_callVI (c := 0) (as := [.int v4]) dX0_does_60 (by decide) rfl (Nat.le_of_ble_eq_true rfl) (cw_X0_isBase _ (by decide)) q1023 q1025 qs13 q1026 np_X0_isBase (i_X0_isBase x0 v4) jad_id rfl (fun v5 => ?_)
    refine J_if_eq (tgt := 77) dX0_does_63 rfl ?_ ?_
    · refine J_iconst (v := 0) dX0_does_77 (by decide) ?_
      exact J_zreturn0 dX0_does_78 rfl
    refine J_aload_n dX0_does_66 rfl 1 rfl ?_
    refine J_getI dX0_does_67 fl_X0_532 rfl (fun v6 => ?_)
    refine J_aload_n dX0_does_70 rfl 1 rfl ?_
    refine J_getI dX0_does_71 fl_X0_538 rfl (fun v7 => ?_)
    refine J_icmp_ne (tgt := 79) dX0_does_74 rfl ?_ ?_
    · refine J_aload_n dX0_does_79 rfl 0 rfl ?_
      refine J_callVV (c := 0) (as := []) dX0_does_80 (by decide) rfl (Nat.le_of_ble_eq_true rfl) (cw_X0_same _ (by decide)) q1361 q1363 qs51 q1364 np_X0_same (i_X0_same x0) jad_id rfl ?_
      refine J_aload_n dX0_does_83 rfl 0 rfl ?_
      refine J_getA dX0_does_84 fl_X0_115 rfl (fun v8 => ?_)
      refine J_aload_n dX0_does_87 rfl 1 rfl ?_
      refine J_getI dX0_does_88 fl_X0_532 rfl (fun v9 => ?_)
      refine J_aald dX0_does_91 rfl (by decide) (fun v10 => ?_)
      refine J_aload_n dX0_does_92 rfl 1 rfl ?_
      refine J_getI dX0_does_93 fl_X0_532 rfl (fun v11 => ?_)
      refine J_iconst (v := 0) dX0_does_96 (by decide) ?_
      refine J_iast dX0_does_97 ?_
      refine J_aload_n dX0_does_98 rfl 0 rfl ?_
      refine J_getA dX0_does_99 fl_X0_115 rfl (fun v12 => ?_)
      refine J_aload_n dX0_does_102 rfl 1 rfl ?_
      refine J_getI dX0_does_103 fl_X0_538 rfl (fun v13 => ?_)
      refine J_aald dX0_does_106 rfl (by decide) (fun v14 => ?_)
      refine J_aload_n dX0_does_107 rfl 1 rfl ?_
      refine J_getI dX0_does_108 fl_X0_538 rfl (fun v15 => ?_)
      refine J_iconst (v := 0) dX0_does_111 (by decide) ?_
      refine J_iast dX0_does_112 ?_
      refine J_aload_n dX0_does_113 rfl 0 rfl ?_
      refine J_getA dX0_does_114 fl_X0_115 rfl (fun v16 => ?_)
      refine J_aload_n dX0_does_117 rfl 1 rfl ?_
      refine J_getI dX0_does_118 fl_X0_532 rfl (fun v17 => ?_)
      refine J_aald dX0_does_121 rfl (by decide) (fun v18 => ?_)
      refine J_aload_n dX0_does_122 rfl 1 rfl ?_
      refine J_getI dX0_does_123 fl_X0_538 rfl (fun v19 => ?_)
      refine J_iconst (v := 1) dX0_does_126 (by decide) ?_
      refine J_iast dX0_does_127 ?_
      refine J_aload_n dX0_does_128 rfl 0 rfl ?_
      refine J_getA dX0_does_129 fl_X0_115 rfl (fun v20 => ?_)
      refine J_aload_n dX0_does_132 rfl 1 rfl ?_
      refine J_getI dX0_does_133 fl_X0_538 rfl (fun v21 => ?_)
      refine J_aald dX0_does_136 rfl (by decide) (fun v22 => ?_)
      refine J_aload_n dX0_does_137 rfl 1 rfl ?_
      refine J_getI dX0_does_138 fl_X0_532 rfl (fun v23 => ?_)
      refine J_iconst (v := 1) dX0_does_141 (by decide) ?_
      refine J_iast dX0_does_142 ?_
      refine J_aload_n dX0_does_143 rfl 0 rfl ?_
      refine J_aload_n dX0_does_144 rfl 0 rfl ?_
      refine J_getA dX0_does_145 fl_X0_30 rfl (fun v24 => ?_)
      refine J_callVI (c := 0) (as := [.ref v24]) dX0_does_148 (by decide) rfl (Nat.le_of_ble_eq_true rfl) (cw_X0_changes _ (by decide)) q1365 q1367 qs52 q1368 np_X0_changes (i_X0_changes x0 v24) jad_id rfl (fun v25 => ?_)
      exact J_zreturn dX0_does_151 rfl
    refine J_iconst (v := 0) dX0_does_77 (by decide) ?_
    exact J_zreturn0 dX0_does_78 rfl
  · refine J_aload_n dX0_does_152 rfl 0 rfl ?_
    refine J_aload_n dX0_does_153 rfl 1 rfl ?_
    refine J_getI dX0_does_154 fl_X0_532 rfl (fun v26 => ?_)
    refine J_callVI (c := 0) (as := [.int v26]) dX0_does_157 (by decide) rfl (Nat.le_of_ble_eq_true rfl) (cw_X0_isBase _ (by decide)) q1023 q1025 qs13 q1026 np_X0_isBase (i_X0_isBase x0 v26) jad_id rfl (fun v27 => ?_)
    refine J_if_eq (tgt := 178) dX0_does_160 rfl ?_ ?_
    · refine J_iconst (v := 0) dX0_does_178 (by decide) ?_
      exact J_zreturn0 dX0_does_179 rfl
    refine J_aload_n dX0_does_163 rfl 1 rfl ?_
    refine J_getI dX0_does_164 fl_X0_526 rfl (fun v28 => ?_)
    refine J_aload_n dX0_does_167 rfl 0 rfl ?_
    refine J_getA dX0_does_168 fl_X0_30 rfl (fun v29 => ?_)
    refine J_getI dX0_does_171 fl_X0_253 rfl (fun v30 => ?_)
    refine J_irem dX0_does_174 (fun v31 => ?_)
    refine J_if_ne (tgt := 180) dX0_does_175 rfl ?_ ?_
    · refine J_aload_n dX0_does_180 rfl 0 rfl ?_
      refine J_callVV (c := 0) (as := []) dX0_does_181 (by decide) rfl (Nat.le_of_ble_eq_true rfl) (cw_X0_same _ (by decide)) q1361 q1363 qs51 q1364 np_X0_same (i_X0_same x0) jad_id rfl ?_
      refine J_aload_n dX0_does_184 rfl 0 rfl ?_
      refine J_getA dX0_does_185 fl_X0_115 rfl (fun v32 => ?_)
      refine J_aload_n dX0_does_188 rfl 1 rfl ?_
      refine J_getI dX0_does_189 fl_X0_532 rfl (fun v33 => ?_)
      refine J_aald dX0_does_192 rfl (by decide) (fun v34 => ?_)
      refine J_aload_n dX0_does_193 rfl 1 rfl ?_
      refine J_getI dX0_does_194 fl_X0_532 rfl (fun v35 => ?_)
      refine J_aload_n dX0_does_197 rfl 1 rfl ?_
      refine J_getI dX0_does_198 fl_X0_526 rfl (fun v36 => ?_)
      refine J_aload_n dX0_does_201 rfl 0 rfl ?_
      refine J_getA dX0_does_202 fl_X0_30 rfl (fun v37 => ?_)
      refine J_getI dX0_does_205 fl_X0_253 rfl (fun v38 => ?_)
      refine J_irem dX0_does_208 (fun v39 => ?_)
      refine J_iast dX0_does_209 ?_
      refine J_aload_n dX0_does_210 rfl 0 rfl ?_
      refine J_aload_n dX0_does_211 rfl 0 rfl ?_
      refine J_getA dX0_does_212 fl_X0_30 rfl (fun v40 => ?_)
      refine J_callVI (c := 0) (as := [.ref v40]) dX0_does_215 (by decide) rfl (Nat.le_of_ble_eq_true rfl) (cw_X0_changes _ (by decide)) q1365 q1367 qs52 q1368 np_X0_changes (i_X0_changes x0 v40) jad_id rfl (fun v41 => ?_)
      exact J_zreturn dX0_does_218 rfl
    refine J_iconst (v := 0) dX0_does_178 (by decide) ?_
    exact J_zreturn0 dX0_does_179 rfl
  · refine J_aload_n dX0_does_219 rfl 0 rfl ?_
    refine J_aload_n dX0_does_220 rfl 1 rfl ?_
    refine J_getI dX0_does_221 fl_X0_532 rfl (fun v42 => ?_)
    refine J_callVI (c := 0) (as := [.int v42]) dX0_does_224 (by decide) rfl (Nat.le_of_ble_eq_true rfl) (cw_X0_isBase _ (by decide)) q1023 q1025 qs13 q1026 np_X0_isBase (i_X0_isBase x0 v42) jad_id rfl (fun v43 => ?_)
    refine J_if_eq (tgt := 252) dX0_does_227 rfl ?_ ?_
    · refine J_iconst (v := 0) dX0_does_252 (by decide) ?_
      exact J_zreturn0 dX0_does_253 rfl
    refine J_aload_n dX0_does_230 rfl 0 rfl ?_
    refine J_aload_n dX0_does_231 rfl 1 rfl ?_
    refine J_getI dX0_does_232 fl_X0_538 rfl (fun v44 => ?_)
    refine J_callVI (c := 0) (as := [.int v44]) dX0_does_235 (by decide) rfl (Nat.le_of_ble_eq_true rfl) (cw_X0_isBase _ (by decide)) q1023 q1025 qs13 q1026 np_X0_isBase (i_X0_isBase x0 v44) jad_id rfl (fun v45 => ?_)
    refine J_if_eq (tgt := 252) dX0_does_238 rfl ?_ ?_
    · refine J_iconst (v := 0) dX0_does_252 (by decide) ?_
      exact J_zreturn0 dX0_does_253 rfl
    refine J_aload_n dX0_does_241 rfl 1 rfl ?_
    refine J_getI dX0_does_242 fl_X0_532 rfl (fun v46 => ?_)
    refine J_aload_n dX0_does_245 rfl 1 rfl ?_
    refine J_getI dX0_does_246 fl_X0_538 rfl (fun v47 => ?_)
    refine J_icmp_ne (tgt := 254) dX0_does_249 rfl ?_ ?_
    · refine J_aload_n dX0_does_254 rfl 0 rfl ?_
      refine J_callVV (c := 0) (as := []) dX0_does_255 (by decide) rfl (Nat.le_of_ble_eq_true rfl) (cw_X0_same _ (by decide)) q1361 q1363 qs51 q1364 np_X0_same (i_X0_same x0) jad_id rfl ?_
      refine J_aload_n dX0_does_258 rfl 0 rfl ?_
      refine J_getA dX0_does_259 fl_X0_115 rfl (fun v48 => ?_)
      refine J_aload_n dX0_does_262 rfl 1 rfl ?_
      refine J_getI dX0_does_263 fl_X0_538 rfl (fun v49 => ?_)
      refine J_aald dX0_does_266 rfl (by decide) (fun v50 => ?_)
      refine J_aload_n dX0_does_267 rfl 1 rfl ?_
      refine J_getI dX0_does_268 fl_X0_532 rfl (fun v51 => ?_)
      refine J_aload_n dX0_does_271 rfl 1 rfl ?_
      refine J_getI dX0_does_272 fl_X0_526 rfl (fun v52 => ?_)
      refine J_aload_n dX0_does_275 rfl 0 rfl ?_
      refine J_getA dX0_does_276 fl_X0_30 rfl (fun v53 => ?_)
      refine J_getI dX0_does_279 fl_X0_253 rfl (fun v54 => ?_)
      refine J_irem dX0_does_282 (fun v55 => ?_)
      refine J_iast dX0_does_283 ?_
      refine J_aload_n dX0_does_284 rfl 0 rfl ?_
      refine J_aload_n dX0_does_285 rfl 0 rfl ?_
      refine J_getA dX0_does_286 fl_X0_30 rfl (fun v56 => ?_)
      refine J_callVI (c := 0) (as := [.ref v56]) dX0_does_289 (by decide) rfl (Nat.le_of_ble_eq_true rfl) (cw_X0_changes _ (by decide)) q1365 q1367 qs52 q1368 np_X0_changes (i_X0_changes x0 v56) jad_id rfl (fun v57 => ?_)
      exact J_zreturn dX0_does_292 rfl
    refine J_iconst (v := 0) dX0_does_252 (by decide) ?_
    exact J_zreturn0 dX0_does_253 rfl
  · refine J_aload_n dX0_does_293 rfl 0 rfl ?_
    refine J_aload_n dX0_does_294 rfl 1 rfl ?_
    refine J_getI dX0_does_295 fl_X0_532 rfl (fun v58 => ?_)
    refine J_callVV (c := 0) (as := [.int v58]) dX0_does_298 (by decide) rfl (Nat.le_of_ble_eq_true rfl) (cw_X0_keeps _ (by decide)) q1079 q1081 qs16 q1082 np_X0_keeps (i_X0_keeps x0 v58) jad_id rfl ?_
    refine J_iconst (v := 1) dX0_does_301 (by decide) ?_
    exact J_zreturn1 dX0_does_302 rfl
  · refine J_aload_n dX0_does_303 rfl 0 rfl ?_
    refine J_getA dX0_does_304 fl_X0_41 rfl (fun v59 => ?_)
    refine J_aload_n dX0_does_307 rfl 1 rfl ?_
    refine J_getI dX0_does_308 fl_X0_532 rfl (fun v60 => ?_)
    refine J_zald dX0_does_311 (fun v61 => ?_)
    refine J_if_ne (tgt := 317) dX0_does_312 rfl ?_ ?_
    · refine J_aload_n dX0_does_317 rfl 0 rfl ?_
      refine J_getA dX0_does_318 fl_X0_30 rfl (fun v62 => ?_)
      refine J_aload_n dX0_does_321 rfl 0 rfl ?_
      refine J_getA dX0_does_322 fl_X0_37 rfl (fun v63 => ?_)
      refine J_aload_n dX0_does_325 rfl 1 rfl ?_
      refine J_getI dX0_does_326 fl_X0_532 rfl (fun v64 => ?_)
      refine J_aald dX0_does_329 rfl (by decide) (fun v65 => ?_)
      refine J_callVV (c := 3) (as := [.ref v65]) dX0_does_330 (by decide) rfl (Nat.le_of_ble_eq_true rfl) (cw_X4_copy _ (by decide)) q939 q940 q941 q942 np_X4_copy (i_X4_copy v62 v65) jad_id rfl ?_
      refine J_iconst (v := 1) dX0_does_333 (by decide) ?_
      exact J_zreturn1 dX0_does_334 rfl
    refine J_iconst (v := 0) dX0_does_315 (by decide) ?_
    exact J_zreturn0 dX0_does_316 rfl
  · refine J_aload_n dX0_does_335 rfl 0 rfl ?_
    refine J_aload_n dX0_does_336 rfl 1 rfl ?_
    refine J_getI dX0_does_337 fl_X0_532 rfl (fun v66 => ?_)
    refine J_callVI (c := 0) (as := [.int v66]) dX0_does_340 (by decide) rfl (Nat.le_of_ble_eq_true rfl) (cw_X0_wrongSum _ (by decide)) q1407 q1409 qs57 q1410 np_X0_wrongSum (i_X0_wrongSum x0 v66) jad_id rfl (fun v67 => ?_)
    refine J_if_le (tgt := 348) dX0_does_343 rfl ?_ ?_
    · refine J_aload_n dX0_does_348 rfl 0 rfl ?_
      refine J_aload_n dX0_does_349 rfl 0 rfl ?_
      refine J_getA dX0_does_350 fl_X0_37 rfl (fun v68 => ?_)
      refine J_aload_n dX0_does_353 rfl 1 rfl ?_
      refine J_getI dX0_does_354 fl_X0_532 rfl (fun v69 => ?_)
      refine J_aald dX0_does_357 rfl (by decide) (fun v70 => ?_)
      refine J_callVV (c := 0) (as := [.ref v70]) dX0_does_358 (by decide) rfl (Nat.le_of_ble_eq_true rfl) (cw_X0_sums _ (by decide)) q1411 q1413 qs58 q1414 np_X0_sums (i_X0_sums x0 v70) jad_id rfl ?_
      refine J_iconst (v := 1) dX0_does_361 (by decide) ?_
      exact J_zreturn1 dX0_does_362 rfl
    refine J_iconst (v := 0) dX0_does_346 (by decide) ?_
    exact J_zreturn0 dX0_does_347 rfl
theorem i_X0_does (x0 : Nat) (x1 : Nat) : Impl (ws_ yX0_does cX0_does 2 (some .boolean)) yX0_does 5 false 0 0 [.ref x0, .ref x1] (f_X0_does x0 x1) injI := impl_of (plainFor_of_name (by decide)) (Nat.le_of_ble_eq_true rfl) (fun D dA => j_X0_does D dA x0 x1)
theorem cw_X0_does (Y : JY) (h : 6 ≤ Y.2.2.2.1) : JCw Y (ws_ yX0_does cX0_does 2 (some .boolean)) yX0_does cX0_does 2 (some .boolean) 5 := ⟨h, by decide, lw_meth q1441, q187, by decide, by decide⟩
theorem np_X0_does : JNp yX0_does.desc 1 := by decide +kernel
-- BracketRoom.compares(LBracketRoom$Step;I)Z
abbrev Y_X0_compares : JY := (cX0_compares, yX0_compares.cls, 3, 1, yX0_compares.name, (some .boolean), [])
noncomputable def f_X0_compares (x0 : Nat) (x1 : Nat) (x2 : Int32) : JM Mem Int32 :=
  jb (jgetI 8 4 x1) fun v1 =>
  if v1 = 60 then
    jb (jgetI 8 3 x1) fun v5 =>
    if v5 ≤ x2 then
      jp 0
    else
      jp 1
  else
  jb (jgetI 8 4 x1) fun v2 =>
  if v2 = 62 then
    jb (jgetI 8 3 x1) fun v4 =>
    if x2 ≤ v4 then
      jp 0
    else
      jp 1
  else
  jb (jgetI 8 3 x1) fun v3 =>
  if x2 = v3 then
    jp 1
  else
    jp 0
theorem j_X0_compares (D : va_G) (dA : Nat → ClassId) (x0 : Nat) (x1 : Nat) (x2 : Int32) : J (PM D dA false) Y_X0_compares [(0, .ref x0), (1, .ref x1), (2, .int x2)] [] 0 (f_X0_compares x0 x1 x2) (FRet injI) := by
  unfold f_X0_compares
  refine J_aload_n dX0_compares_0 rfl 1 rfl ?_
  refine J_getI dX0_compares_1 fl_X0_521 rfl (fun v1 => ?_)
  refine J_bipush (v := 60) dX0_compares_4 (by decide) ?_
  refine J_icmp_ne (tgt := 25) dX0_compares_6 rfl ?_ ?_
  · refine J_aload_n dX0_compares_25 rfl 1 rfl ?_
    refine J_getI dX0_compares_26 fl_X0_521 rfl (fun v2 => ?_)
    refine J_bipush (v := 62) dX0_compares_29 (by decide) ?_
    refine J_icmp_ne (tgt := 50) dX0_compares_31 rfl ?_ ?_
    · refine J_iload_n dX0_compares_50 rfl 2 rfl ?_
      refine J_aload_n dX0_compares_51 rfl 1 rfl ?_
      refine J_getI dX0_compares_52 fl_X0_526 rfl (fun v3 => ?_)
      refine J_icmp_ne (tgt := 62) dX0_compares_55 rfl ?_ ?_
      · refine J_iconst (v := 0) dX0_compares_62 (by decide) ?_
        exact J_zreturn0 dX0_compares_63 rfl
      refine J_iconst (v := 1) dX0_compares_58 (by decide) ?_
      refine J_goto (tgt := 63) dX0_compares_59 rfl ?_
      exact J_zreturn1 dX0_compares_63 rfl
    refine J_iload_n dX0_compares_34 rfl 2 rfl ?_
    refine J_aload_n dX0_compares_35 rfl 1 rfl ?_
    refine J_getI dX0_compares_36 fl_X0_526 rfl (fun v4 => ?_)
    refine J_icmp_le (tgt := 46) dX0_compares_39 rfl ?_ ?_
    · refine J_iconst (v := 0) dX0_compares_46 (by decide) ?_
      refine J_goto (tgt := 63) dX0_compares_47 rfl ?_
      exact J_zreturn0 dX0_compares_63 rfl
    refine J_iconst (v := 1) dX0_compares_42 (by decide) ?_
    refine J_goto (tgt := 63) dX0_compares_43 rfl ?_
    exact J_zreturn1 dX0_compares_63 rfl
  refine J_iload_n dX0_compares_9 rfl 2 rfl ?_
  refine J_aload_n dX0_compares_10 rfl 1 rfl ?_
  refine J_getI dX0_compares_11 fl_X0_526 rfl (fun v5 => ?_)
  refine J_icmp_ge (tgt := 21) dX0_compares_14 rfl ?_ ?_
  · refine J_iconst (v := 0) dX0_compares_21 (by decide) ?_
    refine J_goto (tgt := 63) dX0_compares_22 rfl ?_
    exact J_zreturn0 dX0_compares_63 rfl
  refine J_iconst (v := 1) dX0_compares_17 (by decide) ?_
  refine J_goto (tgt := 63) dX0_compares_18 rfl ?_
  exact J_zreturn1 dX0_compares_63 rfl
theorem i_X0_compares (x0 : Nat) (x1 : Nat) (x2 : Int32) : Impl (ws_ yX0_compares cX0_compares 3 (some .boolean)) yX0_compares 1 false 0 0 [.ref x0, .ref x1, .int x2] (f_X0_compares x0 x1 x2) injI := impl_of (plainFor_of_name (by decide)) (Nat.le_of_ble_eq_true rfl) (fun D dA => j_X0_compares D dA x0 x1 x2)
theorem cw_X0_compares (Y : JY) (h : 2 ≤ Y.2.2.2.1) : JCw Y (ws_ yX0_compares cX0_compares 3 (some .boolean)) yX0_compares cX0_compares 3 (some .boolean) 1 := ⟨h, by decide, lw_meth q1449, q187, by decide, by decide⟩
theorem np_X0_compares : JNp yX0_compares.desc 2 := by decide +kernel
-- BracketRoom.holds(LBracketRoom$Step;)Z
abbrev Y_X0_holds : JY := (cX0_holds, yX0_holds.cls, 2, 15, yX0_holds.name, (some .boolean), [])
noncomputable def f_X0_holds (x0 : Nat) (x1 : Nat) : JM Mem Int32 :=
  jb (jgetI 8 5 x1) fun v1 =>
  jlsw v1 [
    (1, jb (jgetA 0 2 x0) fun v10 =>
    jb (jgetI 3 2 v10) fun v11 =>
    jb (jcall 0 x0 (f_X0_compares x0 x1 v11)) fun v12 =>
    jrz v12),
    (18, jb (jgetA 0 2 x0) fun v13 =>
    jb (jcall 0 x0 (f_X0_isLawful x0 v13)) fun v14 =>
    jrz v14),
    (19, jb (jgetA 0 2 x0) fun v15 =>
    jb (jcall 0 x0 (f_X0_derivedOf x0 v15 1)) fun v16 =>
    if v16 = 0 then
      jp 1
    else
      jp 0),
    (20, jb (jgetA 0 2 x0) fun v17 =>
    jb (jcall 0 x0 (f_X0_lowerOf x0 v17 5)) fun v18 =>
    if v18 = 0 then
      jp 1
    else
      jp 0),
    (21, jb (jgetA 0 2 x0) fun v19 =>
    jb (jcall 0 x0 (f_X0_derivedOf x0 v19 5)) fun v20 =>
    if v20 = 0 then
      jp 1
    else
      jp 0),
    (22, jb (jgetA 0 2 x0) fun v21 =>
    jb (jgetI 8 1 x1) fun v22 =>
    jb (jcall 0 x0 (f_X0_derivedOf x0 v21 v22)) fun v23 =>
    jb (jcall 0 x0 (f_X0_compares x0 x1 v23)) fun v24 =>
    jrz v24)] (
    jb (jgetA 0 5 x0) fun v2 =>
    jb (jgetI 8 1 x1) fun v3 =>
    jb (jald mI 4 v2 v3) fun v4 =>
    if v4 = 0 then
      jp 0
    else
    jb (jgetA 0 2 x0) fun v5 =>
    jb (jgetA 0 4 x0) fun v6 =>
    jb (jgetI 8 1 x1) fun v7 =>
    jb (jaldA 7 v6 v7) fun v8 =>
    jb (jcall 0 x0 (f_X0_maps_2 x0 v5 v8 1)) fun v9 =>
    if v9 ≤ 0 then
      jp 0
    else
      jp 1)
set_option maxHeartbeats 8000000 in
theorem j_X0_holds (D : va_G) (dA : Nat → ClassId) (x0 : Nat) (x1 : Nat) : J (PM D dA false) Y_X0_holds [(0, .ref x0), (1, .ref x1)] [] 0 (f_X0_holds x0 x1) (FRet injI) := by
  unfold f_X0_holds
  refine J_aload_n dX0_holds_0 rfl 1 rfl ?_
  refine J_getI dX0_holds_1 fl_X0_529 rfl (fun v1 => ?_)
  refine J_lswA [(1, 145), (18, 64), (19, 73), (20, 91), (21, 109), (22, 127)] dX0_holds_4 (by decide) (tgt := 158) rfl rfl rfl ?_ ⟨?_, ?_, ?_, ?_, ?_, ?_, trivial⟩
  · refine J_aload_n dX0_holds_158 rfl 0 rfl ?_
    refine J_getA dX0_holds_159 fl_X0_41 rfl (fun v2 => ?_)
    refine J_aload_n dX0_holds_162 rfl 1 rfl ?_
    refine J_getI dX0_holds_163 fl_X0_532 rfl (fun v3 => ?_)
    refine J_zald dX0_holds_166 (fun v4 => ?_)
    refine J_if_eq (tgt := 195) dX0_holds_167 rfl ?_ ?_
    · refine J_iconst (v := 0) dX0_holds_195 (by decide) ?_
      exact J_zreturn0 dX0_holds_196 rfl
    refine J_aload_n dX0_holds_170 rfl 0 rfl ?_
    refine J_aload_n dX0_holds_171 rfl 0 rfl ?_
    refine J_getA dX0_holds_172 fl_X0_30 rfl (fun v5 => ?_)
    refine J_aload_n dX0_holds_175 rfl 0 rfl ?_
    refine J_getA dX0_holds_176 fl_X0_37 rfl (fun v6 => ?_)
    refine J_aload_n dX0_holds_179 rfl 1 rfl ?_
    refine J_getI dX0_holds_180 fl_X0_532 rfl (fun v7 => ?_)
    refine J_aald dX0_holds_183 rfl (by decide) (fun v8 => ?_)
    refine J_iconst (v := 1) dX0_holds_184 (by decide) ?_
    refine J_callVI (c := 0) (as := [.ref v5, .ref v8, .int 1]) dX0_holds_185 (by decide) rfl (Nat.le_of_ble_eq_true rfl) (cw_X0_maps_2 _ (by decide)) q1316 q1318 qs45 q1319 np_X0_maps_2 (i_X0_maps_2 x0 v5 v8 1) jad_id rfl (fun v9 => ?_)
    refine J_if_le (tgt := 195) dX0_holds_188 rfl ?_ ?_
    · refine J_iconst (v := 0) dX0_holds_195 (by decide) ?_
      exact J_zreturn0 dX0_holds_196 rfl
    refine J_iconst (v := 1) dX0_holds_191 (by decide) ?_
    refine J_goto (tgt := 196) dX0_holds_192 rfl ?_
    exact J_zreturn1 dX0_holds_196 rfl
  · refine J_aload_n dX0_holds_145 rfl 0 rfl ?_
    refine J_aload_n dX0_holds_146 rfl 1 rfl ?_
    refine J_aload_n dX0_holds_147 rfl 0 rfl ?_
    refine J_getA dX0_holds_148 fl_X0_30 rfl (fun v10 => ?_)
    refine J_getI dX0_holds_151 fl_X0_196 rfl (fun v11 => ?_)
    refine J_callVI (c := 0) (as := [.ref x1, .int v11]) dX0_holds_154 (by decide) rfl (Nat.le_of_ble_eq_true rfl) (cw_X0_compares _ (by decide)) q1446 q1448 qs62 q1449 np_X0_compares (i_X0_compares x0 x1 v11) jad_id rfl (fun v12 => ?_)
    exact J_zreturn dX0_holds_157 rfl
  · refine J_aload_n dX0_holds_64 rfl 0 rfl ?_
    refine J_aload_n dX0_holds_65 rfl 0 rfl ?_
    refine J_getA dX0_holds_66 fl_X0_30 rfl (fun v13 => ?_)
    refine J_callVI (c := 0) (as := [.ref v13]) dX0_holds_69 (by decide) rfl (Nat.le_of_ble_eq_true rfl) (cw_X0_isLawful _ (by decide)) q1060 q1062 qs15 q1063 np_X0_isLawful (i_X0_isLawful x0 v13) jad_id rfl (fun v14 => ?_)
    exact J_zreturn dX0_holds_72 rfl
  · refine J_aload_n dX0_holds_73 rfl 0 rfl ?_
    refine J_aload_n dX0_holds_74 rfl 0 rfl ?_
    refine J_getA dX0_holds_75 fl_X0_30 rfl (fun v15 => ?_)
    refine J_iconst (v := 1) dX0_holds_78 (by decide) ?_
    refine J_callVI (c := 0) (as := [.ref v15, .int 1]) dX0_holds_79 (by decide) rfl (Nat.le_of_ble_eq_true rfl) (cw_X0_derivedOf _ (by decide)) q1142 q1144 qs22 q1145 np_X0_derivedOf (i_X0_derivedOf x0 v15 1) jad_id rfl (fun v16 => ?_)
    refine J_if_ne (tgt := 89) dX0_holds_82 rfl ?_ ?_
    · refine J_iconst (v := 0) dX0_holds_89 (by decide) ?_
      exact J_zreturn0 dX0_holds_90 rfl
    refine J_iconst (v := 1) dX0_holds_85 (by decide) ?_
    refine J_goto (tgt := 90) dX0_holds_86 rfl ?_
    exact J_zreturn1 dX0_holds_90 rfl
  · refine J_aload_n dX0_holds_91 rfl 0 rfl ?_
    refine J_aload_n dX0_holds_92 rfl 0 rfl ?_
    refine J_getA dX0_holds_93 fl_X0_30 rfl (fun v17 => ?_)
    refine J_iconst (v := 5) dX0_holds_96 (by decide) ?_
    refine J_callVI (c := 0) (as := [.ref v17, .int 5]) dX0_holds_97 (by decide) rfl (Nat.le_of_ble_eq_true rfl) (cw_X0_lowerOf _ (by decide)) q1158 q1160 qs24 q1161 np_X0_lowerOf (i_X0_lowerOf x0 v17 5) jad_id rfl (fun v18 => ?_)
    refine J_if_ne (tgt := 107) dX0_holds_100 rfl ?_ ?_
    · refine J_iconst (v := 0) dX0_holds_107 (by decide) ?_
      exact J_zreturn0 dX0_holds_108 rfl
    refine J_iconst (v := 1) dX0_holds_103 (by decide) ?_
    refine J_goto (tgt := 108) dX0_holds_104 rfl ?_
    exact J_zreturn1 dX0_holds_108 rfl
  · refine J_aload_n dX0_holds_109 rfl 0 rfl ?_
    refine J_aload_n dX0_holds_110 rfl 0 rfl ?_
    refine J_getA dX0_holds_111 fl_X0_30 rfl (fun v19 => ?_)
    refine J_iconst (v := 5) dX0_holds_114 (by decide) ?_
    refine J_callVI (c := 0) (as := [.ref v19, .int 5]) dX0_holds_115 (by decide) rfl (Nat.le_of_ble_eq_true rfl) (cw_X0_derivedOf _ (by decide)) q1142 q1144 qs22 q1145 np_X0_derivedOf (i_X0_derivedOf x0 v19 5) jad_id rfl (fun v20 => ?_)
    refine J_if_ne (tgt := 125) dX0_holds_118 rfl ?_ ?_
    · refine J_iconst (v := 0) dX0_holds_125 (by decide) ?_
      exact J_zreturn0 dX0_holds_126 rfl
    refine J_iconst (v := 1) dX0_holds_121 (by decide) ?_
    refine J_goto (tgt := 126) dX0_holds_122 rfl ?_
    exact J_zreturn1 dX0_holds_126 rfl
  · refine J_aload_n dX0_holds_127 rfl 0 rfl ?_
    refine J_aload_n dX0_holds_128 rfl 1 rfl ?_
    refine J_aload_n dX0_holds_129 rfl 0 rfl ?_
    refine J_aload_n dX0_holds_130 rfl 0 rfl ?_
    refine J_getA dX0_holds_131 fl_X0_30 rfl (fun v21 => ?_)
    refine J_aload_n dX0_holds_134 rfl 1 rfl ?_
    refine J_getI dX0_holds_135 fl_X0_532 rfl (fun v22 => ?_)
    refine J_callVI (c := 0) (as := [.ref v21, .int v22]) dX0_holds_138 (by decide) rfl (Nat.le_of_ble_eq_true rfl) (cw_X0_derivedOf _ (by decide)) q1142 q1144 qs22 q1145 np_X0_derivedOf (i_X0_derivedOf x0 v21 v22) jad_id rfl (fun v23 => ?_)
    refine J_callVI (c := 0) (as := [.ref x1, .int v23]) dX0_holds_141 (by decide) rfl (Nat.le_of_ble_eq_true rfl) (cw_X0_compares _ (by decide)) q1446 q1448 qs62 q1449 np_X0_compares (i_X0_compares x0 x1 v23) jad_id rfl (fun v24 => ?_)
    exact J_zreturn dX0_holds_144 rfl
theorem i_X0_holds (x0 : Nat) (x1 : Nat) : Impl (ws_ yX0_holds cX0_holds 2 (some .boolean)) yX0_holds 15 false 0 0 [.ref x0, .ref x1] (f_X0_holds x0 x1) injI := impl_of (plainFor_of_name (by decide)) (Nat.le_of_ble_eq_true rfl) (fun D dA => j_X0_holds D dA x0 x1)
theorem cw_X0_holds (Y : JY) (h : 16 ≤ Y.2.2.2.1) : JCw Y (ws_ yX0_holds cX0_holds 2 (some .boolean)) yX0_holds cX0_holds 2 (some .boolean) 15 := ⟨h, by decide, lw_meth q1445, q187, by decide, by decide⟩
theorem np_X0_holds : JNp yX0_holds.desc 1 := by decide +kernel
-- BracketRoom.behindEnds(I)I
abbrev Y_X0_behindEnds : JY := (cX0_behindEnds, yX0_behindEnds.cls, 5, 1, yX0_behindEnds.name, (some .int), [])
noncomputable def X0_behindEnds_b97 (x0 : Nat) (s0 : Int32) : JM Mem (Int32 ⊕ (Int32)) :=
  jcont s0
theorem j_X0_behindEnds_b97 (D : va_G) (dA : Nat → ClassId) (x0 : Nat) (s0 : Int32) : J (PM D dA false) Y_X0_behindEnds [(0, .ref x0)] [.int s0] 97 (X0_behindEnds_b97 x0 s0) (FLoop (FRet injI) 2 (fun (t : Int32) => [(0, .ref x0), (2, .int t)])) := by
  unfold X0_behindEnds_b97
  refine J_istore_n (env' := [(2, .int s0), (0, .ref x0)]) dX0_behindEnds_97 rfl (by decide) rfl ?_
  refine J_goto (tgt := 2) dX0_behindEnds_98 rfl ?_
  exact J_cont [1, 0] rfl
noncomputable def X0_behindEnds_b75 (x0 : Nat) (x2 : Int32) (x4 : Int32) : JM Mem (Int32 ⊕ (Int32)) :=
  if x4 = 0 then
    X0_behindEnds_b97 x0 (x2 + 1)
  else
  jb (jgetA 0 6 x0) fun v11 =>
  jb (jaldA 11 v11 x2) fun v12 =>
  jb (jgetI 8 6 v12) fun v13 =>
  X0_behindEnds_b97 x0 (v13 + 1)
theorem j_X0_behindEnds_b75 (D : va_G) (dA : Nat → ClassId) (x0 : Nat) (x2 : Int32) (x4 : Int32) : J (PM D dA false) Y_X0_behindEnds [(0, .ref x0), (2, .int x2), (4, .int x4)] [] 75 (X0_behindEnds_b75 x0 x2 x4) (FLoop (FRet injI) 2 (fun (t : Int32) => [(0, .ref x0), (2, .int t)])) := by
  unfold X0_behindEnds_b75
  refine J_iload dX0_behindEnds_75 2 rfl ?_
  refine J_if_eq (tgt := 94) dX0_behindEnds_77 rfl ?_ ?_
  · refine J_iload_n dX0_behindEnds_94 rfl 1 rfl ?_
    refine J_iconst (v := 1) dX0_behindEnds_95 (by decide) ?_
    refine J_iadd dX0_behindEnds_96 ?_
    refine J_sub [0] rfl ?_
    exact j_X0_behindEnds_b97 D dA x0 (x2 + 1)
  refine J_aload_n dX0_behindEnds_80 rfl 0 rfl ?_
  refine J_getA dX0_behindEnds_81 fl_X0_242 rfl (fun v11 => ?_)
  refine J_iload_n dX0_behindEnds_84 rfl 1 rfl ?_
  refine J_aald dX0_behindEnds_85 rfl (by decide) (fun v12 => ?_)
  refine J_getI dX0_behindEnds_86 fl_X0_540 rfl (fun v13 => ?_)
  refine J_iconst (v := 1) dX0_behindEnds_89 (by decide) ?_
  refine J_iadd dX0_behindEnds_90 ?_
  refine J_goto (tgt := 97) dX0_behindEnds_91 rfl ?_
  refine J_sub [0] rfl ?_
  exact j_X0_behindEnds_b97 D dA x0 (v13 + 1)
noncomputable def X0_behindEnds_b73 (x0 : Nat) (x2 : Int32) (s0 : Int32) : JM Mem (Int32 ⊕ (Int32)) :=
  X0_behindEnds_b75 x0 x2 s0
theorem j_X0_behindEnds_b73 (D : va_G) (dA : Nat → ClassId) (x0 : Nat) (x2 : Int32) (s0 : Int32) : J (PM D dA false) Y_X0_behindEnds [(0, .ref x0), (2, .int x2)] [.int s0] 73 (X0_behindEnds_b73 x0 x2 s0) (FLoop (FRet injI) 2 (fun (t : Int32) => [(0, .ref x0), (2, .int t)])) := by
  unfold X0_behindEnds_b73
  refine J_istore (env' := [(4, .int s0), (0, .ref x0), (2, .int x2)]) dX0_behindEnds_73 (by decide) rfl ?_
  refine J_sub [1, 2, 0] rfl ?_
  exact j_X0_behindEnds_b75 D dA x0 x2 s0
noncomputable def X0_behindEnds_L2 (x0 : Nat) (x2 : Int32) : JM Mem (Int32 ⊕ (Int32)) :=
  jb (jgetI 0 7 x0) fun v1 =>
  if v1 ≤ x2 then
    jinl (jp x2)
  else
  jb (jgetA 0 6 x0) fun v2 =>
  jb (jaldA 11 v2 x2) fun v3 =>
  jb (jgetI 8 0 v3) fun v4 =>
  if v4 = 15 then
    jb (jgetA 0 6 x0) fun v5 =>
    jb (jgetA 0 6 x0) fun v6 =>
    jb (jaldA 11 v6 x2) fun v7 =>
    jb (jgetI 8 6 v7) fun v8 =>
    jb (jaldA 11 v5 v8) fun v9 =>
    jb (jgetI 8 0 v9) fun v10 =>
    if v10 = 13 then
      jb (jgetI 8 7 v9) fun v14 =>
      jb (jputI 8 7 v9 (v14 - 1)) fun _ =>
      jb (jgetI 8 7 v9) fun v15 =>
      if v15 ≤ 0 then
        X0_behindEnds_b73 x0 x2 0
      else
        X0_behindEnds_b73 x0 x2 1
    else
      X0_behindEnds_b75 x0 x2 0
  else
    jinl (jp x2)
theorem j_X0_behindEnds_L2 (D : va_G) (dA : Nat → ClassId) (x0 : Nat) (x2 : Int32) : J (PM D dA false) Y_X0_behindEnds [(0, .ref x0), (2, .int x2)] [] 2 (X0_behindEnds_L2 x0 x2) (FLoop (FRet injI) 2 (fun (t : Int32) => [(0, .ref x0), (2, .int t)])) := by
  unfold X0_behindEnds_L2
  refine J_iload_n dX0_behindEnds_2 rfl 1 rfl ?_
  refine J_aload_n dX0_behindEnds_3 rfl 0 rfl ?_
  refine J_getI dX0_behindEnds_4 fl_X0_249 rfl (fun v1 => ?_)
  refine J_icmp_ge (tgt := 101) dX0_behindEnds_7 rfl ?_ ?_
  · refine J_inl ?_
    refine J_iload_n dX0_behindEnds_101 rfl 1 rfl ?_
    exact J_ireturn dX0_behindEnds_102 rfl
  refine J_aload_n dX0_behindEnds_10 rfl 0 rfl ?_
  refine J_getA dX0_behindEnds_11 fl_X0_242 rfl (fun v2 => ?_)
  refine J_iload_n dX0_behindEnds_14 rfl 1 rfl ?_
  refine J_aald dX0_behindEnds_15 rfl (by decide) (fun v3 => ?_)
  refine J_getI dX0_behindEnds_16 fl_X0_537 rfl (fun v4 => ?_)
  refine J_bipush (v := 15) dX0_behindEnds_19 (by decide) ?_
  refine J_icmp_ne (tgt := 101) dX0_behindEnds_21 rfl ?_ ?_
  · refine J_inl ?_
    refine J_iload_n dX0_behindEnds_101 rfl 1 rfl ?_
    exact J_ireturn dX0_behindEnds_102 rfl
  refine J_aload_n dX0_behindEnds_24 rfl 0 rfl ?_
  refine J_getA dX0_behindEnds_25 fl_X0_242 rfl (fun v5 => ?_)
  refine J_aload_n dX0_behindEnds_28 rfl 0 rfl ?_
  refine J_getA dX0_behindEnds_29 fl_X0_242 rfl (fun v6 => ?_)
  refine J_iload_n dX0_behindEnds_32 rfl 1 rfl ?_
  refine J_aald dX0_behindEnds_33 rfl (by decide) (fun v7 => ?_)
  refine J_getI dX0_behindEnds_34 fl_X0_540 rfl (fun v8 => ?_)
  refine J_aald dX0_behindEnds_37 rfl (by decide) (fun v9 => ?_)
  refine J_astore_n (env' := [(3, .ref v9), (0, .ref x0), (2, .int x2)]) dX0_behindEnds_38 rfl (by decide) rfl ?_
  refine J_iconst (v := 0) dX0_behindEnds_39 (by decide) ?_
  refine J_istore (env' := [(4, .int 0), (3, .ref v9), (0, .ref x0), (2, .int x2)]) dX0_behindEnds_40 (by decide) rfl ?_
  refine J_aload_n dX0_behindEnds_42 rfl 1 rfl ?_
  refine J_getI dX0_behindEnds_43 fl_X0_537 rfl (fun v10 => ?_)
  refine J_bipush (v := 13) dX0_behindEnds_46 (by decide) ?_
  refine J_icmp_ne (tgt := 75) dX0_behindEnds_48 rfl ?_ ?_
  · refine J_sub [2, 3, 0] rfl ?_
    exact j_X0_behindEnds_b75 D dA x0 x2 0
  refine J_aload_n dX0_behindEnds_51 rfl 1 rfl ?_
  refine J_dup dX0_behindEnds_52 rfl ?_
  refine J_getI dX0_behindEnds_53 fl_X0_543 rfl (fun v14 => ?_)
  refine J_iconst (v := 1) dX0_behindEnds_56 (by decide) ?_
  refine J_isub dX0_behindEnds_57 ?_
  refine J_putI dX0_behindEnds_58 ⟨fl_X0_543, Or.inl rfl⟩ rfl ?_
  refine J_aload_n dX0_behindEnds_61 rfl 1 rfl ?_
  refine J_getI dX0_behindEnds_62 fl_X0_543 rfl (fun v15 => ?_)
  refine J_if_le (tgt := 72) dX0_behindEnds_65 rfl ?_ ?_
  · refine J_iconst (v := 0) dX0_behindEnds_72 (by decide) ?_
    refine J_sub [2, 3] rfl ?_
    exact j_X0_behindEnds_b73 D dA x0 x2 0
  refine J_iconst (v := 1) dX0_behindEnds_68 (by decide) ?_
  refine J_goto (tgt := 73) dX0_behindEnds_69 rfl ?_
  refine J_sub [2, 3] rfl ?_
  exact j_X0_behindEnds_b73 D dA x0 x2 1
noncomputable def f_X0_behindEnds (x0 : Nat) (x1 : Int32) : JM Mem Int32 :=
  jloop (fun (t : Int32) => X0_behindEnds_L2 x0 t) x1
theorem j_X0_behindEnds (D : va_G) (dA : Nat → ClassId) (x0 : Nat) (x1 : Int32) : J (PM D dA false) Y_X0_behindEnds [(0, .ref x0), (1, .int x1)] [] 0 (f_X0_behindEnds x0 x1) (FRet injI) := by
  unfold f_X0_behindEnds
  refine J_iload_n dX0_behindEnds_0 rfl 1 rfl ?_
  refine J_istore_n (env' := [(2, .int x1), (0, .ref x0), (1, .int x1)]) dX0_behindEnds_1 rfl (by decide) rfl ?_
  refine J_loop (he := fun (t : Int32) => [(0, .ref x0), (2, .int t)]) [1, 0] rfl (fun t => ?_)
  exact j_X0_behindEnds_L2 D dA x0 t
theorem i_X0_behindEnds (x0 : Nat) (x1 : Int32) : Impl (ws_ yX0_behindEnds cX0_behindEnds 5 (some .int)) yX0_behindEnds 1 false 0 0 [.ref x0, .int x1] (f_X0_behindEnds x0 x1) injI := impl_of (plainFor_of_name (by decide)) (Nat.le_of_ble_eq_true rfl) (fun D dA => j_X0_behindEnds D dA x0 x1)
theorem cw_X0_behindEnds (Y : JY) (h : 2 ≤ Y.2.2.2.1) : JCw Y (ws_ yX0_behindEnds cX0_behindEnds 5 (some .int)) yX0_behindEnds cX0_behindEnds 5 (some .int) 1 := ⟨h, by decide, lw_meth q1453, q187, by decide, by decide⟩
theorem np_X0_behindEnds : JNp yX0_behindEnds.desc 1 := by decide +kernel
-- BracketRoom.run()I
abbrev Y_X0_run : JY := (cX0_run, yX0_run.cls, 3, 16, yX0_run.name, (some .int), [])
noncomputable def X0_run_b169 (x0 : Nat) : JM Mem Int32 :=
  jb (jgetI 0 40 x0) fun v3 =>
  jb (jputI 0 44 x0 v3) fun _ =>
  jb (jgetI 0 42 x0) fun v4 =>
  jb (jputI 0 45 x0 v4) fun _ =>
  jb (jputZ 0 43 x0 1) fun _ =>
  jb (jgetI 0 41 x0) fun v5 =>
  jb (jcall 0 x0 (f_X0_gives x0 v5)) fun v6 =>
  jp v6
theorem j_X0_run_b169 (D : va_G) (dA : Nat → ClassId) (x0 : Nat) : J (PM D dA false) Y_X0_run [(0, .ref x0)] [] 169 (X0_run_b169 x0) (FRet injI) := by
  unfold X0_run_b169
  refine J_aload_n dX0_run_169 rfl 0 rfl ?_
  refine J_aload_n dX0_run_170 rfl 0 rfl ?_
  refine J_getI dX0_run_171 fl_X0_546 rfl (fun v3 => ?_)
  refine J_putI dX0_run_174 ⟨fl_X0_564, Or.inl rfl⟩ rfl ?_
  refine J_aload_n dX0_run_177 rfl 0 rfl ?_
  refine J_aload_n dX0_run_178 rfl 0 rfl ?_
  refine J_getI dX0_run_179 fl_X0_552 rfl (fun v4 => ?_)
  refine J_putI dX0_run_182 ⟨fl_X0_567, Or.inl rfl⟩ rfl ?_
  refine J_aload_n dX0_run_185 rfl 0 rfl ?_
  refine J_iconst (v := 1) dX0_run_186 (by decide) ?_
  refine J_putZ dX0_run_187 ⟨fl_X0_570, Or.inl rfl⟩ rfl ?_
  refine J_aload_n dX0_run_190 rfl 0 rfl ?_
  refine J_aload_n dX0_run_191 rfl 0 rfl ?_
  refine J_getI dX0_run_192 fl_X0_549 rfl (fun v5 => ?_)
  refine J_callVI (c := 0) (as := [.int v5]) dX0_run_195 (by decide) rfl (Nat.le_of_ble_eq_true rfl) (cw_X0_gives _ (by decide)) q944 q946 qs9 q947 np_X0_gives (i_X0_gives x0 v5) jad_id rfl (fun v6 => ?_)
  exact J_ireturn dX0_run_198 rfl
noncomputable def X0_run_b162 (x0 : Nat) (s0 : Nat) (s1 : Int32) : JM Mem (Int32 ⊕ (Int32)) :=
  jb (jcall 0 s0 (f_X0_behindEnds s0 s1)) fun v17 =>
  jcont v17
theorem j_X0_run_b162 (D : va_G) (dA : Nat → ClassId) (x0 : Nat) (s0 : Nat) (s1 : Int32) : J (PM D dA false) Y_X0_run [(0, .ref x0)] [.int s1, .ref s0] 162 (X0_run_b162 x0 s0 s1) (FLoop (FRet injI) 31 (fun (t : Int32) => [(0, .ref x0), (1, .int t)])) := by
  unfold X0_run_b162
  refine J_callVI (c := 0) (as := [.int s1]) dX0_run_162 (by decide) rfl (Nat.le_of_ble_eq_true rfl) (cw_X0_behindEnds _ (by decide)) q1450 q1452 qs63 q1453 np_X0_behindEnds (i_X0_behindEnds s0 s1) jad_id rfl (fun v17 => ?_)
  refine J_istore_n (env' := [(1, .int v17), (0, .ref x0)]) dX0_run_165 rfl (by decide) rfl ?_
  refine J_goto (tgt := 31) dX0_run_166 rfl ?_
  exact J_cont [1, 0] rfl
noncomputable def X0_run_b159 (x0 : Nat) (x1 : Int32) (s0 : Nat) : JM Mem (Int32 ⊕ (Int32)) :=
  X0_run_b162 x0 s0 (x1 + 1)
theorem j_X0_run_b159 (D : va_G) (dA : Nat → ClassId) (x0 : Nat) (x1 : Int32) (s0 : Nat) : J (PM D dA false) Y_X0_run [(0, .ref x0), (1, .int x1)] [.ref s0] 159 (X0_run_b159 x0 x1 s0) (FLoop (FRet injI) 31 (fun (t : Int32) => [(0, .ref x0), (1, .int t)])) := by
  unfold X0_run_b159
  refine J_iload_n dX0_run_159 rfl 1 rfl ?_
  refine J_iconst (v := 1) dX0_run_160 (by decide) ?_
  refine J_iadd dX0_run_161 ?_
  refine J_sub [0] rfl ?_
  exact j_X0_run_b162 D dA x0 s0 (x1 + 1)
noncomputable def X0_run_b132 (x0 : Nat) (x1 : Int32) (x2 : Nat) : JM Mem (Int32 ⊕ (Int32)) :=
  jb (jgetI 8 0 x2) fun v16 =>
  if v16 = 12 then
    jb (jcall 0 x0 (f_X0_holds x0 x2)) fun v18 =>
    if v18 = 0 then
      jb (jgetI 8 6 x2) fun v19 =>
      X0_run_b162 x0 x0 (v19 + 1)
    else
      X0_run_b159 x0 x1 x0
  else
    X0_run_b159 x0 x1 x0
theorem j_X0_run_b132 (D : va_G) (dA : Nat → ClassId) (x0 : Nat) (x1 : Int32) (x2 : Nat) : J (PM D dA false) Y_X0_run [(0, .ref x0), (1, .int x1), (2, .ref x2)] [] 132 (X0_run_b132 x0 x1 x2) (FLoop (FRet injI) 31 (fun (t : Int32) => [(0, .ref x0), (1, .int t)])) := by
  unfold X0_run_b132
  refine J_aload_n dX0_run_132 rfl 0 rfl ?_
  refine J_aload_n dX0_run_133 rfl 2 rfl ?_
  refine J_getI dX0_run_134 fl_X0_537 rfl (fun v16 => ?_)
  refine J_bipush (v := 12) dX0_run_137 (by decide) ?_
  refine J_icmp_ne (tgt := 159) dX0_run_139 rfl ?_ ?_
  · refine J_sub [0, 1] rfl ?_
    exact j_X0_run_b159 D dA x0 x1 x0
  refine J_aload_n dX0_run_142 rfl 0 rfl ?_
  refine J_aload_n dX0_run_143 rfl 2 rfl ?_
  refine J_callVI (c := 0) (as := [.ref x2]) dX0_run_144 (by decide) rfl (Nat.le_of_ble_eq_true rfl) (cw_X0_holds _ (by decide)) q1442 q1444 qs61 q1445 np_X0_holds (i_X0_holds x0 x2) jad_id rfl (fun v18 => ?_)
  refine J_if_ne (tgt := 159) dX0_run_147 rfl ?_ ?_
  · refine J_sub [0, 1] rfl ?_
    exact j_X0_run_b159 D dA x0 x1 x0
  refine J_aload_n dX0_run_150 rfl 2 rfl ?_
  refine J_getI dX0_run_151 fl_X0_540 rfl (fun v19 => ?_)
  refine J_iconst (v := 1) dX0_run_154 (by decide) ?_
  refine J_iadd dX0_run_155 ?_
  refine J_goto (tgt := 162) dX0_run_156 rfl ?_
  refine J_sub [0] rfl ?_
  exact j_X0_run_b162 D dA x0 x0 (v19 + 1)
noncomputable def X0_run_b111 (x0 : Nat) (x1 : Int32) (x2 : Nat) (s0 : Nat) (s1 : Int32) (s2 : Int32) : JM Mem (Int32 ⊕ (Int32)) :=
  jb (jputI 0 40 s0 (s1 + s2)) fun _ =>
  jb (jgetI 8 0 x2) fun v15 =>
  if v15 = 13 then
    jb (jgetI 8 3 x2) fun v20 =>
    jb (jputI 8 7 x2 v20) fun _ =>
    X0_run_b132 x0 x1 x2
  else
    X0_run_b132 x0 x1 x2
theorem j_X0_run_b111 (D : va_G) (dA : Nat → ClassId) (x0 : Nat) (x1 : Int32) (x2 : Nat) (s0 : Nat) (s1 : Int32) (s2 : Int32) : J (PM D dA false) Y_X0_run [(0, .ref x0), (1, .int x1), (2, .ref x2)] [.int s2, .int s1, .ref s0] 111 (X0_run_b111 x0 x1 x2 s0 s1 s2) (FLoop (FRet injI) 31 (fun (t : Int32) => [(0, .ref x0), (1, .int t)])) := by
  unfold X0_run_b111
  refine J_iadd dX0_run_111 ?_
  refine J_putI dX0_run_112 ⟨fl_X0_546, Or.inl rfl⟩ rfl ?_
  refine J_aload_n dX0_run_115 rfl 2 rfl ?_
  refine J_getI dX0_run_116 fl_X0_537 rfl (fun v15 => ?_)
  refine J_bipush (v := 13) dX0_run_119 (by decide) ?_
  refine J_icmp_ne (tgt := 132) dX0_run_121 rfl ?_ ?_
  · refine J_sub [0, 1, 2] rfl ?_
    exact j_X0_run_b132 D dA x0 x1 x2
  refine J_aload_n dX0_run_124 rfl 2 rfl ?_
  refine J_aload_n dX0_run_125 rfl 2 rfl ?_
  refine J_getI dX0_run_126 fl_X0_526 rfl (fun v20 => ?_)
  refine J_putI dX0_run_129 ⟨fl_X0_543, Or.inl rfl⟩ rfl ?_
  refine J_sub [0, 1, 2] rfl ?_
  exact j_X0_run_b132 D dA x0 x1 x2
noncomputable def X0_run_L31 (x0 : Nat) (x1 : Int32) : JM Mem (Int32 ⊕ (Int32)) :=
  jb (jgetI 0 7 x0) fun v2 =>
  if v2 ≤ x1 then
    jinl (X0_run_b169 x0)
  else
  jb (jgetI 0 42 x0) fun v7 =>
  if v7 = 0 then
    jb (jgetI 0 41 x0) fun v8 =>
    if v8 = 300 then
      jb (jputI 0 42 x0 1) fun _ =>
      jcont x1
    else
    jb (jgetA 0 6 x0) fun v9 =>
    jb (jaldA 11 v9 x1) fun v10 =>
    jb (jgetI 0 41 x0) fun v11 =>
    jb (jputI 0 41 x0 (v11 + 1)) fun _ =>
    jb (jgetI 8 0 v10) fun v12 =>
    if v12 = 14 then
      jinl (X0_run_b169 x0)
    else
    jb (jgetI 0 40 x0) fun v13 =>
    jb (jcall 0 x0 (f_X0_does x0 v10)) fun v14 =>
    if v14 = 0 then
      X0_run_b111 x0 x1 v10 x0 v13 1
    else
      X0_run_b111 x0 x1 v10 x0 v13 0
  else
    jinl (X0_run_b169 x0)
theorem j_X0_run_L31 (D : va_G) (dA : Nat → ClassId) (x0 : Nat) (x1 : Int32) : J (PM D dA false) Y_X0_run [(0, .ref x0), (1, .int x1)] [] 31 (X0_run_L31 x0 x1) (FLoop (FRet injI) 31 (fun (t : Int32) => [(0, .ref x0), (1, .int t)])) := by
  unfold X0_run_L31
  refine J_iload_n dX0_run_31 rfl 1 rfl ?_
  refine J_aload_n dX0_run_32 rfl 0 rfl ?_
  refine J_getI dX0_run_33 fl_X0_249 rfl (fun v2 => ?_)
  refine J_icmp_ge (tgt := 169) dX0_run_36 rfl ?_ ?_
  · refine J_inl ?_
    refine J_sub [0] rfl ?_
    exact j_X0_run_b169 D dA x0
  refine J_aload_n dX0_run_39 rfl 0 rfl ?_
  refine J_getI dX0_run_40 fl_X0_552 rfl (fun v7 => ?_)
  refine J_if_ne (tgt := 169) dX0_run_43 rfl ?_ ?_
  · refine J_inl ?_
    refine J_sub [0] rfl ?_
    exact j_X0_run_b169 D dA x0
  refine J_aload_n dX0_run_46 rfl 0 rfl ?_
  refine J_getI dX0_run_47 fl_X0_549 rfl (fun v8 => ?_)
  refine J_sipush (v := 300) dX0_run_50 (by decide) ?_
  refine J_icmp_ne (tgt := 64) dX0_run_53 rfl ?_ ?_
  · refine J_aload_n dX0_run_64 rfl 0 rfl ?_
    refine J_getA dX0_run_65 fl_X0_242 rfl (fun v9 => ?_)
    refine J_iload_n dX0_run_68 rfl 1 rfl ?_
    refine J_aald dX0_run_69 rfl (by decide) (fun v10 => ?_)
    refine J_astore_n (env' := [(2, .ref v10), (0, .ref x0), (1, .int x1)]) dX0_run_70 rfl (by decide) rfl ?_
    refine J_aload_n dX0_run_71 rfl 1 rfl ?_
    refine J_dup dX0_run_72 rfl ?_
    refine J_getI dX0_run_73 fl_X0_549 rfl (fun v11 => ?_)
    refine J_iconst (v := 1) dX0_run_76 (by decide) ?_
    refine J_iadd dX0_run_77 ?_
    refine J_putI dX0_run_78 ⟨fl_X0_549, Or.inl rfl⟩ rfl ?_
    refine J_aload_n dX0_run_81 rfl 0 rfl ?_
    refine J_getI dX0_run_82 fl_X0_537 rfl (fun v12 => ?_)
    refine J_bipush (v := 14) dX0_run_85 (by decide) ?_
    refine J_icmp_ne (tgt := 93) dX0_run_87 rfl ?_ ?_
    · refine J_aload_n dX0_run_93 rfl 1 rfl ?_
      refine J_dup dX0_run_94 rfl ?_
      refine J_getI dX0_run_95 fl_X0_546 rfl (fun v13 => ?_)
      refine J_aload_n dX0_run_98 rfl 1 rfl ?_
      refine J_aload_n dX0_run_99 rfl 0 rfl ?_
      refine J_callVI (c := 0) (as := [.ref v10]) dX0_run_100 (by decide) rfl (Nat.le_of_ble_eq_true rfl) (cw_X0_does _ (by decide)) q1438 q1440 qs60 q1441 np_X0_does (i_X0_does x0 v10) jad_id rfl (fun v14 => ?_)
      refine J_if_eq (tgt := 110) dX0_run_103 rfl ?_ ?_
      · refine J_iconst (v := 1) dX0_run_110 (by decide) ?_
        refine J_sub [1, 2, 0] rfl ?_
        exact j_X0_run_b111 D dA x0 x1 v10 x0 v13 1
      refine J_iconst (v := 0) dX0_run_106 (by decide) ?_
      refine J_goto (tgt := 111) dX0_run_107 rfl ?_
      refine J_sub [1, 2, 0] rfl ?_
      exact j_X0_run_b111 D dA x0 x1 v10 x0 v13 0
    refine J_inl ?_
    refine J_goto (tgt := 169) dX0_run_90 rfl ?_
    refine J_sub [1] rfl ?_
    exact j_X0_run_b169 D dA x0
  refine J_aload_n dX0_run_56 rfl 0 rfl ?_
  refine J_iconst (v := 1) dX0_run_57 (by decide) ?_
  refine J_putI dX0_run_58 ⟨fl_X0_552, Or.inl rfl⟩ rfl ?_
  refine J_goto (tgt := 31) dX0_run_61 rfl ?_
  exact J_cont [0, 1] rfl
noncomputable def f_X0_run (x0 : Nat) : JM Mem Int32 :=
  jb (jgetO 0 6 x0) fun v1 =>
  if v1 = none then
    jb (jcall 0 x0 (f_X0_none x0 8)) fun v21 =>
    jp v21
  else
  jb (jputI 0 40 x0 0) fun _ =>
  jb (jputI 0 41 x0 0) fun _ =>
  jb (jputI 0 42 x0 0) fun _ =>
  jloop (fun (t : Int32) => X0_run_L31 x0 t) 0
theorem j_X0_run (D : va_G) (dA : Nat → ClassId) (x0 : Nat) : J (PM D dA false) Y_X0_run [(0, .ref x0)] [] 0 (f_X0_run x0) (FRet injI) := by
  unfold f_X0_run
  refine J_aload_n dX0_run_0 rfl 0 rfl ?_
  refine J_getO dX0_run_1 fl_X0_242 rfl (fun v1 => ?_)
  refine J_ifnonnull (x := v1) (tgt := 14) dX0_run_4 rfl ?_ ?_
  · refine J_aload_n dX0_run_14 rfl 0 rfl ?_
    refine J_iconst (v := 0) dX0_run_15 (by decide) ?_
    refine J_putI dX0_run_16 ⟨fl_X0_546, Or.inl rfl⟩ rfl ?_
    refine J_aload_n dX0_run_19 rfl 0 rfl ?_
    refine J_iconst (v := 0) dX0_run_20 (by decide) ?_
    refine J_putI dX0_run_21 ⟨fl_X0_549, Or.inl rfl⟩ rfl ?_
    refine J_aload_n dX0_run_24 rfl 0 rfl ?_
    refine J_iconst (v := 0) dX0_run_25 (by decide) ?_
    refine J_putI dX0_run_26 ⟨fl_X0_552, Or.inl rfl⟩ rfl ?_
    refine J_iconst (v := 0) dX0_run_29 (by decide) ?_
    refine J_istore_n (env' := [(1, .int 0), (0, .ref x0)]) dX0_run_30 rfl (by decide) rfl ?_
    refine J_loop (he := fun (t : Int32) => [(0, .ref x0), (1, .int t)]) [1, 0] rfl (fun t => ?_)
    exact j_X0_run_L31 D dA x0 t
  refine J_aload_n dX0_run_7 rfl 0 rfl ?_
  refine J_bipush (v := 8) dX0_run_8 (by decide) ?_
  refine J_callVI (c := 0) (as := [.int 8]) dX0_run_10 (by decide) rfl (Nat.le_of_ble_eq_true rfl) (cw_X0_none _ (by decide)) q729 q731 qs3 q732 np_X0_none (i_X0_none x0 8) jad_id rfl (fun v21 => ?_)
  exact J_ireturn dX0_run_13 rfl
theorem i_X0_run (x0 : Nat) : Impl (ws_ yX0_run cX0_run 3 (some .int)) yX0_run 16 false 0 0 [.ref x0] (f_X0_run x0) injI := impl_of (plainFor_of_name (by decide)) (Nat.le_of_ble_eq_true rfl) (fun D dA => j_X0_run D dA x0)
theorem cw_X0_run (Y : JY) (h : 17 ≤ Y.2.2.2.1) : JCw Y (ws_ yX0_run cX0_run 3 (some .int)) yX0_run cX0_run 3 (some .int) 16 := ⟨h, by decide, lw_meth q1437, q187, by decide, by decide⟩
theorem np_X0_run : JNp yX0_run.desc 0 := by decide +kernel
-- BracketRoom.ran(I)I
abbrev Y_X0_ran : JY := (cX0_ran, yX0_ran.cls, 2, 2, yX0_ran.name, (some .int), [])
noncomputable def X0_ran_b9 (x0 : Nat) : JM Mem Int32 :=
  jb (jcall 0 x0 (f_X0_none x0 5)) fun v1 =>
  jp v1
theorem j_X0_ran_b9 (D : va_G) (dA : Nat → ClassId) (x0 : Nat) : J (PM D dA false) Y_X0_ran [(0, .ref x0)] [] 9 (X0_ran_b9 x0) (FRet injI) := by
  unfold X0_ran_b9
  refine J_aload_n dX0_ran_9 rfl 0 rfl ?_
  refine J_iconst (v := 5) dX0_ran_10 (by decide) ?_
  refine J_callVI (c := 0) (as := [.int 5]) dX0_ran_11 (by decide) rfl (Nat.le_of_ble_eq_true rfl) (cw_X0_none _ (by decide)) q729 q731 qs3 q732 np_X0_none (i_X0_none x0 5) jad_id rfl (fun v1 => ?_)
  exact J_ireturn dX0_ran_14 rfl
noncomputable def X0_ran_b38 (s0 : Nat) (s1 : Int32) : JM Mem Int32 :=
  jb (jcall 0 s0 (f_X0_gives s0 s1)) fun v5 =>
  jp v5
theorem j_X0_ran_b38 (D : va_G) (dA : Nat → ClassId) (s0 : Nat) (s1 : Int32) : J (PM D dA false) Y_X0_ran [] [.int s1, .ref s0] 38 (X0_ran_b38 s0 s1) (FRet injI) := by
  unfold X0_ran_b38
  refine J_callVI (c := 0) (as := [.int s1]) dX0_ran_38 (by decide) rfl (Nat.le_of_ble_eq_true rfl) (cw_X0_gives _ (by decide)) q944 q946 qs9 q947 np_X0_gives (i_X0_gives s0 s1) jad_id rfl (fun v5 => ?_)
  refine J_goto (tgt := 50) dX0_ran_41 rfl ?_
  exact J_ireturn dX0_ran_50 rfl
noncomputable def f_X0_ran (x0 : Nat) (x1 : Int32) : JM Mem Int32 :=
  if x1 < 0 then
    X0_ran_b9 x0
  else
  if x1 ≤ 1 then
    jb (jgetI 0 43 x0) fun v2 =>
    if v2 = 0 then
      jb (jcall 0 x0 (f_X0_none x0 8)) fun v3 =>
      jp v3
    else
    if x1 = 0 then
      jb (jgetI 0 44 x0) fun v6 =>
      X0_ran_b38 x0 v6
    else
    jb (jgetI 0 45 x0) fun v4 =>
    X0_ran_b38 x0 v4
  else
    X0_ran_b9 x0
theorem j_X0_ran (D : va_G) (dA : Nat → ClassId) (x0 : Nat) (x1 : Int32) : J (PM D dA false) Y_X0_ran [(0, .ref x0), (1, .int x1)] [] 0 (f_X0_ran x0 x1) (FRet injI) := by
  unfold f_X0_ran
  refine J_iload_n dX0_ran_0 rfl 1 rfl ?_
  refine J_if_lt (tgt := 9) dX0_ran_1 rfl ?_ ?_
  · refine J_sub [0] rfl ?_
    exact j_X0_ran_b9 D dA x0
  refine J_iload_n dX0_ran_4 rfl 1 rfl ?_
  refine J_iconst (v := 1) dX0_ran_5 (by decide) ?_
  refine J_icmp_le (tgt := 15) dX0_ran_6 rfl ?_ ?_
  · refine J_aload_n dX0_ran_15 rfl 0 rfl ?_
    refine J_getI dX0_ran_16 fl_X0_570 rfl (fun v2 => ?_)
    refine J_if_eq (tgt := 44) dX0_ran_19 rfl ?_ ?_
    · refine J_aload_n dX0_ran_44 rfl 0 rfl ?_
      refine J_bipush (v := 8) dX0_ran_45 (by decide) ?_
      refine J_callVI (c := 0) (as := [.int 8]) dX0_ran_47 (by decide) rfl (Nat.le_of_ble_eq_true rfl) (cw_X0_none _ (by decide)) q729 q731 qs3 q732 np_X0_none (i_X0_none x0 8) jad_id rfl (fun v3 => ?_)
      exact J_ireturn dX0_ran_50 rfl
    refine J_aload_n dX0_ran_22 rfl 0 rfl ?_
    refine J_iload_n dX0_ran_23 rfl 1 rfl ?_
    refine J_if_ne (tgt := 34) dX0_ran_24 rfl ?_ ?_
    · refine J_aload_n dX0_ran_34 rfl 0 rfl ?_
      refine J_getI dX0_ran_35 fl_X0_567 rfl (fun v4 => ?_)
      refine J_sub [] rfl ?_
      exact j_X0_ran_b38 D dA x0 v4
    refine J_aload_n dX0_ran_27 rfl 0 rfl ?_
    refine J_getI dX0_ran_28 fl_X0_564 rfl (fun v6 => ?_)
    refine J_goto (tgt := 38) dX0_ran_31 rfl ?_
    refine J_sub [] rfl ?_
    exact j_X0_ran_b38 D dA x0 v6
  refine J_sub [0] rfl ?_
  exact j_X0_ran_b9 D dA x0
theorem i_X0_ran (x0 : Nat) (x1 : Int32) : Impl (ws_ yX0_ran cX0_ran 2 (some .int)) yX0_ran 2 false 0 0 [.ref x0, .int x1] (f_X0_ran x0 x1) injI := impl_of (plainFor_of_name (by decide)) (Nat.le_of_ble_eq_true rfl) (fun D dA => j_X0_ran D dA x0 x1)
theorem cw_X0_ran (Y : JY) (h : 3 ≤ Y.2.2.2.1) : JCw Y (ws_ yX0_ran cX0_ran 2 (some .int)) yX0_ran cX0_ran 2 (some .int) 2 := ⟨h, by decide, lw_meth q1457, q187, by decide, by decide⟩
theorem np_X0_ran : JNp yX0_ran.desc 1 := by decide +kernel
-- BracketRoom.mark()I
abbrev Y_X0_mark : JY := (cX0_mark, yX0_mark.cls, 3, 2, yX0_mark.name, (some .int), [])
noncomputable def X0_mark_b64 (x0 : Nat) (x1 : Nat) : JM Mem Int32 :=
  jb (jgetA 0 5 x0) fun v7 =>
  jb (jgetA 6 2 x1) fun v8 =>
  jb (jcopy 4 v7 0 v8 0 4) fun _ =>
  jb (jgetO 0 6 x0) fun v9 =>
  jb (jputO 6 3 x1 v9) fun _ =>
  jb (jgetI 0 7 x0) fun v10 =>
  jb (jputI 6 4 x1 v10) fun _ =>
  jb (jgetI 0 47 x0) fun v11 =>
  jb (jputI 0 47 x0 (v11 + 1)) fun _ =>
  jb (jgetI 0 47 x0) fun v12 =>
  jb (jcall 0 x0 (f_X0_gives x0 v12)) fun v13 =>
  jp v13
theorem j_X0_mark_b64 (D : va_G) (dA : Nat → ClassId) (x0 : Nat) (x1 : Nat) : J (PM D dA false) Y_X0_mark [(0, .ref x0), (1, .ref x1)] [] 64 (X0_mark_b64 x0 x1) (FRet injI) := by
  unfold X0_mark_b64
  refine J_aload_n dX0_mark_64 rfl 0 rfl ?_
  refine J_getA dX0_mark_65 fl_X0_41 rfl (fun v7 => ?_)
  refine J_iconst (v := 0) dX0_mark_68 (by decide) ?_
  refine J_aload_n dX0_mark_69 rfl 1 rfl ?_
  refine J_getA dX0_mark_70 fl_X0_578 rfl (fun v8 => ?_)
  refine J_iconst (v := 0) dX0_mark_73 (by decide) ?_
  refine J_iconst (v := 4) dX0_mark_74 (by decide) ?_
  refine J_copy (t := 4) dX0_mark_75 (by decide) (Nat.le_of_ble_eq_true rfl) (by decide) q743 q745 q744 q204 ?_
  refine J_aload_n dX0_mark_78 rfl 1 rfl ?_
  refine J_aload_n dX0_mark_79 rfl 0 rfl ?_
  refine J_getO dX0_mark_80 fl_X0_242 rfl (fun v9 => ?_)
  refine J_putO (x := v9) dX0_mark_83 ⟨fl_X0_579, Or.inl rfl⟩ rfl ?_
  refine J_aload_n dX0_mark_86 rfl 1 rfl ?_
  refine J_aload_n dX0_mark_87 rfl 0 rfl ?_
  refine J_getI dX0_mark_88 fl_X0_249 rfl (fun v10 => ?_)
  refine J_putI dX0_mark_91 ⟨fl_X0_580, Or.inl rfl⟩ rfl ?_
  refine J_aload_n dX0_mark_94 rfl 0 rfl ?_
  refine J_dup dX0_mark_95 rfl ?_
  refine J_getI dX0_mark_96 fl_X0_573 rfl (fun v11 => ?_)
  refine J_iconst (v := 1) dX0_mark_99 (by decide) ?_
  refine J_iadd dX0_mark_100 ?_
  refine J_putI dX0_mark_101 ⟨fl_X0_573, Or.inl rfl⟩ rfl ?_
  refine J_aload_n dX0_mark_104 rfl 0 rfl ?_
  refine J_aload_n dX0_mark_105 rfl 0 rfl ?_
  refine J_getI dX0_mark_106 fl_X0_573 rfl (fun v12 => ?_)
  refine J_callVI (c := 0) (as := [.int v12]) dX0_mark_109 (by decide) rfl (Nat.le_of_ble_eq_true rfl) (cw_X0_gives _ (by decide)) q944 q946 qs9 q947 np_X0_gives (i_X0_gives x0 v12) jad_id rfl (fun v13 => ?_)
  exact J_ireturn dX0_mark_112 rfl
noncomputable def X0_mark_L38 (x0 : Nat) (x1 : Nat) (x2 : Int32) : JM Mem (Int32 ⊕ (Int32)) :=
  if 4 ≤ x2 then
    jinl (X0_mark_b64 x0 x1)
  else
  jb (jgetA 6 1 x1) fun v14 =>
  jb (jaldA 7 v14 x2) fun v15 =>
  jb (jgetA 0 4 x0) fun v16 =>
  jb (jaldA 7 v16 x2) fun v17 =>
  jb (jcall 3 v15 (f_X4_copy v15 v17)) fun _ =>
  jcont (x2 + 1)
theorem j_X0_mark_L38 (D : va_G) (dA : Nat → ClassId) (x0 : Nat) (x1 : Nat) (x2 : Int32) : J (PM D dA false) Y_X0_mark [(0, .ref x0), (1, .ref x1), (2, .int x2)] [] 38 (X0_mark_L38 x0 x1 x2) (FLoop (FRet injI) 38 (fun (t : Int32) => [(0, .ref x0), (1, .ref x1), (2, .int t)])) := by
  unfold X0_mark_L38
  refine J_iload_n dX0_mark_38 rfl 2 rfl ?_
  refine J_iconst (v := 4) dX0_mark_39 (by decide) ?_
  refine J_icmp_ge (tgt := 64) dX0_mark_40 rfl ?_ ?_
  · refine J_inl ?_
    refine J_sub [0, 1] rfl ?_
    exact j_X0_mark_b64 D dA x0 x1
  refine J_aload_n dX0_mark_43 rfl 1 rfl ?_
  refine J_getA dX0_mark_44 fl_X0_577 rfl (fun v14 => ?_)
  refine J_iload_n dX0_mark_47 rfl 2 rfl ?_
  refine J_aald dX0_mark_48 rfl (by decide) (fun v15 => ?_)
  refine J_aload_n dX0_mark_49 rfl 0 rfl ?_
  refine J_getA dX0_mark_50 fl_X0_37 rfl (fun v16 => ?_)
  refine J_iload_n dX0_mark_53 rfl 2 rfl ?_
  refine J_aald dX0_mark_54 rfl (by decide) (fun v17 => ?_)
  refine J_callVV (c := 3) (as := [.ref v17]) dX0_mark_55 (by decide) rfl (Nat.le_of_ble_eq_true rfl) (cw_X4_copy _ (by decide)) q939 q940 q941 q942 np_X4_copy (i_X4_copy v15 v17) jad_id rfl ?_
  refine J_iinc (v := x2 + 1) (env' := [(2, .int (x2 + 1)), (0, .ref x0), (1, .ref x1)]) dX0_mark_58 2 rfl rfl (by decide) rfl ?_
  refine J_goto (tgt := 38) dX0_mark_61 rfl ?_
  exact J_cont [1, 2, 0] rfl
noncomputable def f_X0_mark (x0 : Nat) : JM Mem Int32 :=
  jb (jgetI 0 47 x0) fun v1 =>
  if v1 = 3 then
    jb (jcall 0 x0 (f_X0_none x0 7)) fun v18 =>
    jp v18
  else
  jb (jgetA 0 46 x0) fun v2 =>
  jb (jgetI 0 47 x0) fun v3 =>
  jb (jaldA 10 v2 v3) fun v4 =>
  jb (jgetA 6 0 v4) fun v5 =>
  jb (jgetA 0 2 x0) fun v6 =>
  jb (jcall 3 v5 (f_X4_copy v5 v6)) fun _ =>
  jloop (fun (t : Int32) => X0_mark_L38 x0 v4 t) 0
theorem j_X0_mark (D : va_G) (dA : Nat → ClassId) (x0 : Nat) : J (PM D dA false) Y_X0_mark [(0, .ref x0)] [] 0 (f_X0_mark x0) (FRet injI) := by
  unfold f_X0_mark
  refine J_aload_n dX0_mark_0 rfl 0 rfl ?_
  refine J_getI dX0_mark_1 fl_X0_573 rfl (fun v1 => ?_)
  refine J_iconst (v := 3) dX0_mark_4 (by decide) ?_
  refine J_icmp_ne (tgt := 15) dX0_mark_5 rfl ?_ ?_
  · refine J_aload_n dX0_mark_15 rfl 0 rfl ?_
    refine J_getA dX0_mark_16 fl_X0_138 rfl (fun v2 => ?_)
    refine J_aload_n dX0_mark_19 rfl 0 rfl ?_
    refine J_getI dX0_mark_20 fl_X0_573 rfl (fun v3 => ?_)
    refine J_aald dX0_mark_23 rfl (by decide) (fun v4 => ?_)
    refine J_astore_n (env' := [(1, .ref v4), (0, .ref x0)]) dX0_mark_24 rfl (by decide) rfl ?_
    refine J_aload_n dX0_mark_25 rfl 0 rfl ?_
    refine J_getA dX0_mark_26 fl_X0_576 rfl (fun v5 => ?_)
    refine J_aload_n dX0_mark_29 rfl 1 rfl ?_
    refine J_getA dX0_mark_30 fl_X0_30 rfl (fun v6 => ?_)
    refine J_callVV (c := 3) (as := [.ref v6]) dX0_mark_33 (by decide) rfl (Nat.le_of_ble_eq_true rfl) (cw_X4_copy _ (by decide)) q939 q940 q941 q942 np_X4_copy (i_X4_copy v5 v6) jad_id rfl ?_
    refine J_iconst (v := 0) dX0_mark_36 (by decide) ?_
    refine J_istore_n (env' := [(2, .int 0), (1, .ref v4), (0, .ref x0)]) dX0_mark_37 rfl (by decide) rfl ?_
    refine J_loop (he := fun (t : Int32) => [(0, .ref x0), (1, .ref v4), (2, .int t)]) [2, 1, 0] rfl (fun t => ?_)
    exact j_X0_mark_L38 D dA x0 v4 t
  refine J_aload_n dX0_mark_8 rfl 0 rfl ?_
  refine J_bipush (v := 7) dX0_mark_9 (by decide) ?_
  refine J_callVI (c := 0) (as := [.int 7]) dX0_mark_11 (by decide) rfl (Nat.le_of_ble_eq_true rfl) (cw_X0_none _ (by decide)) q729 q731 qs3 q732 np_X0_none (i_X0_none x0 7) jad_id rfl (fun v18 => ?_)
  exact J_ireturn dX0_mark_14 rfl
theorem i_X0_mark (x0 : Nat) : Impl (ws_ yX0_mark cX0_mark 3 (some .int)) yX0_mark 2 false 0 0 [.ref x0] (f_X0_mark x0) injI := impl_of (plainFor_of_name (by decide)) (Nat.le_of_ble_eq_true rfl) (fun D dA => j_X0_mark D dA x0)
theorem cw_X0_mark (Y : JY) (h : 3 ≤ Y.2.2.2.1) : JCw Y (ws_ yX0_mark cX0_mark 3 (some .int)) yX0_mark cX0_mark 3 (some .int) 2 := ⟨h, by decide, lw_meth q1461, q187, by decide, by decide⟩
theorem np_X0_mark : JNp yX0_mark.desc 0 := by decide +kernel
-- BracketRoom.back()I
abbrev Y_X0_back : JY := (cX0_back, yX0_back.cls, 3, 2, yX0_back.name, (some .int), [])
noncomputable def X0_back_b73 (x0 : Nat) (x1 : Nat) : JM Mem Int32 :=
  jb (jgetA 6 2 x1) fun v8 =>
  jb (jgetA 0 5 x0) fun v9 =>
  jb (jcopy 4 v8 0 v9 0 4) fun _ =>
  jb (jgetO 6 3 x1) fun v10 =>
  jb (jputO 0 6 x0 v10) fun _ =>
  jb (jgetI 6 4 x1) fun v11 =>
  jb (jputI 0 7 x0 v11) fun _ =>
  jb (jgetI 0 47 x0) fun v12 =>
  jb (jcall 0 x0 (f_X0_gives x0 v12)) fun v13 =>
  jp v13
theorem j_X0_back_b73 (D : va_G) (dA : Nat → ClassId) (x0 : Nat) (x1 : Nat) : J (PM D dA false) Y_X0_back [(0, .ref x0), (1, .ref x1)] [] 73 (X0_back_b73 x0 x1) (FRet injI) := by
  unfold X0_back_b73
  refine J_aload_n dX0_back_73 rfl 1 rfl ?_
  refine J_getA dX0_back_74 fl_X0_578 rfl (fun v8 => ?_)
  refine J_iconst (v := 0) dX0_back_77 (by decide) ?_
  refine J_aload_n dX0_back_78 rfl 0 rfl ?_
  refine J_getA dX0_back_79 fl_X0_41 rfl (fun v9 => ?_)
  refine J_iconst (v := 0) dX0_back_82 (by decide) ?_
  refine J_iconst (v := 4) dX0_back_83 (by decide) ?_
  refine J_copy (t := 4) dX0_back_84 (by decide) (Nat.le_of_ble_eq_true rfl) (by decide) q743 q745 q744 q204 ?_
  refine J_aload_n dX0_back_87 rfl 0 rfl ?_
  refine J_aload_n dX0_back_88 rfl 1 rfl ?_
  refine J_getO dX0_back_89 fl_X0_579 rfl (fun v10 => ?_)
  refine J_putO (x := v10) dX0_back_92 ⟨fl_X0_242, Or.inl rfl⟩ rfl ?_
  refine J_aload_n dX0_back_95 rfl 0 rfl ?_
  refine J_aload_n dX0_back_96 rfl 1 rfl ?_
  refine J_getI dX0_back_97 fl_X0_580 rfl (fun v11 => ?_)
  refine J_putI dX0_back_100 ⟨fl_X0_249, Or.inl rfl⟩ rfl ?_
  refine J_aload_n dX0_back_103 rfl 0 rfl ?_
  refine J_aload_n dX0_back_104 rfl 0 rfl ?_
  refine J_getI dX0_back_105 fl_X0_573 rfl (fun v12 => ?_)
  refine J_callVI (c := 0) (as := [.int v12]) dX0_back_108 (by decide) rfl (Nat.le_of_ble_eq_true rfl) (cw_X0_gives _ (by decide)) q944 q946 qs9 q947 np_X0_gives (i_X0_gives x0 v12) jad_id rfl (fun v13 => ?_)
  exact J_ireturn dX0_back_111 rfl
noncomputable def X0_back_L47 (x0 : Nat) (x1 : Nat) (x2 : Int32) : JM Mem (Int32 ⊕ (Int32)) :=
  if 4 ≤ x2 then
    jinl (X0_back_b73 x0 x1)
  else
  jb (jgetA 0 4 x0) fun v14 =>
  jb (jaldA 7 v14 x2) fun v15 =>
  jb (jgetA 6 1 x1) fun v16 =>
  jb (jaldA 7 v16 x2) fun v17 =>
  jb (jcall 3 v15 (f_X4_copy v15 v17)) fun _ =>
  jcont (x2 + 1)
theorem j_X0_back_L47 (D : va_G) (dA : Nat → ClassId) (x0 : Nat) (x1 : Nat) (x2 : Int32) : J (PM D dA false) Y_X0_back [(0, .ref x0), (1, .ref x1), (2, .int x2)] [] 47 (X0_back_L47 x0 x1 x2) (FLoop (FRet injI) 47 (fun (t : Int32) => [(0, .ref x0), (1, .ref x1), (2, .int t)])) := by
  unfold X0_back_L47
  refine J_iload_n dX0_back_47 rfl 2 rfl ?_
  refine J_iconst (v := 4) dX0_back_48 (by decide) ?_
  refine J_icmp_ge (tgt := 73) dX0_back_49 rfl ?_ ?_
  · refine J_inl ?_
    refine J_sub [0, 1] rfl ?_
    exact j_X0_back_b73 D dA x0 x1
  refine J_aload_n dX0_back_52 rfl 0 rfl ?_
  refine J_getA dX0_back_53 fl_X0_37 rfl (fun v14 => ?_)
  refine J_iload_n dX0_back_56 rfl 2 rfl ?_
  refine J_aald dX0_back_57 rfl (by decide) (fun v15 => ?_)
  refine J_aload_n dX0_back_58 rfl 1 rfl ?_
  refine J_getA dX0_back_59 fl_X0_577 rfl (fun v16 => ?_)
  refine J_iload_n dX0_back_62 rfl 2 rfl ?_
  refine J_aald dX0_back_63 rfl (by decide) (fun v17 => ?_)
  refine J_callVV (c := 3) (as := [.ref v17]) dX0_back_64 (by decide) rfl (Nat.le_of_ble_eq_true rfl) (cw_X4_copy _ (by decide)) q939 q940 q941 q942 np_X4_copy (i_X4_copy v15 v17) jad_id rfl ?_
  refine J_iinc (v := x2 + 1) (env' := [(2, .int (x2 + 1)), (0, .ref x0), (1, .ref x1)]) dX0_back_67 2 rfl rfl (by decide) rfl ?_
  refine J_goto (tgt := 47) dX0_back_70 rfl ?_
  exact J_cont [1, 2, 0] rfl
noncomputable def f_X0_back (x0 : Nat) : JM Mem Int32 :=
  jb (jgetI 0 47 x0) fun v1 =>
  if v1 = 0 then
    jb (jcall 0 x0 (f_X0_none x0 8)) fun v18 =>
    jp v18
  else
  jb (jgetI 0 47 x0) fun v2 =>
  jb (jputI 0 47 x0 (v2 - 1)) fun _ =>
  jb (jgetA 0 46 x0) fun v3 =>
  jb (jgetI 0 47 x0) fun v4 =>
  jb (jaldA 10 v3 v4) fun v5 =>
  jb (jgetA 0 2 x0) fun v6 =>
  jb (jgetA 6 0 v5) fun v7 =>
  jb (jcall 3 v6 (f_X4_copy v6 v7)) fun _ =>
  jloop (fun (t : Int32) => X0_back_L47 x0 v5 t) 0
theorem j_X0_back (D : va_G) (dA : Nat → ClassId) (x0 : Nat) : J (PM D dA false) Y_X0_back [(0, .ref x0)] [] 0 (f_X0_back x0) (FRet injI) := by
  unfold f_X0_back
  refine J_aload_n dX0_back_0 rfl 0 rfl ?_
  refine J_getI dX0_back_1 fl_X0_573 rfl (fun v1 => ?_)
  refine J_if_ne (tgt := 14) dX0_back_4 rfl ?_ ?_
  · refine J_aload_n dX0_back_14 rfl 0 rfl ?_
    refine J_dup dX0_back_15 rfl ?_
    refine J_getI dX0_back_16 fl_X0_573 rfl (fun v2 => ?_)
    refine J_iconst (v := 1) dX0_back_19 (by decide) ?_
    refine J_isub dX0_back_20 ?_
    refine J_putI dX0_back_21 ⟨fl_X0_573, Or.inl rfl⟩ rfl ?_
    refine J_aload_n dX0_back_24 rfl 0 rfl ?_
    refine J_getA dX0_back_25 fl_X0_138 rfl (fun v3 => ?_)
    refine J_aload_n dX0_back_28 rfl 0 rfl ?_
    refine J_getI dX0_back_29 fl_X0_573 rfl (fun v4 => ?_)
    refine J_aald dX0_back_32 rfl (by decide) (fun v5 => ?_)
    refine J_astore_n (env' := [(1, .ref v5), (0, .ref x0)]) dX0_back_33 rfl (by decide) rfl ?_
    refine J_aload_n dX0_back_34 rfl 1 rfl ?_
    refine J_getA dX0_back_35 fl_X0_30 rfl (fun v6 => ?_)
    refine J_aload_n dX0_back_38 rfl 0 rfl ?_
    refine J_getA dX0_back_39 fl_X0_576 rfl (fun v7 => ?_)
    refine J_callVV (c := 3) (as := [.ref v7]) dX0_back_42 (by decide) rfl (Nat.le_of_ble_eq_true rfl) (cw_X4_copy _ (by decide)) q939 q940 q941 q942 np_X4_copy (i_X4_copy v6 v7) jad_id rfl ?_
    refine J_iconst (v := 0) dX0_back_45 (by decide) ?_
    refine J_istore_n (env' := [(2, .int 0), (1, .ref v5), (0, .ref x0)]) dX0_back_46 rfl (by decide) rfl ?_
    refine J_loop (he := fun (t : Int32) => [(0, .ref x0), (1, .ref v5), (2, .int t)]) [2, 1, 0] rfl (fun t => ?_)
    exact j_X0_back_L47 D dA x0 v5 t
  refine J_aload_n dX0_back_7 rfl 0 rfl ?_
  refine J_bipush (v := 8) dX0_back_8 (by decide) ?_
  refine J_callVI (c := 0) (as := [.int 8]) dX0_back_10 (by decide) rfl (Nat.le_of_ble_eq_true rfl) (cw_X0_none _ (by decide)) q729 q731 qs3 q732 np_X0_none (i_X0_none x0 8) jad_id rfl (fun v18 => ?_)
  exact J_ireturn dX0_back_13 rfl
theorem i_X0_back (x0 : Nat) : Impl (ws_ yX0_back cX0_back 3 (some .int)) yX0_back 2 false 0 0 [.ref x0] (f_X0_back x0) injI := impl_of (plainFor_of_name (by decide)) (Nat.le_of_ble_eq_true rfl) (fun D dA => j_X0_back D dA x0)
theorem cw_X0_back (Y : JY) (h : 3 ≤ Y.2.2.2.1) : JCw Y (ws_ yX0_back cX0_back 3 (some .int)) yX0_back cX0_back 3 (some .int) 2 := ⟨h, by decide, lw_meth q1465, q187, by decide, by decide⟩
theorem np_X0_back : JNp yX0_back.desc 0 := by decide +kernel
